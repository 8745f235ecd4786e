/-! BentRiver -/
set_option maxRecDepth 100000
def RX0 : String := "BentRiver"
def TX0 : u_T := fun k => match k with
  | 0 => ("BentRiver", "valley", "LBentRiver$Valley;", false)
  | 1 => ("BentRiver", "tape", "[B", true)
  | 2 => ("BentRiver", "taped", "I", false)
  | 3 => ("BentRiver", "faultKind", "I", false)
  | 4 => ("BentRiver", "faultPlace", "I", false)
  | 5 => ("BentRiver", "reader", "LBentRiver$Reader;", true)
  | 6 => ("BentRiver", "moment", "LBentRiver$Moment;", true)
  | 7 => ("BentRiver", "asked", "LBentRiver$Moment;", true)
  | 8 => ("BentRiver", "refused", "[I", true)
  | 9 => ("BentRiver", "now", "LBentRiver$State;", true)
  | 10 => ("BentRiver", "tried", "LBentRiver$State;", true)
  | 11 => ("BentRiver", "works", "[I", true)
  | 12 => ("BentRiver", "hasBy", "[[I", true)
  | 13 => ("BentRiver", "pays", "[[[I", true)
  | 14 => ("BentRiver", "course", "[I", true)
  | 15 => ("BentRiver", "rowSeason", "[I", true)
  | 16 => ("BentRiver", "rowColumn", "[I", true)
  | 17 => ("BentRiver", "rowRow", "[I", true)
  | 18 => ("BentRiver", "rows", "I", false)
  | 19 => ("BentRiver", "rowsBy", "[[I", true)
  | 20 => ("BentRiver", "kept", "[LBentRiver$State;", true)
  | 21 => ("BentRiver", "undos", "I", false)
  | 22 => ("BentRiver", "seeds", "J", false)
  | 23 => ("BentRiver", "out", "[B", true)
  | _ => ("BentRiver", "outs", "I", false)
def tyX0 : Nat → FieldType := fun k => match k with
  | 0 => .object "BentRiver$Valley"
  | 1 => .array .byte
  | 2 => .int
  | 3 => .int
  | 4 => .int
  | 5 => .object "BentRiver$Reader"
  | 6 => .object "BentRiver$Moment"
  | 7 => .object "BentRiver$Moment"
  | 8 => .array .int
  | 9 => .object "BentRiver$State"
  | 10 => .object "BentRiver$State"
  | 11 => .array .int
  | 12 => .array (.array .int)
  | 13 => .array (.array (.array .int))
  | 14 => .array .int
  | 15 => .array .int
  | 16 => .array .int
  | 17 => .array .int
  | 18 => .int
  | 19 => .array (.array .int)
  | 20 => .array (.object "BentRiver$State")
  | 21 => .int
  | 22 => .long
  | 23 => .array .byte
  | _ => .int
abbrev wsX00 : List Cond := u_ws RX0 TX0 25
set_option maxRecDepth 100000 in
theorem nmX0 : ∀ a, a < 25 → ∀ b, b < 25 → a ≠ b → (TX0 a).2.1 ≠ (TX0 b).2.1 := by decide +kernel
set_option maxRecDepth 100000 in
theorem tyX0_ok : ∀ k, k < 25 → parseFieldDescriptor (TX0 k).2.2.1 = some (tyX0 k) := by decide +kernel
abbrev cX0_init : ByteArray := prog_1_method_7_code
def yX0_init : MethodName := ⟨RX0, "<init>", "()V"⟩
def dkwX0_init_9 : List UInt8 := [181, 0, 108, 42, 17, 0, 191, 188, 8, 181, 0, 112, 177]
abbrev dktX0_init_9 : List UInt8 := dkwX0_init_9 ++ []
def dkwX0_init_8 : List UInt8 := [42, 180, 0, 104, 27, 187, 0, 66, 89, 42, 183, 0, 68, 83, 132, 1, 1, 167, 255, 233, 42, 10]
abbrev dktX0_init_8 : List UInt8 := dkwX0_init_8 ++ dktX0_init_9
def dkwX0_init_7 : List UInt8 := [197, 0, 79, 2, 181, 0, 101, 42, 16, 20, 189, 0, 66, 181, 0, 104, 3, 60, 27, 16, 20, 162, 0, 23]
abbrev dktX0_init_7 : List UInt8 := dkwX0_init_7 ++ dktX0_init_8
def dkwX0_init_6 : List UInt8 := [181, 0, 92, 42, 16, 16, 188, 10, 181, 0, 95, 42, 16, 16, 188, 10, 181, 0, 98, 42, 16, 8, 16, 31]
abbrev dktX0_init_6 : List UInt8 := dkwX0_init_6 ++ dktX0_init_7
def dkwX0_init_5 : List UInt8 := [16, 8, 16, 8, 197, 0, 84, 3, 181, 0, 86, 42, 16, 10, 188, 10, 181, 0, 89, 42, 16, 16, 188, 10]
abbrev dktX0_init_5 : List UInt8 := dkwX0_init_5 ++ dktX0_init_6
def dkwX0_init_4 : List UInt8 := [181, 0, 73, 42, 5, 188, 10, 181, 0, 76, 42, 16, 32, 8, 197, 0, 79, 2, 181, 0, 81, 42, 16, 10]
abbrev dktX0_init_4 : List UInt8 := dkwX0_init_4 ++ dktX0_init_5
def dkwX0_init_3 : List UInt8 := [181, 0, 62, 42, 187, 0, 66, 89, 42, 183, 0, 68, 181, 0, 69, 42, 187, 0, 66, 89, 42, 183, 0, 68]
abbrev dktX0_init_3 : List UInt8 := dkwX0_init_3 ++ dktX0_init_4
def dkwX0_init_2 : List UInt8 := [183, 0, 54, 181, 0, 55, 42, 187, 0, 52, 89, 183, 0, 54, 181, 0, 59, 42, 16, 6, 188, 10]
abbrev dktX0_init_2 : List UInt8 := dkwX0_init_2 ++ dktX0_init_3
def dkwX0_init_1 : List UInt8 := [42, 2, 181, 0, 39, 42, 187, 0, 43, 89, 42, 183, 0, 45, 181, 0, 48, 42, 187, 0, 52, 89]
abbrev dktX0_init_1 : List UInt8 := dkwX0_init_1 ++ dktX0_init_2
def dkwX0_init_0 : List UInt8 := [42, 183, 0, 22, 42, 187, 0, 28, 89, 183, 0, 30, 181, 0, 31, 42, 17, 6, 64, 188, 8, 181, 0, 35]
abbrev dktX0_init_0 : List UInt8 := dkwX0_init_0 ++ dktX0_init_1
theorem dksX0_init_0 : cX0_init.data.toList.drop 0 = dktX0_init_0 := by decide +kernel
theorem dksX0_init_1 : cX0_init.data.toList.drop 24 = dktX0_init_1 := dk_seg dksX0_init_0 24 rfl rfl
theorem dksX0_init_2 : cX0_init.data.toList.drop 46 = dktX0_init_2 := dk_seg dksX0_init_1 22 rfl rfl
theorem dksX0_init_3 : cX0_init.data.toList.drop 68 = dktX0_init_3 := dk_seg dksX0_init_2 22 rfl rfl
theorem dksX0_init_4 : cX0_init.data.toList.drop 92 = dktX0_init_4 := dk_seg dksX0_init_3 24 rfl rfl
theorem dksX0_init_5 : cX0_init.data.toList.drop 116 = dktX0_init_5 := dk_seg dksX0_init_4 24 rfl rfl
theorem dksX0_init_6 : cX0_init.data.toList.drop 140 = dktX0_init_6 := dk_seg dksX0_init_5 24 rfl rfl
theorem dksX0_init_7 : cX0_init.data.toList.drop 164 = dktX0_init_7 := dk_seg dksX0_init_6 24 rfl rfl
theorem dksX0_init_8 : cX0_init.data.toList.drop 188 = dktX0_init_8 := dk_seg dksX0_init_7 24 rfl rfl
theorem dksX0_init_9 : cX0_init.data.toList.drop 210 = dktX0_init_9 := dk_seg dksX0_init_8 22 rfl rfl
theorem dX0_init_0 : decode cX0_init 0 = .ok (.aload_n 0, 1) := dk_42 (dk_at dksX0_init_0 0 rfl rfl)
theorem dX0_init_1 : decode cX0_init 1 = .ok (.invokespecial 22, 3) := dk_183 0 22 (dk_at dksX0_init_0 1 rfl rfl)
theorem dX0_init_4 : decode cX0_init 4 = .ok (.aload_n 0, 1) := dk_42 (dk_at dksX0_init_0 4 rfl rfl)
theorem dX0_init_5 : decode cX0_init 5 = .ok (.new 28, 3) := dk_187 0 28 (dk_at dksX0_init_0 5 rfl rfl)
theorem dX0_init_8 : decode cX0_init 8 = .ok (.dup, 1) := dk_89 (dk_at dksX0_init_0 8 rfl rfl)
theorem dX0_init_9 : decode cX0_init 9 = .ok (.invokespecial 30, 3) := dk_183 0 30 (dk_at dksX0_init_0 9 rfl rfl)
theorem dX0_init_12 : decode cX0_init 12 = .ok (.putfield 31, 3) := dk_181 0 31 (dk_at dksX0_init_0 12 rfl rfl)
theorem dX0_init_15 : decode cX0_init 15 = .ok (.aload_n 0, 1) := dk_42 (dk_at dksX0_init_0 15 rfl rfl)
theorem dX0_init_16 : decode cX0_init 16 = .ok (.sipush 1600, 3) := dk_17 6 64 (dk_at dksX0_init_0 16 rfl rfl)
theorem dX0_init_19 : decode cX0_init 19 = .ok (.newarray .byte, 2) := dk_188_8 (dk_at dksX0_init_0 19 rfl rfl)
theorem dX0_init_21 : decode cX0_init 21 = .ok (.putfield 35, 3) := dk_181 0 35 (dk_at dksX0_init_0 21 rfl rfl)
theorem dX0_init_24 : decode cX0_init 24 = .ok (.aload_n 0, 1) := dk_42 (dk_at dksX0_init_1 0 rfl rfl)
theorem dX0_init_25 : decode cX0_init 25 = .ok (.iconst (-1), 1) := dk_2 (dk_at dksX0_init_1 1 rfl rfl)
theorem dX0_init_26 : decode cX0_init 26 = .ok (.putfield 39, 3) := dk_181 0 39 (dk_at dksX0_init_1 2 rfl rfl)
theorem dX0_init_29 : decode cX0_init 29 = .ok (.aload_n 0, 1) := dk_42 (dk_at dksX0_init_1 5 rfl rfl)
theorem dX0_init_30 : decode cX0_init 30 = .ok (.new 43, 3) := dk_187 0 43 (dk_at dksX0_init_1 6 rfl rfl)
theorem dX0_init_33 : decode cX0_init 33 = .ok (.dup, 1) := dk_89 (dk_at dksX0_init_1 9 rfl rfl)
theorem dX0_init_34 : decode cX0_init 34 = .ok (.aload_n 0, 1) := dk_42 (dk_at dksX0_init_1 10 rfl rfl)
theorem dX0_init_35 : decode cX0_init 35 = .ok (.invokespecial 45, 3) := dk_183 0 45 (dk_at dksX0_init_1 11 rfl rfl)
theorem dX0_init_38 : decode cX0_init 38 = .ok (.putfield 48, 3) := dk_181 0 48 (dk_at dksX0_init_1 14 rfl rfl)
theorem dX0_init_41 : decode cX0_init 41 = .ok (.aload_n 0, 1) := dk_42 (dk_at dksX0_init_1 17 rfl rfl)
theorem dX0_init_42 : decode cX0_init 42 = .ok (.new 52, 3) := dk_187 0 52 (dk_at dksX0_init_1 18 rfl rfl)
theorem dX0_init_45 : decode cX0_init 45 = .ok (.dup, 1) := dk_89 (dk_at dksX0_init_1 21 rfl rfl)
theorem dX0_init_46 : decode cX0_init 46 = .ok (.invokespecial 54, 3) := dk_183 0 54 (dk_at dksX0_init_2 0 rfl rfl)
theorem dX0_init_49 : decode cX0_init 49 = .ok (.putfield 55, 3) := dk_181 0 55 (dk_at dksX0_init_2 3 rfl rfl)
theorem dX0_init_52 : decode cX0_init 52 = .ok (.aload_n 0, 1) := dk_42 (dk_at dksX0_init_2 6 rfl rfl)
theorem dX0_init_53 : decode cX0_init 53 = .ok (.new 52, 3) := dk_187 0 52 (dk_at dksX0_init_2 7 rfl rfl)
theorem dX0_init_56 : decode cX0_init 56 = .ok (.dup, 1) := dk_89 (dk_at dksX0_init_2 10 rfl rfl)
theorem dX0_init_57 : decode cX0_init 57 = .ok (.invokespecial 54, 3) := dk_183 0 54 (dk_at dksX0_init_2 11 rfl rfl)
theorem dX0_init_60 : decode cX0_init 60 = .ok (.putfield 59, 3) := dk_181 0 59 (dk_at dksX0_init_2 14 rfl rfl)
theorem dX0_init_63 : decode cX0_init 63 = .ok (.aload_n 0, 1) := dk_42 (dk_at dksX0_init_2 17 rfl rfl)
theorem dX0_init_64 : decode cX0_init 64 = .ok (.bipush 6, 2) := dk_16 6 (dk_at dksX0_init_2 18 rfl rfl)
theorem dX0_init_66 : decode cX0_init 66 = .ok (.newarray .int, 2) := dk_188_10 (dk_at dksX0_init_2 20 rfl rfl)
theorem dX0_init_68 : decode cX0_init 68 = .ok (.putfield 62, 3) := dk_181 0 62 (dk_at dksX0_init_3 0 rfl rfl)
theorem dX0_init_71 : decode cX0_init 71 = .ok (.aload_n 0, 1) := dk_42 (dk_at dksX0_init_3 3 rfl rfl)
theorem dX0_init_72 : decode cX0_init 72 = .ok (.new 66, 3) := dk_187 0 66 (dk_at dksX0_init_3 4 rfl rfl)
theorem dX0_init_75 : decode cX0_init 75 = .ok (.dup, 1) := dk_89 (dk_at dksX0_init_3 7 rfl rfl)
theorem dX0_init_76 : decode cX0_init 76 = .ok (.aload_n 0, 1) := dk_42 (dk_at dksX0_init_3 8 rfl rfl)
theorem dX0_init_77 : decode cX0_init 77 = .ok (.invokespecial 68, 3) := dk_183 0 68 (dk_at dksX0_init_3 9 rfl rfl)
theorem dX0_init_80 : decode cX0_init 80 = .ok (.putfield 69, 3) := dk_181 0 69 (dk_at dksX0_init_3 12 rfl rfl)
theorem dX0_init_83 : decode cX0_init 83 = .ok (.aload_n 0, 1) := dk_42 (dk_at dksX0_init_3 15 rfl rfl)
theorem dX0_init_84 : decode cX0_init 84 = .ok (.new 66, 3) := dk_187 0 66 (dk_at dksX0_init_3 16 rfl rfl)
theorem dX0_init_87 : decode cX0_init 87 = .ok (.dup, 1) := dk_89 (dk_at dksX0_init_3 19 rfl rfl)
theorem dX0_init_88 : decode cX0_init 88 = .ok (.aload_n 0, 1) := dk_42 (dk_at dksX0_init_3 20 rfl rfl)
theorem dX0_init_89 : decode cX0_init 89 = .ok (.invokespecial 68, 3) := dk_183 0 68 (dk_at dksX0_init_3 21 rfl rfl)
theorem dX0_init_92 : decode cX0_init 92 = .ok (.putfield 73, 3) := dk_181 0 73 (dk_at dksX0_init_4 0 rfl rfl)
theorem dX0_init_95 : decode cX0_init 95 = .ok (.aload_n 0, 1) := dk_42 (dk_at dksX0_init_4 3 rfl rfl)
theorem dX0_init_96 : decode cX0_init 96 = .ok (.iconst 2, 1) := dk_5 (dk_at dksX0_init_4 4 rfl rfl)
theorem dX0_init_97 : decode cX0_init 97 = .ok (.newarray .int, 2) := dk_188_10 (dk_at dksX0_init_4 5 rfl rfl)
theorem dX0_init_99 : decode cX0_init 99 = .ok (.putfield 76, 3) := dk_181 0 76 (dk_at dksX0_init_4 7 rfl rfl)
theorem dX0_init_102 : decode cX0_init 102 = .ok (.aload_n 0, 1) := dk_42 (dk_at dksX0_init_4 10 rfl rfl)
theorem dX0_init_103 : decode cX0_init 103 = .ok (.bipush 32, 2) := dk_16 32 (dk_at dksX0_init_4 11 rfl rfl)
theorem dX0_init_105 : decode cX0_init 105 = .ok (.iconst 5, 1) := dk_8 (dk_at dksX0_init_4 13 rfl rfl)
theorem dX0_init_106 : decode cX0_init 106 = .ok (.multianewarray 79 2, 4) := by decide +kernel
theorem dX0_init_110 : decode cX0_init 110 = .ok (.putfield 81, 3) := dk_181 0 81 (dk_at dksX0_init_4 18 rfl rfl)
theorem dX0_init_113 : decode cX0_init 113 = .ok (.aload_n 0, 1) := dk_42 (dk_at dksX0_init_4 21 rfl rfl)
theorem dX0_init_114 : decode cX0_init 114 = .ok (.bipush 10, 2) := dk_16 10 (dk_at dksX0_init_4 22 rfl rfl)
theorem dX0_init_116 : decode cX0_init 116 = .ok (.bipush 8, 2) := dk_16 8 (dk_at dksX0_init_5 0 rfl rfl)
theorem dX0_init_118 : decode cX0_init 118 = .ok (.bipush 8, 2) := dk_16 8 (dk_at dksX0_init_5 2 rfl rfl)
theorem dX0_init_120 : decode cX0_init 120 = .ok (.multianewarray 84 3, 4) := by decide +kernel
theorem dX0_init_124 : decode cX0_init 124 = .ok (.putfield 86, 3) := dk_181 0 86 (dk_at dksX0_init_5 8 rfl rfl)
theorem dX0_init_127 : decode cX0_init 127 = .ok (.aload_n 0, 1) := dk_42 (dk_at dksX0_init_5 11 rfl rfl)
theorem dX0_init_128 : decode cX0_init 128 = .ok (.bipush 10, 2) := dk_16 10 (dk_at dksX0_init_5 12 rfl rfl)
theorem dX0_init_130 : decode cX0_init 130 = .ok (.newarray .int, 2) := dk_188_10 (dk_at dksX0_init_5 14 rfl rfl)
theorem dX0_init_132 : decode cX0_init 132 = .ok (.putfield 89, 3) := dk_181 0 89 (dk_at dksX0_init_5 16 rfl rfl)
theorem dX0_init_135 : decode cX0_init 135 = .ok (.aload_n 0, 1) := dk_42 (dk_at dksX0_init_5 19 rfl rfl)
theorem dX0_init_136 : decode cX0_init 136 = .ok (.bipush 16, 2) := dk_16 16 (dk_at dksX0_init_5 20 rfl rfl)
theorem dX0_init_138 : decode cX0_init 138 = .ok (.newarray .int, 2) := dk_188_10 (dk_at dksX0_init_5 22 rfl rfl)
theorem dX0_init_140 : decode cX0_init 140 = .ok (.putfield 92, 3) := dk_181 0 92 (dk_at dksX0_init_6 0 rfl rfl)
theorem dX0_init_143 : decode cX0_init 143 = .ok (.aload_n 0, 1) := dk_42 (dk_at dksX0_init_6 3 rfl rfl)
theorem dX0_init_144 : decode cX0_init 144 = .ok (.bipush 16, 2) := dk_16 16 (dk_at dksX0_init_6 4 rfl rfl)
theorem dX0_init_146 : decode cX0_init 146 = .ok (.newarray .int, 2) := dk_188_10 (dk_at dksX0_init_6 6 rfl rfl)
theorem dX0_init_148 : decode cX0_init 148 = .ok (.putfield 95, 3) := dk_181 0 95 (dk_at dksX0_init_6 8 rfl rfl)
theorem dX0_init_151 : decode cX0_init 151 = .ok (.aload_n 0, 1) := dk_42 (dk_at dksX0_init_6 11 rfl rfl)
theorem dX0_init_152 : decode cX0_init 152 = .ok (.bipush 16, 2) := dk_16 16 (dk_at dksX0_init_6 12 rfl rfl)
theorem dX0_init_154 : decode cX0_init 154 = .ok (.newarray .int, 2) := dk_188_10 (dk_at dksX0_init_6 14 rfl rfl)
theorem dX0_init_156 : decode cX0_init 156 = .ok (.putfield 98, 3) := dk_181 0 98 (dk_at dksX0_init_6 16 rfl rfl)
theorem dX0_init_159 : decode cX0_init 159 = .ok (.aload_n 0, 1) := dk_42 (dk_at dksX0_init_6 19 rfl rfl)
theorem dX0_init_160 : decode cX0_init 160 = .ok (.bipush 8, 2) := dk_16 8 (dk_at dksX0_init_6 20 rfl rfl)
theorem dX0_init_162 : decode cX0_init 162 = .ok (.bipush 31, 2) := dk_16 31 (dk_at dksX0_init_6 22 rfl rfl)
theorem dX0_init_164 : decode cX0_init 164 = .ok (.multianewarray 79 2, 4) := by decide +kernel
theorem dX0_init_168 : decode cX0_init 168 = .ok (.putfield 101, 3) := dk_181 0 101 (dk_at dksX0_init_7 4 rfl rfl)
theorem dX0_init_171 : decode cX0_init 171 = .ok (.aload_n 0, 1) := dk_42 (dk_at dksX0_init_7 7 rfl rfl)
theorem dX0_init_172 : decode cX0_init 172 = .ok (.bipush 20, 2) := dk_16 20 (dk_at dksX0_init_7 8 rfl rfl)
theorem dX0_init_174 : decode cX0_init 174 = .ok (.anewarray 66, 3) := dk_189 0 66 (dk_at dksX0_init_7 10 rfl rfl)
theorem dX0_init_177 : decode cX0_init 177 = .ok (.putfield 104, 3) := dk_181 0 104 (dk_at dksX0_init_7 13 rfl rfl)
theorem dX0_init_180 : decode cX0_init 180 = .ok (.iconst 0, 1) := dk_3 (dk_at dksX0_init_7 16 rfl rfl)
theorem dX0_init_181 : decode cX0_init 181 = .ok (.istore_n 1, 1) := dk_60 (dk_at dksX0_init_7 17 rfl rfl)
theorem dX0_init_182 : decode cX0_init 182 = .ok (.iload_n 1, 1) := dk_27 (dk_at dksX0_init_7 18 rfl rfl)
theorem dX0_init_183 : decode cX0_init 183 = .ok (.bipush 20, 2) := dk_16 20 (dk_at dksX0_init_7 19 rfl rfl)
theorem dX0_init_185 : decode cX0_init 185 = .ok (.if_icmp .ge 23, 3) := dk_162 0 23 (dk_at dksX0_init_7 21 rfl rfl)
theorem dX0_init_188 : decode cX0_init 188 = .ok (.aload_n 0, 1) := dk_42 (dk_at dksX0_init_8 0 rfl rfl)
theorem dX0_init_189 : decode cX0_init 189 = .ok (.getfield 104, 3) := dk_180 0 104 (dk_at dksX0_init_8 1 rfl rfl)
theorem dX0_init_192 : decode cX0_init 192 = .ok (.iload_n 1, 1) := dk_27 (dk_at dksX0_init_8 4 rfl rfl)
theorem dX0_init_193 : decode cX0_init 193 = .ok (.new 66, 3) := dk_187 0 66 (dk_at dksX0_init_8 5 rfl rfl)
theorem dX0_init_196 : decode cX0_init 196 = .ok (.dup, 1) := dk_89 (dk_at dksX0_init_8 8 rfl rfl)
theorem dX0_init_197 : decode cX0_init 197 = .ok (.aload_n 0, 1) := dk_42 (dk_at dksX0_init_8 9 rfl rfl)
theorem dX0_init_198 : decode cX0_init 198 = .ok (.invokespecial 68, 3) := dk_183 0 68 (dk_at dksX0_init_8 10 rfl rfl)
theorem dX0_init_201 : decode cX0_init 201 = .ok (.aastore, 1) := dk_83 (dk_at dksX0_init_8 13 rfl rfl)
theorem dX0_init_202 : decode cX0_init 202 = .ok (.iinc 1 1, 3) := dk_132 1 1 (dk_at dksX0_init_8 14 rfl rfl)
theorem dX0_init_205 : decode cX0_init 205 = .ok (.goto (-23), 3) := dk_167 255 233 (dk_at dksX0_init_8 17 rfl rfl)
theorem dX0_init_208 : decode cX0_init 208 = .ok (.aload_n 0, 1) := dk_42 (dk_at dksX0_init_8 20 rfl rfl)
theorem dX0_init_209 : decode cX0_init 209 = .ok (.lconst 1, 1) := dk_10 (dk_at dksX0_init_8 21 rfl rfl)
theorem dX0_init_210 : decode cX0_init 210 = .ok (.putfield 108, 3) := dk_181 0 108 (dk_at dksX0_init_9 0 rfl rfl)
theorem dX0_init_213 : decode cX0_init 213 = .ok (.aload_n 0, 1) := dk_42 (dk_at dksX0_init_9 3 rfl rfl)
theorem dX0_init_214 : decode cX0_init 214 = .ok (.sipush 191, 3) := dk_17 0 191 (dk_at dksX0_init_9 4 rfl rfl)
theorem dX0_init_217 : decode cX0_init 217 = .ok (.newarray .byte, 2) := dk_188_8 (dk_at dksX0_init_9 7 rfl rfl)
theorem dX0_init_219 : decode cX0_init 219 = .ok (.putfield 112, 3) := dk_181 0 112 (dk_at dksX0_init_9 9 rfl rfl)
theorem dX0_init_222 : decode cX0_init 222 = .ok (.return_, 1) := dk_177 (dk_at dksX0_init_9 12 rfl rfl)
abbrev cX0_feed : ByteArray := prog_1_method_10_code
def yX0_feed : MethodName := ⟨RX0, "feed", "(IIIII)I"⟩
def dkwX0_feed_2 : List UInt8 := [180, 0, 115, 172]
abbrev dktX0_feed_2 : List UInt8 := dkwX0_feed_2 ++ []
def dkwX0_feed_1 : List UInt8 := [42, 28, 182, 0, 122, 42, 29, 182, 0, 122, 42, 21, 4, 182, 0, 122, 42, 21, 5, 182, 0, 122, 42]
abbrev dktX0_feed_1 : List UInt8 := dkwX0_feed_1 ++ dktX0_feed_2
def dkwX0_feed_0 : List UInt8 := [42, 180, 0, 115, 16, 20, 96, 17, 6, 64, 164, 0, 9, 42, 3, 182, 0, 118, 172, 42, 27, 182, 0, 122]
abbrev dktX0_feed_0 : List UInt8 := dkwX0_feed_0 ++ dktX0_feed_1
theorem dksX0_feed_0 : cX0_feed.data.toList.drop 0 = dktX0_feed_0 := by decide +kernel
theorem dksX0_feed_1 : cX0_feed.data.toList.drop 24 = dktX0_feed_1 := dk_seg dksX0_feed_0 24 rfl rfl
theorem dksX0_feed_2 : cX0_feed.data.toList.drop 47 = dktX0_feed_2 := dk_seg dksX0_feed_1 23 rfl rfl
theorem dX0_feed_0 : decode cX0_feed 0 = .ok (.aload_n 0, 1) := dk_42 (dk_at dksX0_feed_0 0 rfl rfl)
theorem dX0_feed_1 : decode cX0_feed 1 = .ok (.getfield 115, 3) := dk_180 0 115 (dk_at dksX0_feed_0 1 rfl rfl)
theorem dX0_feed_4 : decode cX0_feed 4 = .ok (.bipush 20, 2) := dk_16 20 (dk_at dksX0_feed_0 4 rfl rfl)
theorem dX0_feed_6 : decode cX0_feed 6 = .ok (.iadd, 1) := dk_96 (dk_at dksX0_feed_0 6 rfl rfl)
theorem dX0_feed_7 : decode cX0_feed 7 = .ok (.sipush 1600, 3) := dk_17 6 64 (dk_at dksX0_feed_0 7 rfl rfl)
theorem dX0_feed_10 : decode cX0_feed 10 = .ok (.if_icmp .le 9, 3) := dk_164 0 9 (dk_at dksX0_feed_0 10 rfl rfl)
theorem dX0_feed_13 : decode cX0_feed 13 = .ok (.aload_n 0, 1) := dk_42 (dk_at dksX0_feed_0 13 rfl rfl)
theorem dX0_feed_14 : decode cX0_feed 14 = .ok (.iconst 0, 1) := dk_3 (dk_at dksX0_feed_0 14 rfl rfl)
theorem dX0_feed_15 : decode cX0_feed 15 = .ok (.invokevirtual 118, 3) := dk_182 0 118 (dk_at dksX0_feed_0 15 rfl rfl)
theorem dX0_feed_18 : decode cX0_feed 18 = .ok (.ireturn, 1) := dk_172 (dk_at dksX0_feed_0 18 rfl rfl)
theorem dX0_feed_19 : decode cX0_feed 19 = .ok (.aload_n 0, 1) := dk_42 (dk_at dksX0_feed_0 19 rfl rfl)
theorem dX0_feed_20 : decode cX0_feed 20 = .ok (.iload_n 1, 1) := dk_27 (dk_at dksX0_feed_0 20 rfl rfl)
theorem dX0_feed_21 : decode cX0_feed 21 = .ok (.invokevirtual 122, 3) := dk_182 0 122 (dk_at dksX0_feed_0 21 rfl rfl)
theorem dX0_feed_24 : decode cX0_feed 24 = .ok (.aload_n 0, 1) := dk_42 (dk_at dksX0_feed_1 0 rfl rfl)
theorem dX0_feed_25 : decode cX0_feed 25 = .ok (.iload_n 2, 1) := dk_28 (dk_at dksX0_feed_1 1 rfl rfl)
theorem dX0_feed_26 : decode cX0_feed 26 = .ok (.invokevirtual 122, 3) := dk_182 0 122 (dk_at dksX0_feed_1 2 rfl rfl)
theorem dX0_feed_29 : decode cX0_feed 29 = .ok (.aload_n 0, 1) := dk_42 (dk_at dksX0_feed_1 5 rfl rfl)
theorem dX0_feed_30 : decode cX0_feed 30 = .ok (.iload_n 3, 1) := dk_29 (dk_at dksX0_feed_1 6 rfl rfl)
theorem dX0_feed_31 : decode cX0_feed 31 = .ok (.invokevirtual 122, 3) := dk_182 0 122 (dk_at dksX0_feed_1 7 rfl rfl)
theorem dX0_feed_34 : decode cX0_feed 34 = .ok (.aload_n 0, 1) := dk_42 (dk_at dksX0_feed_1 10 rfl rfl)
theorem dX0_feed_35 : decode cX0_feed 35 = .ok (.iload 4, 2) := dk_21 4 (dk_at dksX0_feed_1 11 rfl rfl)
theorem dX0_feed_37 : decode cX0_feed 37 = .ok (.invokevirtual 122, 3) := dk_182 0 122 (dk_at dksX0_feed_1 13 rfl rfl)
theorem dX0_feed_40 : decode cX0_feed 40 = .ok (.aload_n 0, 1) := dk_42 (dk_at dksX0_feed_1 16 rfl rfl)
theorem dX0_feed_41 : decode cX0_feed 41 = .ok (.iload 5, 2) := dk_21 5 (dk_at dksX0_feed_1 17 rfl rfl)
theorem dX0_feed_43 : decode cX0_feed 43 = .ok (.invokevirtual 122, 3) := dk_182 0 122 (dk_at dksX0_feed_1 19 rfl rfl)
theorem dX0_feed_46 : decode cX0_feed 46 = .ok (.aload_n 0, 1) := dk_42 (dk_at dksX0_feed_1 22 rfl rfl)
theorem dX0_feed_47 : decode cX0_feed 47 = .ok (.getfield 115, 3) := dk_180 0 115 (dk_at dksX0_feed_2 0 rfl rfl)
theorem dX0_feed_50 : decode cX0_feed 50 = .ok (.ireturn, 1) := dk_172 (dk_at dksX0_feed_2 3 rfl rfl)
abbrev cX0_refuses : ByteArray := prog_1_method_8_code
def yX0_refuses : MethodName := ⟨RX0, "refuses", "(I)I"⟩
def dkwX0_refuses_0 : List UInt8 := [42, 180, 0, 62, 27, 92, 46, 4, 96, 79, 2, 172]
abbrev dktX0_refuses_0 : List UInt8 := dkwX0_refuses_0 ++ []
theorem dksX0_refuses_0 : cX0_refuses.data.toList.drop 0 = dktX0_refuses_0 := by decide +kernel
theorem dX0_refuses_0 : decode cX0_refuses 0 = .ok (.aload_n 0, 1) := dk_42 (dk_at dksX0_refuses_0 0 rfl rfl)
theorem dX0_refuses_1 : decode cX0_refuses 1 = .ok (.getfield 62, 3) := dk_180 0 62 (dk_at dksX0_refuses_0 1 rfl rfl)
theorem dX0_refuses_4 : decode cX0_refuses 4 = .ok (.iload_n 1, 1) := dk_27 (dk_at dksX0_refuses_0 4 rfl rfl)
theorem dX0_refuses_5 : decode cX0_refuses 5 = .ok (.dup2, 1) := dk_92 (dk_at dksX0_refuses_0 5 rfl rfl)
theorem dX0_refuses_6 : decode cX0_refuses 6 = .ok (.iaload, 1) := dk_46 (dk_at dksX0_refuses_0 6 rfl rfl)
theorem dX0_refuses_7 : decode cX0_refuses 7 = .ok (.iconst 1, 1) := dk_4 (dk_at dksX0_refuses_0 7 rfl rfl)
theorem dX0_refuses_8 : decode cX0_refuses 8 = .ok (.iadd, 1) := dk_96 (dk_at dksX0_refuses_0 8 rfl rfl)
theorem dX0_refuses_9 : decode cX0_refuses 9 = .ok (.iastore, 1) := dk_79 (dk_at dksX0_refuses_0 9 rfl rfl)
theorem dX0_refuses_10 : decode cX0_refuses 10 = .ok (.iconst (-1), 1) := dk_2 (dk_at dksX0_refuses_0 10 rfl rfl)
theorem dX0_refuses_11 : decode cX0_refuses 11 = .ok (.ireturn, 1) := dk_172 (dk_at dksX0_refuses_0 11 rfl rfl)
abbrev cX0_put : ByteArray := prog_1_method_9_code
def yX0_put : MethodName := ⟨RX0, "put", "(I)V"⟩
def dkwX0_put_1 : List UInt8 := [122, 145, 84, 132, 2, 248, 167, 255, 229, 177]
abbrev dktX0_put_1 : List UInt8 := dkwX0_put_1 ++ []
def dkwX0_put_0 : List UInt8 := [16, 24, 61, 28, 155, 0, 29, 42, 180, 0, 35, 42, 89, 180, 0, 115, 90, 4, 96, 181, 0, 115, 27, 28]
abbrev dktX0_put_0 : List UInt8 := dkwX0_put_0 ++ dktX0_put_1
theorem dksX0_put_0 : cX0_put.data.toList.drop 0 = dktX0_put_0 := by decide +kernel
theorem dksX0_put_1 : cX0_put.data.toList.drop 24 = dktX0_put_1 := dk_seg dksX0_put_0 24 rfl rfl
theorem dX0_put_0 : decode cX0_put 0 = .ok (.bipush 24, 2) := dk_16 24 (dk_at dksX0_put_0 0 rfl rfl)
theorem dX0_put_2 : decode cX0_put 2 = .ok (.istore_n 2, 1) := dk_61 (dk_at dksX0_put_0 2 rfl rfl)
theorem dX0_put_3 : decode cX0_put 3 = .ok (.iload_n 2, 1) := dk_28 (dk_at dksX0_put_0 3 rfl rfl)
theorem dX0_put_4 : decode cX0_put 4 = .ok (.ifCond .lt 29, 3) := dk_155 0 29 (dk_at dksX0_put_0 4 rfl rfl)
theorem dX0_put_7 : decode cX0_put 7 = .ok (.aload_n 0, 1) := dk_42 (dk_at dksX0_put_0 7 rfl rfl)
theorem dX0_put_8 : decode cX0_put 8 = .ok (.getfield 35, 3) := dk_180 0 35 (dk_at dksX0_put_0 8 rfl rfl)
theorem dX0_put_11 : decode cX0_put 11 = .ok (.aload_n 0, 1) := dk_42 (dk_at dksX0_put_0 11 rfl rfl)
theorem dX0_put_12 : decode cX0_put 12 = .ok (.dup, 1) := dk_89 (dk_at dksX0_put_0 12 rfl rfl)
theorem dX0_put_13 : decode cX0_put 13 = .ok (.getfield 115, 3) := dk_180 0 115 (dk_at dksX0_put_0 13 rfl rfl)
theorem dX0_put_16 : decode cX0_put 16 = .ok (.dup_x1, 1) := dk_90 (dk_at dksX0_put_0 16 rfl rfl)
theorem dX0_put_17 : decode cX0_put 17 = .ok (.iconst 1, 1) := dk_4 (dk_at dksX0_put_0 17 rfl rfl)
theorem dX0_put_18 : decode cX0_put 18 = .ok (.iadd, 1) := dk_96 (dk_at dksX0_put_0 18 rfl rfl)
theorem dX0_put_19 : decode cX0_put 19 = .ok (.putfield 115, 3) := dk_181 0 115 (dk_at dksX0_put_0 19 rfl rfl)
theorem dX0_put_22 : decode cX0_put 22 = .ok (.iload_n 1, 1) := dk_27 (dk_at dksX0_put_0 22 rfl rfl)
theorem dX0_put_23 : decode cX0_put 23 = .ok (.iload_n 2, 1) := dk_28 (dk_at dksX0_put_0 23 rfl rfl)
theorem dX0_put_24 : decode cX0_put 24 = .ok (.ishr, 1) := dk_122 (dk_at dksX0_put_1 0 rfl rfl)
theorem dX0_put_25 : decode cX0_put 25 = .ok (.i2b, 1) := dk_145 (dk_at dksX0_put_1 1 rfl rfl)
theorem dX0_put_26 : decode cX0_put 26 = .ok (.bastore, 1) := dk_84 (dk_at dksX0_put_1 2 rfl rfl)
theorem dX0_put_27 : decode cX0_put 27 = .ok (.iinc 2 (-8), 3) := dk_132 2 248 (dk_at dksX0_put_1 3 rfl rfl)
theorem dX0_put_30 : decode cX0_put 30 = .ok (.goto (-27), 3) := dk_167 255 229 (dk_at dksX0_put_1 6 rfl rfl)
theorem dX0_put_33 : decode cX0_put 33 = .ok (.return_, 1) := dk_177 (dk_at dksX0_put_1 9 rfl rfl)
abbrev cX0_end : ByteArray := prog_1_method_11_code
def yX0_end : MethodName := ⟨RX0, "end", "(I)Z"⟩
def dkwX0_end_1 : List UInt8 := [3, 172, 42, 27, 181, 0, 115, 4, 172]
abbrev dktX0_end_1 : List UInt8 := dkwX0_end_1 ++ []
def dkwX0_end_0 : List UInt8 := [27, 155, 0, 11, 27, 42, 180, 0, 115, 164, 0, 17, 42, 3, 182, 0, 118, 155, 0, 7, 4, 167, 0, 4]
abbrev dktX0_end_0 : List UInt8 := dkwX0_end_0 ++ dktX0_end_1
theorem dksX0_end_0 : cX0_end.data.toList.drop 0 = dktX0_end_0 := by decide +kernel
theorem dksX0_end_1 : cX0_end.data.toList.drop 24 = dktX0_end_1 := dk_seg dksX0_end_0 24 rfl rfl
theorem dX0_end_0 : decode cX0_end 0 = .ok (.iload_n 1, 1) := dk_27 (dk_at dksX0_end_0 0 rfl rfl)
theorem dX0_end_1 : decode cX0_end 1 = .ok (.ifCond .lt 11, 3) := dk_155 0 11 (dk_at dksX0_end_0 1 rfl rfl)
theorem dX0_end_4 : decode cX0_end 4 = .ok (.iload_n 1, 1) := dk_27 (dk_at dksX0_end_0 4 rfl rfl)
theorem dX0_end_5 : decode cX0_end 5 = .ok (.aload_n 0, 1) := dk_42 (dk_at dksX0_end_0 5 rfl rfl)
theorem dX0_end_6 : decode cX0_end 6 = .ok (.getfield 115, 3) := dk_180 0 115 (dk_at dksX0_end_0 6 rfl rfl)
theorem dX0_end_9 : decode cX0_end 9 = .ok (.if_icmp .le 17, 3) := dk_164 0 17 (dk_at dksX0_end_0 9 rfl rfl)
theorem dX0_end_12 : decode cX0_end 12 = .ok (.aload_n 0, 1) := dk_42 (dk_at dksX0_end_0 12 rfl rfl)
theorem dX0_end_13 : decode cX0_end 13 = .ok (.iconst 0, 1) := dk_3 (dk_at dksX0_end_0 13 rfl rfl)
theorem dX0_end_14 : decode cX0_end 14 = .ok (.invokevirtual 118, 3) := dk_182 0 118 (dk_at dksX0_end_0 14 rfl rfl)
theorem dX0_end_17 : decode cX0_end 17 = .ok (.ifCond .lt 7, 3) := dk_155 0 7 (dk_at dksX0_end_0 17 rfl rfl)
theorem dX0_end_20 : decode cX0_end 20 = .ok (.iconst 1, 1) := dk_4 (dk_at dksX0_end_0 20 rfl rfl)
theorem dX0_end_21 : decode cX0_end 21 = .ok (.goto 4, 3) := dk_167 0 4 (dk_at dksX0_end_0 21 rfl rfl)
theorem dX0_end_24 : decode cX0_end 24 = .ok (.iconst 0, 1) := dk_3 (dk_at dksX0_end_1 0 rfl rfl)
theorem dX0_end_25 : decode cX0_end 25 = .ok (.ireturn, 1) := dk_172 (dk_at dksX0_end_1 1 rfl rfl)
theorem dX0_end_26 : decode cX0_end 26 = .ok (.aload_n 0, 1) := dk_42 (dk_at dksX0_end_1 2 rfl rfl)
theorem dX0_end_27 : decode cX0_end 27 = .ok (.iload_n 1, 1) := dk_27 (dk_at dksX0_end_1 3 rfl rfl)
theorem dX0_end_28 : decode cX0_end 28 = .ok (.putfield 115, 3) := dk_181 0 115 (dk_at dksX0_end_1 4 rfl rfl)
theorem dX0_end_31 : decode cX0_end 31 = .ok (.iconst 1, 1) := dk_4 (dk_at dksX0_end_1 7 rfl rfl)
theorem dX0_end_32 : decode cX0_end 32 = .ok (.ireturn, 1) := dk_172 (dk_at dksX0_end_1 8 rfl rfl)
abbrev cX0_valley : ByteArray := prog_1_method_13_code
def yX0_valley : MethodName := ⟨RX0, "valley", "()I"⟩
def dkwX0_valley_3 : List UInt8 := [180, 0, 31, 180, 0, 154, 172]
abbrev dktX0_valley_3 : List UInt8 := dkwX0_valley_3 ++ []
def dkwX0_valley_2 : List UInt8 := [4, 182, 0, 118, 172, 42, 180, 0, 69, 182, 0, 145, 42, 3, 181, 0, 148, 42, 3, 181, 0, 151, 42]
abbrev dktX0_valley_2 : List UInt8 := dkwX0_valley_2 ++ dktX0_valley_3
def dkwX0_valley_1 : List UInt8 := [181, 0, 31, 167, 0, 26, 76, 42, 43, 180, 0, 139, 181, 0, 126, 42, 43, 180, 0, 142, 181, 0, 39, 42]
abbrev dktX0_valley_1 : List UInt8 := dkwX0_valley_1 ++ dktX0_valley_2
def dkwX0_valley_0 : List UInt8 := [42, 3, 181, 0, 126, 42, 2, 181, 0, 39, 42, 42, 180, 0, 48, 42, 182, 0, 129, 182, 0, 133]
abbrev dktX0_valley_0 : List UInt8 := dkwX0_valley_0 ++ dktX0_valley_1
theorem dksX0_valley_0 : cX0_valley.data.toList.drop 0 = dktX0_valley_0 := by decide +kernel
theorem dksX0_valley_1 : cX0_valley.data.toList.drop 22 = dktX0_valley_1 := dk_seg dksX0_valley_0 22 rfl rfl
theorem dksX0_valley_2 : cX0_valley.data.toList.drop 46 = dktX0_valley_2 := dk_seg dksX0_valley_1 24 rfl rfl
theorem dksX0_valley_3 : cX0_valley.data.toList.drop 69 = dktX0_valley_3 := dk_seg dksX0_valley_2 23 rfl rfl
theorem dX0_valley_0 : decode cX0_valley 0 = .ok (.aload_n 0, 1) := dk_42 (dk_at dksX0_valley_0 0 rfl rfl)
theorem dX0_valley_1 : decode cX0_valley 1 = .ok (.iconst 0, 1) := dk_3 (dk_at dksX0_valley_0 1 rfl rfl)
theorem dX0_valley_2 : decode cX0_valley 2 = .ok (.putfield 126, 3) := dk_181 0 126 (dk_at dksX0_valley_0 2 rfl rfl)
theorem dX0_valley_5 : decode cX0_valley 5 = .ok (.aload_n 0, 1) := dk_42 (dk_at dksX0_valley_0 5 rfl rfl)
theorem dX0_valley_6 : decode cX0_valley 6 = .ok (.iconst (-1), 1) := dk_2 (dk_at dksX0_valley_0 6 rfl rfl)
theorem dX0_valley_7 : decode cX0_valley 7 = .ok (.putfield 39, 3) := dk_181 0 39 (dk_at dksX0_valley_0 7 rfl rfl)
theorem dX0_valley_10 : decode cX0_valley 10 = .ok (.aload_n 0, 1) := dk_42 (dk_at dksX0_valley_0 10 rfl rfl)
theorem dX0_valley_11 : decode cX0_valley 11 = .ok (.aload_n 0, 1) := dk_42 (dk_at dksX0_valley_0 11 rfl rfl)
theorem dX0_valley_12 : decode cX0_valley 12 = .ok (.getfield 48, 3) := dk_180 0 48 (dk_at dksX0_valley_0 12 rfl rfl)
theorem dX0_valley_15 : decode cX0_valley 15 = .ok (.aload_n 0, 1) := dk_42 (dk_at dksX0_valley_0 15 rfl rfl)
theorem dX0_valley_16 : decode cX0_valley 16 = .ok (.invokevirtual 129, 3) := dk_182 0 129 (dk_at dksX0_valley_0 16 rfl rfl)
theorem dX0_valley_19 : decode cX0_valley 19 = .ok (.invokevirtual 133, 3) := dk_182 0 133 (dk_at dksX0_valley_0 19 rfl rfl)
theorem dX0_valley_22 : decode cX0_valley 22 = .ok (.putfield 31, 3) := dk_181 0 31 (dk_at dksX0_valley_1 0 rfl rfl)
theorem dX0_valley_25 : decode cX0_valley 25 = .ok (.goto 26, 3) := dk_167 0 26 (dk_at dksX0_valley_1 3 rfl rfl)
theorem dX0_valley_28 : decode cX0_valley 28 = .ok (.astore_n 1, 1) := dk_76 (dk_at dksX0_valley_1 6 rfl rfl)
theorem dX0_valley_29 : decode cX0_valley 29 = .ok (.aload_n 0, 1) := dk_42 (dk_at dksX0_valley_1 7 rfl rfl)
theorem dX0_valley_30 : decode cX0_valley 30 = .ok (.aload_n 1, 1) := dk_43 (dk_at dksX0_valley_1 8 rfl rfl)
theorem dX0_valley_31 : decode cX0_valley 31 = .ok (.getfield 139, 3) := dk_180 0 139 (dk_at dksX0_valley_1 9 rfl rfl)
theorem dX0_valley_34 : decode cX0_valley 34 = .ok (.putfield 126, 3) := dk_181 0 126 (dk_at dksX0_valley_1 12 rfl rfl)
theorem dX0_valley_37 : decode cX0_valley 37 = .ok (.aload_n 0, 1) := dk_42 (dk_at dksX0_valley_1 15 rfl rfl)
theorem dX0_valley_38 : decode cX0_valley 38 = .ok (.aload_n 1, 1) := dk_43 (dk_at dksX0_valley_1 16 rfl rfl)
theorem dX0_valley_39 : decode cX0_valley 39 = .ok (.getfield 142, 3) := dk_180 0 142 (dk_at dksX0_valley_1 17 rfl rfl)
theorem dX0_valley_42 : decode cX0_valley 42 = .ok (.putfield 39, 3) := dk_181 0 39 (dk_at dksX0_valley_1 20 rfl rfl)
theorem dX0_valley_45 : decode cX0_valley 45 = .ok (.aload_n 0, 1) := dk_42 (dk_at dksX0_valley_1 23 rfl rfl)
theorem dX0_valley_46 : decode cX0_valley 46 = .ok (.iconst 1, 1) := dk_4 (dk_at dksX0_valley_2 0 rfl rfl)
theorem dX0_valley_47 : decode cX0_valley 47 = .ok (.invokevirtual 118, 3) := dk_182 0 118 (dk_at dksX0_valley_2 1 rfl rfl)
theorem dX0_valley_50 : decode cX0_valley 50 = .ok (.ireturn, 1) := dk_172 (dk_at dksX0_valley_2 4 rfl rfl)
theorem dX0_valley_51 : decode cX0_valley 51 = .ok (.aload_n 0, 1) := dk_42 (dk_at dksX0_valley_2 5 rfl rfl)
theorem dX0_valley_52 : decode cX0_valley 52 = .ok (.getfield 69, 3) := dk_180 0 69 (dk_at dksX0_valley_2 6 rfl rfl)
theorem dX0_valley_55 : decode cX0_valley 55 = .ok (.invokevirtual 145, 3) := dk_182 0 145 (dk_at dksX0_valley_2 9 rfl rfl)
theorem dX0_valley_58 : decode cX0_valley 58 = .ok (.aload_n 0, 1) := dk_42 (dk_at dksX0_valley_2 12 rfl rfl)
theorem dX0_valley_59 : decode cX0_valley 59 = .ok (.iconst 0, 1) := dk_3 (dk_at dksX0_valley_2 13 rfl rfl)
theorem dX0_valley_60 : decode cX0_valley 60 = .ok (.putfield 148, 3) := dk_181 0 148 (dk_at dksX0_valley_2 14 rfl rfl)
theorem dX0_valley_63 : decode cX0_valley 63 = .ok (.aload_n 0, 1) := dk_42 (dk_at dksX0_valley_2 17 rfl rfl)
theorem dX0_valley_64 : decode cX0_valley 64 = .ok (.iconst 0, 1) := dk_3 (dk_at dksX0_valley_2 18 rfl rfl)
theorem dX0_valley_65 : decode cX0_valley 65 = .ok (.putfield 151, 3) := dk_181 0 151 (dk_at dksX0_valley_2 19 rfl rfl)
theorem dX0_valley_68 : decode cX0_valley 68 = .ok (.aload_n 0, 1) := dk_42 (dk_at dksX0_valley_2 22 rfl rfl)
theorem dX0_valley_69 : decode cX0_valley 69 = .ok (.getfield 31, 3) := dk_180 0 31 (dk_at dksX0_valley_3 0 rfl rfl)
theorem dX0_valley_72 : decode cX0_valley 72 = .ok (.getfield 154, 3) := dk_180 0 154 (dk_at dksX0_valley_3 3 rfl rfl)
theorem dX0_valley_75 : decode cX0_valley 75 = .ok (.ireturn, 1) := dk_172 (dk_at dksX0_valley_3 6 rfl rfl)
abbrev cX0_taken : ByteArray := prog_1_method_12_code
def yX0_taken : MethodName := ⟨RX0, "taken", "()I"⟩
def dkwX0_taken_0 : List UInt8 := [42, 180, 0, 115, 60, 42, 3, 181, 0, 115, 27, 172]
abbrev dktX0_taken_0 : List UInt8 := dkwX0_taken_0 ++ []
theorem dksX0_taken_0 : cX0_taken.data.toList.drop 0 = dktX0_taken_0 := by decide +kernel
theorem dX0_taken_0 : decode cX0_taken 0 = .ok (.aload_n 0, 1) := dk_42 (dk_at dksX0_taken_0 0 rfl rfl)
theorem dX0_taken_1 : decode cX0_taken 1 = .ok (.getfield 115, 3) := dk_180 0 115 (dk_at dksX0_taken_0 1 rfl rfl)
theorem dX0_taken_4 : decode cX0_taken 4 = .ok (.istore_n 1, 1) := dk_60 (dk_at dksX0_taken_0 4 rfl rfl)
theorem dX0_taken_5 : decode cX0_taken 5 = .ok (.aload_n 0, 1) := dk_42 (dk_at dksX0_taken_0 5 rfl rfl)
theorem dX0_taken_6 : decode cX0_taken 6 = .ok (.iconst 0, 1) := dk_3 (dk_at dksX0_taken_0 6 rfl rfl)
theorem dX0_taken_7 : decode cX0_taken 7 = .ok (.putfield 115, 3) := dk_181 0 115 (dk_at dksX0_taken_0 7 rfl rfl)
theorem dX0_taken_10 : decode cX0_taken 10 = .ok (.iload_n 1, 1) := dk_27 (dk_at dksX0_taken_0 10 rfl rfl)
theorem dX0_taken_11 : decode cX0_taken 11 = .ok (.ireturn, 1) := dk_172 (dk_at dksX0_taken_0 11 rfl rfl)
abbrev cX0_isLetter : ByteArray := prog_1_method_4_code
def yX0_isLetter : MethodName := ⟨RX0, "isLetter", "(I)Z"⟩
def dkwX0_isLetter_0 : List UInt8 := [26, 16, 97, 161, 0, 13, 26, 16, 122, 163, 0, 7, 4, 167, 0, 4, 3, 172]
abbrev dktX0_isLetter_0 : List UInt8 := dkwX0_isLetter_0 ++ []
theorem dksX0_isLetter_0 : cX0_isLetter.data.toList.drop 0 = dktX0_isLetter_0 := by decide +kernel
theorem dX0_isLetter_0 : decode cX0_isLetter 0 = .ok (.iload_n 0, 1) := dk_26 (dk_at dksX0_isLetter_0 0 rfl rfl)
theorem dX0_isLetter_1 : decode cX0_isLetter 1 = .ok (.bipush 97, 2) := dk_16 97 (dk_at dksX0_isLetter_0 1 rfl rfl)
theorem dX0_isLetter_3 : decode cX0_isLetter 3 = .ok (.if_icmp .lt 13, 3) := dk_161 0 13 (dk_at dksX0_isLetter_0 3 rfl rfl)
theorem dX0_isLetter_6 : decode cX0_isLetter 6 = .ok (.iload_n 0, 1) := dk_26 (dk_at dksX0_isLetter_0 6 rfl rfl)
theorem dX0_isLetter_7 : decode cX0_isLetter 7 = .ok (.bipush 122, 2) := dk_16 122 (dk_at dksX0_isLetter_0 7 rfl rfl)
theorem dX0_isLetter_9 : decode cX0_isLetter 9 = .ok (.if_icmp .gt 7, 3) := dk_163 0 7 (dk_at dksX0_isLetter_0 9 rfl rfl)
theorem dX0_isLetter_12 : decode cX0_isLetter 12 = .ok (.iconst 1, 1) := dk_4 (dk_at dksX0_isLetter_0 12 rfl rfl)
theorem dX0_isLetter_13 : decode cX0_isLetter 13 = .ok (.goto 4, 3) := dk_167 0 4 (dk_at dksX0_isLetter_0 13 rfl rfl)
theorem dX0_isLetter_16 : decode cX0_isLetter 16 = .ok (.iconst 0, 1) := dk_3 (dk_at dksX0_isLetter_0 16 rfl rfl)
theorem dX0_isLetter_17 : decode cX0_isLetter 17 = .ok (.ireturn, 1) := dk_172 (dk_at dksX0_isLetter_0 17 rfl rfl)
abbrev cX0_isDigit : ByteArray := prog_1_method_5_code
def yX0_isDigit : MethodName := ⟨RX0, "isDigit", "(I)Z"⟩
def dkwX0_isDigit_0 : List UInt8 := [26, 16, 48, 161, 0, 13, 26, 16, 57, 163, 0, 7, 4, 167, 0, 4, 3, 172]
abbrev dktX0_isDigit_0 : List UInt8 := dkwX0_isDigit_0 ++ []
theorem dksX0_isDigit_0 : cX0_isDigit.data.toList.drop 0 = dktX0_isDigit_0 := by decide +kernel
theorem dX0_isDigit_0 : decode cX0_isDigit 0 = .ok (.iload_n 0, 1) := dk_26 (dk_at dksX0_isDigit_0 0 rfl rfl)
theorem dX0_isDigit_1 : decode cX0_isDigit 1 = .ok (.bipush 48, 2) := dk_16 48 (dk_at dksX0_isDigit_0 1 rfl rfl)
theorem dX0_isDigit_3 : decode cX0_isDigit 3 = .ok (.if_icmp .lt 13, 3) := dk_161 0 13 (dk_at dksX0_isDigit_0 3 rfl rfl)
theorem dX0_isDigit_6 : decode cX0_isDigit 6 = .ok (.iload_n 0, 1) := dk_26 (dk_at dksX0_isDigit_0 6 rfl rfl)
theorem dX0_isDigit_7 : decode cX0_isDigit 7 = .ok (.bipush 57, 2) := dk_16 57 (dk_at dksX0_isDigit_0 7 rfl rfl)
theorem dX0_isDigit_9 : decode cX0_isDigit 9 = .ok (.if_icmp .gt 7, 3) := dk_163 0 7 (dk_at dksX0_isDigit_0 9 rfl rfl)
theorem dX0_isDigit_12 : decode cX0_isDigit 12 = .ok (.iconst 1, 1) := dk_4 (dk_at dksX0_isDigit_0 12 rfl rfl)
theorem dX0_isDigit_13 : decode cX0_isDigit 13 = .ok (.goto 4, 3) := dk_167 0 4 (dk_at dksX0_isDigit_0 13 rfl rfl)
theorem dX0_isDigit_16 : decode cX0_isDigit 16 = .ok (.iconst 0, 1) := dk_3 (dk_at dksX0_isDigit_0 16 rfl rfl)
theorem dX0_isDigit_17 : decode cX0_isDigit 17 = .ok (.ireturn, 1) := dk_172 (dk_at dksX0_isDigit_0 17 rfl rfl)
abbrev cX0_is : ByteArray := prog_1_method_1_code
def yX0_is : MethodName := ⟨RX0, "is", "(III)Z"⟩
def dkwX0_is_0 : List UInt8 := [26, 27, 161, 0, 12, 26, 28, 163, 0, 7, 4, 167, 0, 4, 3, 172]
abbrev dktX0_is_0 : List UInt8 := dkwX0_is_0 ++ []
theorem dksX0_is_0 : cX0_is.data.toList.drop 0 = dktX0_is_0 := by decide +kernel
theorem dX0_is_0 : decode cX0_is 0 = .ok (.iload_n 0, 1) := dk_26 (dk_at dksX0_is_0 0 rfl rfl)
theorem dX0_is_1 : decode cX0_is 1 = .ok (.iload_n 1, 1) := dk_27 (dk_at dksX0_is_0 1 rfl rfl)
theorem dX0_is_2 : decode cX0_is 2 = .ok (.if_icmp .lt 12, 3) := dk_161 0 12 (dk_at dksX0_is_0 2 rfl rfl)
theorem dX0_is_5 : decode cX0_is 5 = .ok (.iload_n 0, 1) := dk_26 (dk_at dksX0_is_0 5 rfl rfl)
theorem dX0_is_6 : decode cX0_is 6 = .ok (.iload_n 2, 1) := dk_28 (dk_at dksX0_is_0 6 rfl rfl)
theorem dX0_is_7 : decode cX0_is 7 = .ok (.if_icmp .gt 7, 3) := dk_163 0 7 (dk_at dksX0_is_0 7 rfl rfl)
theorem dX0_is_10 : decode cX0_is 10 = .ok (.iconst 1, 1) := dk_4 (dk_at dksX0_is_0 10 rfl rfl)
theorem dX0_is_11 : decode cX0_is 11 = .ok (.goto 4, 3) := dk_167 0 4 (dk_at dksX0_is_0 11 rfl rfl)
theorem dX0_is_14 : decode cX0_is 14 = .ok (.iconst 0, 1) := dk_3 (dk_at dksX0_is_0 14 rfl rfl)
theorem dX0_is_15 : decode cX0_is 15 = .ok (.ireturn, 1) := dk_172 (dk_at dksX0_is_0 15 rfl rfl)
abbrev cX0_find : ByteArray := prog_1_method_6_code
def yX0_find : MethodName := ⟨RX0, "find", "(Ljava/lang/String;[Ljava/lang/String;)I"⟩
def dkwX0_find_1 : List UInt8 := [167, 255, 235, 2, 172]
abbrev dktX0_find_1 : List UInt8 := dkwX0_find_1 ++ []
def dkwX0_find_0 : List UInt8 := [3, 61, 28, 43, 190, 162, 0, 21, 43, 28, 50, 42, 182, 0, 16, 153, 0, 5, 28, 172, 132, 2, 1]
abbrev dktX0_find_0 : List UInt8 := dkwX0_find_0 ++ dktX0_find_1
theorem dksX0_find_0 : cX0_find.data.toList.drop 0 = dktX0_find_0 := by decide +kernel
theorem dksX0_find_1 : cX0_find.data.toList.drop 23 = dktX0_find_1 := dk_seg dksX0_find_0 23 rfl rfl
theorem dX0_find_0 : decode cX0_find 0 = .ok (.iconst 0, 1) := dk_3 (dk_at dksX0_find_0 0 rfl rfl)
theorem dX0_find_1 : decode cX0_find 1 = .ok (.istore_n 2, 1) := dk_61 (dk_at dksX0_find_0 1 rfl rfl)
theorem dX0_find_2 : decode cX0_find 2 = .ok (.iload_n 2, 1) := dk_28 (dk_at dksX0_find_0 2 rfl rfl)
theorem dX0_find_3 : decode cX0_find 3 = .ok (.aload_n 1, 1) := dk_43 (dk_at dksX0_find_0 3 rfl rfl)
theorem dX0_find_4 : decode cX0_find 4 = .ok (.arraylength, 1) := dk_190 (dk_at dksX0_find_0 4 rfl rfl)
theorem dX0_find_5 : decode cX0_find 5 = .ok (.if_icmp .ge 21, 3) := dk_162 0 21 (dk_at dksX0_find_0 5 rfl rfl)
theorem dX0_find_8 : decode cX0_find 8 = .ok (.aload_n 1, 1) := dk_43 (dk_at dksX0_find_0 8 rfl rfl)
theorem dX0_find_9 : decode cX0_find 9 = .ok (.iload_n 2, 1) := dk_28 (dk_at dksX0_find_0 9 rfl rfl)
theorem dX0_find_10 : decode cX0_find 10 = .ok (.aaload, 1) := dk_50 (dk_at dksX0_find_0 10 rfl rfl)
theorem dX0_find_11 : decode cX0_find 11 = .ok (.aload_n 0, 1) := dk_42 (dk_at dksX0_find_0 11 rfl rfl)
theorem dX0_find_12 : decode cX0_find 12 = .ok (.invokevirtual 16, 3) := dk_182 0 16 (dk_at dksX0_find_0 12 rfl rfl)
theorem dX0_find_15 : decode cX0_find 15 = .ok (.ifCond .eq 5, 3) := dk_153 0 5 (dk_at dksX0_find_0 15 rfl rfl)
theorem dX0_find_18 : decode cX0_find 18 = .ok (.iload_n 2, 1) := dk_28 (dk_at dksX0_find_0 18 rfl rfl)
theorem dX0_find_19 : decode cX0_find 19 = .ok (.ireturn, 1) := dk_172 (dk_at dksX0_find_0 19 rfl rfl)
theorem dX0_find_20 : decode cX0_find 20 = .ok (.iinc 2 1, 3) := dk_132 2 1 (dk_at dksX0_find_0 20 rfl rfl)
theorem dX0_find_23 : decode cX0_find 23 = .ok (.goto (-21), 3) := dk_167 255 235 (dk_at dksX0_find_1 0 rfl rfl)
theorem dX0_find_26 : decode cX0_find 26 = .ok (.iconst (-1), 1) := dk_2 (dk_at dksX0_find_1 3 rfl rfl)
theorem dX0_find_27 : decode cX0_find 27 = .ok (.ireturn, 1) := dk_172 (dk_at dksX0_find_1 4 rfl rfl)
abbrev cX0_has : ByteArray := prog_1_method_2_code
def yX0_has : MethodName := ⟨RX0, "has", "(II)Z"⟩
def dkwX0_has_0 : List UInt8 := [26, 27, 122, 4, 126, 4, 160, 0, 7, 4, 167, 0, 4, 3, 172]
abbrev dktX0_has_0 : List UInt8 := dkwX0_has_0 ++ []
theorem dksX0_has_0 : cX0_has.data.toList.drop 0 = dktX0_has_0 := by decide +kernel
theorem dX0_has_0 : decode cX0_has 0 = .ok (.iload_n 0, 1) := dk_26 (dk_at dksX0_has_0 0 rfl rfl)
theorem dX0_has_1 : decode cX0_has 1 = .ok (.iload_n 1, 1) := dk_27 (dk_at dksX0_has_0 1 rfl rfl)
theorem dX0_has_2 : decode cX0_has 2 = .ok (.ishr, 1) := dk_122 (dk_at dksX0_has_0 2 rfl rfl)
theorem dX0_has_3 : decode cX0_has 3 = .ok (.iconst 1, 1) := dk_4 (dk_at dksX0_has_0 3 rfl rfl)
theorem dX0_has_4 : decode cX0_has 4 = .ok (.iand, 1) := dk_126 (dk_at dksX0_has_0 4 rfl rfl)
theorem dX0_has_5 : decode cX0_has 5 = .ok (.iconst 1, 1) := dk_4 (dk_at dksX0_has_0 5 rfl rfl)
theorem dX0_has_6 : decode cX0_has 6 = .ok (.if_icmp .ne 7, 3) := dk_160 0 7 (dk_at dksX0_has_0 6 rfl rfl)
theorem dX0_has_9 : decode cX0_has 9 = .ok (.iconst 1, 1) := dk_4 (dk_at dksX0_has_0 9 rfl rfl)
theorem dX0_has_10 : decode cX0_has 10 = .ok (.goto 4, 3) := dk_167 0 4 (dk_at dksX0_has_0 10 rfl rfl)
theorem dX0_has_13 : decode cX0_has 13 = .ok (.iconst 0, 1) := dk_3 (dk_at dksX0_has_0 13 rfl rfl)
theorem dX0_has_14 : decode cX0_has 14 = .ok (.ireturn, 1) := dk_172 (dk_at dksX0_has_0 14 rfl rfl)
abbrev cX0_lords : ByteArray := prog_1_method_17_code
def yX0_lords : MethodName := ⟨RX0, "lords", "()I"⟩
def dkwX0_lords_0 : List UInt8 := [42, 180, 0, 31, 180, 0, 160, 185, 0, 164, 1, 0, 172]
abbrev dktX0_lords_0 : List UInt8 := dkwX0_lords_0 ++ []
theorem dksX0_lords_0 : cX0_lords.data.toList.drop 0 = dktX0_lords_0 := by decide +kernel
theorem dX0_lords_0 : decode cX0_lords 0 = .ok (.aload_n 0, 1) := dk_42 (dk_at dksX0_lords_0 0 rfl rfl)
theorem dX0_lords_1 : decode cX0_lords 1 = .ok (.getfield 31, 3) := dk_180 0 31 (dk_at dksX0_lords_0 1 rfl rfl)
theorem dX0_lords_4 : decode cX0_lords 4 = .ok (.getfield 160, 3) := dk_180 0 160 (dk_at dksX0_lords_0 4 rfl rfl)
theorem dX0_lords_7 : decode cX0_lords 7 = .ok (.invokeinterface 164 1, 5) := by decide +kernel
theorem dX0_lords_12 : decode cX0_lords 12 = .ok (.ireturn, 1) := dk_172 (dk_at dksX0_lords_0 12 rfl rfl)
abbrev cX0_lordOf : ByteArray := prog_1_method_21_code
def yX0_lordOf : MethodName := ⟨RX0, "lordOf", "(I)LBentRiver$Lord;"⟩
def dkwX0_lordOf_0 : List UInt8 := [42, 180, 0, 31, 180, 0, 160, 27, 185, 0, 182, 2, 0, 192, 0, 186, 176]
abbrev dktX0_lordOf_0 : List UInt8 := dkwX0_lordOf_0 ++ []
theorem dksX0_lordOf_0 : cX0_lordOf.data.toList.drop 0 = dktX0_lordOf_0 := by decide +kernel
theorem dX0_lordOf_0 : decode cX0_lordOf 0 = .ok (.aload_n 0, 1) := dk_42 (dk_at dksX0_lordOf_0 0 rfl rfl)
theorem dX0_lordOf_1 : decode cX0_lordOf 1 = .ok (.getfield 31, 3) := dk_180 0 31 (dk_at dksX0_lordOf_0 1 rfl rfl)
theorem dX0_lordOf_4 : decode cX0_lordOf 4 = .ok (.getfield 160, 3) := dk_180 0 160 (dk_at dksX0_lordOf_0 4 rfl rfl)
theorem dX0_lordOf_7 : decode cX0_lordOf 7 = .ok (.iload_n 1, 1) := dk_27 (dk_at dksX0_lordOf_0 7 rfl rfl)
theorem dX0_lordOf_8 : decode cX0_lordOf 8 = .ok (.invokeinterface 182 2, 5) := by decide +kernel
theorem dX0_lordOf_13 : decode cX0_lordOf 13 = .ok (.checkcast 186, 3) := dk_192 0 186 (dk_at dksX0_lordOf_0 13 rfl rfl)
theorem dX0_lordOf_16 : decode cX0_lordOf 16 = .ok (.areturn, 1) := dk_176 (dk_at dksX0_lordOf_0 16 rfl rfl)
abbrev cX0_fault : ByteArray := prog_1_method_14_code
def yX0_fault : MethodName := ⟨RX0, "fault", "(I)I"⟩
def dkwX0_fault_1 : List UInt8 := [172]
abbrev dktX0_fault_1 : List UInt8 := dkwX0_fault_1 ++ []
def dkwX0_fault_0 : List UInt8 := [27, 154, 0, 10, 42, 180, 0, 126, 167, 0, 16, 27, 4, 160, 0, 10, 42, 180, 0, 39, 167, 0, 4, 2]
abbrev dktX0_fault_0 : List UInt8 := dkwX0_fault_0 ++ dktX0_fault_1
theorem dksX0_fault_0 : cX0_fault.data.toList.drop 0 = dktX0_fault_0 := by decide +kernel
theorem dksX0_fault_1 : cX0_fault.data.toList.drop 24 = dktX0_fault_1 := dk_seg dksX0_fault_0 24 rfl rfl
theorem dX0_fault_0 : decode cX0_fault 0 = .ok (.iload_n 1, 1) := dk_27 (dk_at dksX0_fault_0 0 rfl rfl)
theorem dX0_fault_1 : decode cX0_fault 1 = .ok (.ifCond .ne 10, 3) := dk_154 0 10 (dk_at dksX0_fault_0 1 rfl rfl)
theorem dX0_fault_4 : decode cX0_fault 4 = .ok (.aload_n 0, 1) := dk_42 (dk_at dksX0_fault_0 4 rfl rfl)
theorem dX0_fault_5 : decode cX0_fault 5 = .ok (.getfield 126, 3) := dk_180 0 126 (dk_at dksX0_fault_0 5 rfl rfl)
theorem dX0_fault_8 : decode cX0_fault 8 = .ok (.goto 16, 3) := dk_167 0 16 (dk_at dksX0_fault_0 8 rfl rfl)
theorem dX0_fault_11 : decode cX0_fault 11 = .ok (.iload_n 1, 1) := dk_27 (dk_at dksX0_fault_0 11 rfl rfl)
theorem dX0_fault_12 : decode cX0_fault 12 = .ok (.iconst 1, 1) := dk_4 (dk_at dksX0_fault_0 12 rfl rfl)
theorem dX0_fault_13 : decode cX0_fault 13 = .ok (.if_icmp .ne 10, 3) := dk_160 0 10 (dk_at dksX0_fault_0 13 rfl rfl)
theorem dX0_fault_16 : decode cX0_fault 16 = .ok (.aload_n 0, 1) := dk_42 (dk_at dksX0_fault_0 16 rfl rfl)
theorem dX0_fault_17 : decode cX0_fault 17 = .ok (.getfield 39, 3) := dk_180 0 39 (dk_at dksX0_fault_0 17 rfl rfl)
theorem dX0_fault_20 : decode cX0_fault 20 = .ok (.goto 4, 3) := dk_167 0 4 (dk_at dksX0_fault_0 20 rfl rfl)
theorem dX0_fault_23 : decode cX0_fault 23 = .ok (.iconst (-1), 1) := dk_2 (dk_at dksX0_fault_0 23 rfl rfl)
theorem dX0_fault_24 : decode cX0_fault 24 = .ok (.ireturn, 1) := dk_172 (dk_at dksX0_fault_1 0 rfl rfl)
abbrev cX0_has_2 : ByteArray := prog_1_method_24_code
def yX0_has_2 : MethodName := ⟨RX0, "has", "(I)I"⟩
def dkwX0_has_2_9 : List UInt8 := [180, 0, 151, 172, 42, 180, 0, 148, 172, 2, 172]
abbrev dktX0_has_2_9 : List UInt8 := dkwX0_has_2_9 ++ []
def dkwX0_has_2_8 : List UInt8 := [132, 9, 1, 167, 255, 234, 132, 5, 1, 167, 255, 203, 28, 172, 42, 180, 0, 69, 180, 0, 225, 172, 42]
abbrev dktX0_has_2_8 : List UInt8 := dkwX0_has_2_8 ++ dktX0_has_2_9
def dkwX0_has_2_7 : List UInt8 := [3, 54, 9, 21, 9, 21, 8, 162, 0, 21, 25, 7, 21, 9, 46, 54, 10, 28, 21, 10, 96, 61]
abbrev dktX0_has_2_7 : List UInt8 := dkwX0_has_2_7 ++ dktX0_has_2_8
def dkwX0_has_2_6 : List UInt8 := [54, 5, 21, 5, 21, 4, 162, 0, 52, 45, 21, 5, 50, 58, 6, 25, 6, 58, 7, 25, 7, 190, 54, 8]
abbrev dktX0_has_2_6 : List UInt8 := dkwX0_has_2_6 ++ dktX0_has_2_7
def dkwX0_has_2_5 : List UInt8 := [96, 61, 132, 3, 1, 167, 255, 225, 28, 172, 42, 180, 0, 69, 180, 0, 222, 78, 45, 190, 54, 4, 3]
abbrev dktX0_has_2_5 : List UInt8 := dkwX0_has_2_5 ++ dktX0_has_2_6
def dkwX0_has_2_4 : List UInt8 := [182, 0, 180, 162, 0, 29, 28, 42, 180, 0, 69, 180, 0, 218, 29, 51, 153, 0, 7, 4, 167, 0, 4, 3]
abbrev dktX0_has_2_4 : List UInt8 := dkwX0_has_2_4 ++ dktX0_has_2_5
def dkwX0_has_2_3 : List UInt8 := [180, 0, 209, 172, 42, 180, 0, 69, 180, 0, 212, 172, 42, 180, 0, 69, 182, 0, 215, 172, 3, 62, 29, 42]
abbrev dktX0_has_2_3 : List UInt8 := dkwX0_has_2_3 ++ dktX0_has_2_4
def dkwX0_has_2_2 : List UInt8 := [42, 182, 0, 169, 172, 42, 180, 0, 31, 180, 0, 175, 172, 42, 182, 0, 180, 172, 42, 180, 0, 69]
abbrev dktX0_has_2_2 : List UInt8 := dkwX0_has_2_2 ++ dktX0_has_2_3
def dkwX0_has_2_1 : List UInt8 := [170, 0, 0, 0, 228, 0, 0, 0, 0, 0, 0, 0, 10, 0, 0, 0, 57, 0, 0, 0, 62, 0, 0, 0, 70, 0, 0, 0, 75, 0, 0, 0, 83, 0, 0, 0, 91, 0, 0, 0, 99, 0, 0, 0, 137, 0, 0, 0, 210, 0, 0, 0, 218, 0, 0, 0, 223]
abbrev dktX0_has_2_1 : List UInt8 := dkwX0_has_2_1 ++ dktX0_has_2_2
def dkwX0_has_2_0 : List UInt8 := [3, 61, 27]
abbrev dktX0_has_2_0 : List UInt8 := dkwX0_has_2_0 ++ dktX0_has_2_1
theorem dksX0_has_2_0 : cX0_has_2.data.toList.drop 0 = dktX0_has_2_0 := by decide +kernel
theorem dksX0_has_2_1 : cX0_has_2.data.toList.drop 3 = dktX0_has_2_1 := dk_seg dksX0_has_2_0 3 rfl rfl
theorem dksX0_has_2_2 : cX0_has_2.data.toList.drop 60 = dktX0_has_2_2 := dk_seg dksX0_has_2_1 57 rfl rfl
theorem dksX0_has_2_3 : cX0_has_2.data.toList.drop 82 = dktX0_has_2_3 := dk_seg dksX0_has_2_2 22 rfl rfl
theorem dksX0_has_2_4 : cX0_has_2.data.toList.drop 106 = dktX0_has_2_4 := dk_seg dksX0_has_2_3 24 rfl rfl
theorem dksX0_has_2_5 : cX0_has_2.data.toList.drop 130 = dktX0_has_2_5 := dk_seg dksX0_has_2_4 24 rfl rfl
theorem dksX0_has_2_6 : cX0_has_2.data.toList.drop 153 = dktX0_has_2_6 := dk_seg dksX0_has_2_5 23 rfl rfl
theorem dksX0_has_2_7 : cX0_has_2.data.toList.drop 177 = dktX0_has_2_7 := dk_seg dksX0_has_2_6 24 rfl rfl
theorem dksX0_has_2_8 : cX0_has_2.data.toList.drop 199 = dktX0_has_2_8 := dk_seg dksX0_has_2_7 22 rfl rfl
theorem dksX0_has_2_9 : cX0_has_2.data.toList.drop 222 = dktX0_has_2_9 := dk_seg dksX0_has_2_8 23 rfl rfl
theorem dX0_has_2_0 : decode cX0_has_2 0 = .ok (.iconst 0, 1) := dk_3 (dk_at dksX0_has_2_0 0 rfl rfl)
theorem dX0_has_2_1 : decode cX0_has_2 1 = .ok (.istore_n 2, 1) := dk_61 (dk_at dksX0_has_2_0 1 rfl rfl)
theorem dX0_has_2_2 : decode cX0_has_2 2 = .ok (.iload_n 1, 1) := dk_27 (dk_at dksX0_has_2_0 2 rfl rfl)
theorem dX0_has_2_3 : decode cX0_has_2 3 = .ok (.tableswitch 228 0 10 #[57, 62, 70, 75, 83, 91, 99, 137, 210, 218, 223], 57) := by decide +kernel
theorem dX0_has_2_60 : decode cX0_has_2 60 = .ok (.aload_n 0, 1) := dk_42 (dk_at dksX0_has_2_2 0 rfl rfl)
theorem dX0_has_2_61 : decode cX0_has_2 61 = .ok (.invokevirtual 169, 3) := dk_182 0 169 (dk_at dksX0_has_2_2 1 rfl rfl)
theorem dX0_has_2_64 : decode cX0_has_2 64 = .ok (.ireturn, 1) := dk_172 (dk_at dksX0_has_2_2 4 rfl rfl)
theorem dX0_has_2_65 : decode cX0_has_2 65 = .ok (.aload_n 0, 1) := dk_42 (dk_at dksX0_has_2_2 5 rfl rfl)
theorem dX0_has_2_66 : decode cX0_has_2 66 = .ok (.getfield 31, 3) := dk_180 0 31 (dk_at dksX0_has_2_2 6 rfl rfl)
theorem dX0_has_2_69 : decode cX0_has_2 69 = .ok (.getfield 175, 3) := dk_180 0 175 (dk_at dksX0_has_2_2 9 rfl rfl)
theorem dX0_has_2_72 : decode cX0_has_2 72 = .ok (.ireturn, 1) := dk_172 (dk_at dksX0_has_2_2 12 rfl rfl)
theorem dX0_has_2_73 : decode cX0_has_2 73 = .ok (.aload_n 0, 1) := dk_42 (dk_at dksX0_has_2_2 13 rfl rfl)
theorem dX0_has_2_74 : decode cX0_has_2 74 = .ok (.invokevirtual 180, 3) := dk_182 0 180 (dk_at dksX0_has_2_2 14 rfl rfl)
theorem dX0_has_2_77 : decode cX0_has_2 77 = .ok (.ireturn, 1) := dk_172 (dk_at dksX0_has_2_2 17 rfl rfl)
theorem dX0_has_2_78 : decode cX0_has_2 78 = .ok (.aload_n 0, 1) := dk_42 (dk_at dksX0_has_2_2 18 rfl rfl)
theorem dX0_has_2_79 : decode cX0_has_2 79 = .ok (.getfield 69, 3) := dk_180 0 69 (dk_at dksX0_has_2_2 19 rfl rfl)
theorem dX0_has_2_82 : decode cX0_has_2 82 = .ok (.getfield 209, 3) := dk_180 0 209 (dk_at dksX0_has_2_3 0 rfl rfl)
theorem dX0_has_2_85 : decode cX0_has_2 85 = .ok (.ireturn, 1) := dk_172 (dk_at dksX0_has_2_3 3 rfl rfl)
theorem dX0_has_2_86 : decode cX0_has_2 86 = .ok (.aload_n 0, 1) := dk_42 (dk_at dksX0_has_2_3 4 rfl rfl)
theorem dX0_has_2_87 : decode cX0_has_2 87 = .ok (.getfield 69, 3) := dk_180 0 69 (dk_at dksX0_has_2_3 5 rfl rfl)
theorem dX0_has_2_90 : decode cX0_has_2 90 = .ok (.getfield 212, 3) := dk_180 0 212 (dk_at dksX0_has_2_3 8 rfl rfl)
theorem dX0_has_2_93 : decode cX0_has_2 93 = .ok (.ireturn, 1) := dk_172 (dk_at dksX0_has_2_3 11 rfl rfl)
theorem dX0_has_2_94 : decode cX0_has_2 94 = .ok (.aload_n 0, 1) := dk_42 (dk_at dksX0_has_2_3 12 rfl rfl)
theorem dX0_has_2_95 : decode cX0_has_2 95 = .ok (.getfield 69, 3) := dk_180 0 69 (dk_at dksX0_has_2_3 13 rfl rfl)
theorem dX0_has_2_98 : decode cX0_has_2 98 = .ok (.invokevirtual 215, 3) := dk_182 0 215 (dk_at dksX0_has_2_3 16 rfl rfl)
theorem dX0_has_2_101 : decode cX0_has_2 101 = .ok (.ireturn, 1) := dk_172 (dk_at dksX0_has_2_3 19 rfl rfl)
theorem dX0_has_2_102 : decode cX0_has_2 102 = .ok (.iconst 0, 1) := dk_3 (dk_at dksX0_has_2_3 20 rfl rfl)
theorem dX0_has_2_103 : decode cX0_has_2 103 = .ok (.istore_n 3, 1) := dk_62 (dk_at dksX0_has_2_3 21 rfl rfl)
theorem dX0_has_2_104 : decode cX0_has_2 104 = .ok (.iload_n 3, 1) := dk_29 (dk_at dksX0_has_2_3 22 rfl rfl)
theorem dX0_has_2_105 : decode cX0_has_2 105 = .ok (.aload_n 0, 1) := dk_42 (dk_at dksX0_has_2_3 23 rfl rfl)
theorem dX0_has_2_106 : decode cX0_has_2 106 = .ok (.invokevirtual 180, 3) := dk_182 0 180 (dk_at dksX0_has_2_4 0 rfl rfl)
theorem dX0_has_2_109 : decode cX0_has_2 109 = .ok (.if_icmp .ge 29, 3) := dk_162 0 29 (dk_at dksX0_has_2_4 3 rfl rfl)
theorem dX0_has_2_112 : decode cX0_has_2 112 = .ok (.iload_n 2, 1) := dk_28 (dk_at dksX0_has_2_4 6 rfl rfl)
theorem dX0_has_2_113 : decode cX0_has_2 113 = .ok (.aload_n 0, 1) := dk_42 (dk_at dksX0_has_2_4 7 rfl rfl)
theorem dX0_has_2_114 : decode cX0_has_2 114 = .ok (.getfield 69, 3) := dk_180 0 69 (dk_at dksX0_has_2_4 8 rfl rfl)
theorem dX0_has_2_117 : decode cX0_has_2 117 = .ok (.getfield 218, 3) := dk_180 0 218 (dk_at dksX0_has_2_4 11 rfl rfl)
theorem dX0_has_2_120 : decode cX0_has_2 120 = .ok (.iload_n 3, 1) := dk_29 (dk_at dksX0_has_2_4 14 rfl rfl)
theorem dX0_has_2_121 : decode cX0_has_2 121 = .ok (.baload, 1) := dk_51 (dk_at dksX0_has_2_4 15 rfl rfl)
theorem dX0_has_2_122 : decode cX0_has_2 122 = .ok (.ifCond .eq 7, 3) := dk_153 0 7 (dk_at dksX0_has_2_4 16 rfl rfl)
theorem dX0_has_2_125 : decode cX0_has_2 125 = .ok (.iconst 1, 1) := dk_4 (dk_at dksX0_has_2_4 19 rfl rfl)
theorem dX0_has_2_126 : decode cX0_has_2 126 = .ok (.goto 4, 3) := dk_167 0 4 (dk_at dksX0_has_2_4 20 rfl rfl)
theorem dX0_has_2_129 : decode cX0_has_2 129 = .ok (.iconst 0, 1) := dk_3 (dk_at dksX0_has_2_4 23 rfl rfl)
theorem dX0_has_2_130 : decode cX0_has_2 130 = .ok (.iadd, 1) := dk_96 (dk_at dksX0_has_2_5 0 rfl rfl)
theorem dX0_has_2_131 : decode cX0_has_2 131 = .ok (.istore_n 2, 1) := dk_61 (dk_at dksX0_has_2_5 1 rfl rfl)
theorem dX0_has_2_132 : decode cX0_has_2 132 = .ok (.iinc 3 1, 3) := dk_132 3 1 (dk_at dksX0_has_2_5 2 rfl rfl)
theorem dX0_has_2_135 : decode cX0_has_2 135 = .ok (.goto (-31), 3) := dk_167 255 225 (dk_at dksX0_has_2_5 5 rfl rfl)
theorem dX0_has_2_138 : decode cX0_has_2 138 = .ok (.iload_n 2, 1) := dk_28 (dk_at dksX0_has_2_5 8 rfl rfl)
theorem dX0_has_2_139 : decode cX0_has_2 139 = .ok (.ireturn, 1) := dk_172 (dk_at dksX0_has_2_5 9 rfl rfl)
theorem dX0_has_2_140 : decode cX0_has_2 140 = .ok (.aload_n 0, 1) := dk_42 (dk_at dksX0_has_2_5 10 rfl rfl)
theorem dX0_has_2_141 : decode cX0_has_2 141 = .ok (.getfield 69, 3) := dk_180 0 69 (dk_at dksX0_has_2_5 11 rfl rfl)
theorem dX0_has_2_144 : decode cX0_has_2 144 = .ok (.getfield 222, 3) := dk_180 0 222 (dk_at dksX0_has_2_5 14 rfl rfl)
theorem dX0_has_2_147 : decode cX0_has_2 147 = .ok (.astore_n 3, 1) := dk_78 (dk_at dksX0_has_2_5 17 rfl rfl)
theorem dX0_has_2_148 : decode cX0_has_2 148 = .ok (.aload_n 3, 1) := dk_45 (dk_at dksX0_has_2_5 18 rfl rfl)
theorem dX0_has_2_149 : decode cX0_has_2 149 = .ok (.arraylength, 1) := dk_190 (dk_at dksX0_has_2_5 19 rfl rfl)
theorem dX0_has_2_150 : decode cX0_has_2 150 = .ok (.istore 4, 2) := dk_54 4 (dk_at dksX0_has_2_5 20 rfl rfl)
theorem dX0_has_2_152 : decode cX0_has_2 152 = .ok (.iconst 0, 1) := dk_3 (dk_at dksX0_has_2_5 22 rfl rfl)
theorem dX0_has_2_153 : decode cX0_has_2 153 = .ok (.istore 5, 2) := dk_54 5 (dk_at dksX0_has_2_6 0 rfl rfl)
theorem dX0_has_2_155 : decode cX0_has_2 155 = .ok (.iload 5, 2) := dk_21 5 (dk_at dksX0_has_2_6 2 rfl rfl)
theorem dX0_has_2_157 : decode cX0_has_2 157 = .ok (.iload 4, 2) := dk_21 4 (dk_at dksX0_has_2_6 4 rfl rfl)
theorem dX0_has_2_159 : decode cX0_has_2 159 = .ok (.if_icmp .ge 52, 3) := dk_162 0 52 (dk_at dksX0_has_2_6 6 rfl rfl)
theorem dX0_has_2_162 : decode cX0_has_2 162 = .ok (.aload_n 3, 1) := dk_45 (dk_at dksX0_has_2_6 9 rfl rfl)
theorem dX0_has_2_163 : decode cX0_has_2 163 = .ok (.iload 5, 2) := dk_21 5 (dk_at dksX0_has_2_6 10 rfl rfl)
theorem dX0_has_2_165 : decode cX0_has_2 165 = .ok (.aaload, 1) := dk_50 (dk_at dksX0_has_2_6 12 rfl rfl)
theorem dX0_has_2_166 : decode cX0_has_2 166 = .ok (.astore 6, 2) := dk_58 6 (dk_at dksX0_has_2_6 13 rfl rfl)
theorem dX0_has_2_168 : decode cX0_has_2 168 = .ok (.aload 6, 2) := dk_25 6 (dk_at dksX0_has_2_6 15 rfl rfl)
theorem dX0_has_2_170 : decode cX0_has_2 170 = .ok (.astore 7, 2) := dk_58 7 (dk_at dksX0_has_2_6 17 rfl rfl)
theorem dX0_has_2_172 : decode cX0_has_2 172 = .ok (.aload 7, 2) := dk_25 7 (dk_at dksX0_has_2_6 19 rfl rfl)
theorem dX0_has_2_174 : decode cX0_has_2 174 = .ok (.arraylength, 1) := dk_190 (dk_at dksX0_has_2_6 21 rfl rfl)
theorem dX0_has_2_175 : decode cX0_has_2 175 = .ok (.istore 8, 2) := dk_54 8 (dk_at dksX0_has_2_6 22 rfl rfl)
theorem dX0_has_2_177 : decode cX0_has_2 177 = .ok (.iconst 0, 1) := dk_3 (dk_at dksX0_has_2_7 0 rfl rfl)
theorem dX0_has_2_178 : decode cX0_has_2 178 = .ok (.istore 9, 2) := dk_54 9 (dk_at dksX0_has_2_7 1 rfl rfl)
theorem dX0_has_2_180 : decode cX0_has_2 180 = .ok (.iload 9, 2) := dk_21 9 (dk_at dksX0_has_2_7 3 rfl rfl)
theorem dX0_has_2_182 : decode cX0_has_2 182 = .ok (.iload 8, 2) := dk_21 8 (dk_at dksX0_has_2_7 5 rfl rfl)
theorem dX0_has_2_184 : decode cX0_has_2 184 = .ok (.if_icmp .ge 21, 3) := dk_162 0 21 (dk_at dksX0_has_2_7 7 rfl rfl)
theorem dX0_has_2_187 : decode cX0_has_2 187 = .ok (.aload 7, 2) := dk_25 7 (dk_at dksX0_has_2_7 10 rfl rfl)
theorem dX0_has_2_189 : decode cX0_has_2 189 = .ok (.iload 9, 2) := dk_21 9 (dk_at dksX0_has_2_7 12 rfl rfl)
theorem dX0_has_2_191 : decode cX0_has_2 191 = .ok (.iaload, 1) := dk_46 (dk_at dksX0_has_2_7 14 rfl rfl)
theorem dX0_has_2_192 : decode cX0_has_2 192 = .ok (.istore 10, 2) := dk_54 10 (dk_at dksX0_has_2_7 15 rfl rfl)
theorem dX0_has_2_194 : decode cX0_has_2 194 = .ok (.iload_n 2, 1) := dk_28 (dk_at dksX0_has_2_7 17 rfl rfl)
theorem dX0_has_2_195 : decode cX0_has_2 195 = .ok (.iload 10, 2) := dk_21 10 (dk_at dksX0_has_2_7 18 rfl rfl)
theorem dX0_has_2_197 : decode cX0_has_2 197 = .ok (.iadd, 1) := dk_96 (dk_at dksX0_has_2_7 20 rfl rfl)
theorem dX0_has_2_198 : decode cX0_has_2 198 = .ok (.istore_n 2, 1) := dk_61 (dk_at dksX0_has_2_7 21 rfl rfl)
theorem dX0_has_2_199 : decode cX0_has_2 199 = .ok (.iinc 9 1, 3) := dk_132 9 1 (dk_at dksX0_has_2_8 0 rfl rfl)
theorem dX0_has_2_202 : decode cX0_has_2 202 = .ok (.goto (-22), 3) := dk_167 255 234 (dk_at dksX0_has_2_8 3 rfl rfl)
theorem dX0_has_2_205 : decode cX0_has_2 205 = .ok (.iinc 5 1, 3) := dk_132 5 1 (dk_at dksX0_has_2_8 6 rfl rfl)
theorem dX0_has_2_208 : decode cX0_has_2 208 = .ok (.goto (-53), 3) := dk_167 255 203 (dk_at dksX0_has_2_8 9 rfl rfl)
theorem dX0_has_2_211 : decode cX0_has_2 211 = .ok (.iload_n 2, 1) := dk_28 (dk_at dksX0_has_2_8 12 rfl rfl)
theorem dX0_has_2_212 : decode cX0_has_2 212 = .ok (.ireturn, 1) := dk_172 (dk_at dksX0_has_2_8 13 rfl rfl)
theorem dX0_has_2_213 : decode cX0_has_2 213 = .ok (.aload_n 0, 1) := dk_42 (dk_at dksX0_has_2_8 14 rfl rfl)
theorem dX0_has_2_214 : decode cX0_has_2 214 = .ok (.getfield 69, 3) := dk_180 0 69 (dk_at dksX0_has_2_8 15 rfl rfl)
theorem dX0_has_2_217 : decode cX0_has_2 217 = .ok (.getfield 225, 3) := dk_180 0 225 (dk_at dksX0_has_2_8 18 rfl rfl)
theorem dX0_has_2_220 : decode cX0_has_2 220 = .ok (.ireturn, 1) := dk_172 (dk_at dksX0_has_2_8 21 rfl rfl)
theorem dX0_has_2_221 : decode cX0_has_2 221 = .ok (.aload_n 0, 1) := dk_42 (dk_at dksX0_has_2_8 22 rfl rfl)
theorem dX0_has_2_222 : decode cX0_has_2 222 = .ok (.getfield 151, 3) := dk_180 0 151 (dk_at dksX0_has_2_9 0 rfl rfl)
theorem dX0_has_2_225 : decode cX0_has_2 225 = .ok (.ireturn, 1) := dk_172 (dk_at dksX0_has_2_9 3 rfl rfl)
theorem dX0_has_2_226 : decode cX0_has_2 226 = .ok (.aload_n 0, 1) := dk_42 (dk_at dksX0_has_2_9 4 rfl rfl)
theorem dX0_has_2_227 : decode cX0_has_2 227 = .ok (.getfield 148, 3) := dk_180 0 148 (dk_at dksX0_has_2_9 5 rfl rfl)
theorem dX0_has_2_230 : decode cX0_has_2 230 = .ok (.ireturn, 1) := dk_172 (dk_at dksX0_has_2_9 8 rfl rfl)
theorem dX0_has_2_231 : decode cX0_has_2 231 = .ok (.iconst (-1), 1) := dk_2 (dk_at dksX0_has_2_9 9 rfl rfl)
theorem dX0_has_2_232 : decode cX0_has_2 232 = .ok (.ireturn, 1) := dk_172 (dk_at dksX0_has_2_9 10 rfl rfl)
abbrev cX0_columns : ByteArray := prog_1_method_16_code
def yX0_columns : MethodName := ⟨RX0, "columns", "()I"⟩
def dkwX0_columns_0 : List UInt8 := [42, 180, 0, 31, 180, 0, 157, 172]
abbrev dktX0_columns_0 : List UInt8 := dkwX0_columns_0 ++ []
theorem dksX0_columns_0 : cX0_columns.data.toList.drop 0 = dktX0_columns_0 := by decide +kernel
theorem dX0_columns_0 : decode cX0_columns 0 = .ok (.aload_n 0, 1) := dk_42 (dk_at dksX0_columns_0 0 rfl rfl)
theorem dX0_columns_1 : decode cX0_columns 1 = .ok (.getfield 31, 3) := dk_180 0 31 (dk_at dksX0_columns_0 1 rfl rfl)
theorem dX0_columns_4 : decode cX0_columns 4 = .ok (.getfield 157, 3) := dk_180 0 157 (dk_at dksX0_columns_0 4 rfl rfl)
theorem dX0_columns_7 : decode cX0_columns 7 = .ok (.ireturn, 1) := dk_172 (dk_at dksX0_columns_0 7 rfl rfl)
abbrev cX0_isBendBy : ByteArray := prog_1_method_23_code
def yX0_isBendBy : MethodName := ⟨RX0, "isBendBy", "(IIIII)Z"⟩
def dkwX0_isBendBy_4 : List UInt8 := [180, 0, 199, 16, 9, 21, 4, 133, 80, 42, 180, 0, 31, 180, 0, 195, 42, 180, 0, 55, 182, 0, 203, 172]
abbrev dktX0_isBendBy_4 : List UInt8 := dkwX0_isBendBy_4 ++ []
def dkwX0_isBendBy_3 : List UInt8 := [180, 0, 199, 6, 21, 5, 133, 80, 42, 180, 0, 55, 180, 0, 199, 16, 8, 28, 133, 80, 42, 180, 0, 55]
abbrev dktX0_isBendBy_3 : List UInt8 := dkwX0_isBendBy_3 ++ dktX0_isBendBy_4
def dkwX0_isBendBy_2 : List UInt8 := [180, 0, 199, 4, 29, 133, 80, 42, 180, 0, 55, 180, 0, 199, 5, 21, 6, 133, 80, 42, 180, 0, 55]
abbrev dktX0_isBendBy_2 : List UInt8 := dkwX0_isBendBy_2 ++ dktX0_isBendBy_3
def dkwX0_isBendBy_1 : List UInt8 := [158, 0, 7, 4, 167, 0, 4, 3, 172, 42, 180, 0, 55, 180, 0, 199, 3, 27, 133, 80, 42, 180, 0, 55]
abbrev dktX0_isBendBy_1 : List UInt8 := dkwX0_isBendBy_1 ++ dktX0_isBendBy_2
def dkwX0_isBendBy_0 : List UInt8 := [42, 27, 28, 29, 21, 4, 182, 0, 191, 54, 6, 42, 180, 0, 31, 180, 0, 195, 199, 0, 14, 21, 6]
abbrev dktX0_isBendBy_0 : List UInt8 := dkwX0_isBendBy_0 ++ dktX0_isBendBy_1
theorem dksX0_isBendBy_0 : cX0_isBendBy.data.toList.drop 0 = dktX0_isBendBy_0 := by decide +kernel
theorem dksX0_isBendBy_1 : cX0_isBendBy.data.toList.drop 23 = dktX0_isBendBy_1 := dk_seg dksX0_isBendBy_0 23 rfl rfl
theorem dksX0_isBendBy_2 : cX0_isBendBy.data.toList.drop 47 = dktX0_isBendBy_2 := dk_seg dksX0_isBendBy_1 24 rfl rfl
theorem dksX0_isBendBy_3 : cX0_isBendBy.data.toList.drop 70 = dktX0_isBendBy_3 := dk_seg dksX0_isBendBy_2 23 rfl rfl
theorem dksX0_isBendBy_4 : cX0_isBendBy.data.toList.drop 94 = dktX0_isBendBy_4 := dk_seg dksX0_isBendBy_3 24 rfl rfl
theorem dX0_isBendBy_0 : decode cX0_isBendBy 0 = .ok (.aload_n 0, 1) := dk_42 (dk_at dksX0_isBendBy_0 0 rfl rfl)
theorem dX0_isBendBy_1 : decode cX0_isBendBy 1 = .ok (.iload_n 1, 1) := dk_27 (dk_at dksX0_isBendBy_0 1 rfl rfl)
theorem dX0_isBendBy_2 : decode cX0_isBendBy 2 = .ok (.iload_n 2, 1) := dk_28 (dk_at dksX0_isBendBy_0 2 rfl rfl)
theorem dX0_isBendBy_3 : decode cX0_isBendBy 3 = .ok (.iload_n 3, 1) := dk_29 (dk_at dksX0_isBendBy_0 3 rfl rfl)
theorem dX0_isBendBy_4 : decode cX0_isBendBy 4 = .ok (.iload 4, 2) := dk_21 4 (dk_at dksX0_isBendBy_0 4 rfl rfl)
theorem dX0_isBendBy_6 : decode cX0_isBendBy 6 = .ok (.invokevirtual 191, 3) := dk_182 0 191 (dk_at dksX0_isBendBy_0 6 rfl rfl)
theorem dX0_isBendBy_9 : decode cX0_isBendBy 9 = .ok (.istore 6, 2) := dk_54 6 (dk_at dksX0_isBendBy_0 9 rfl rfl)
theorem dX0_isBendBy_11 : decode cX0_isBendBy 11 = .ok (.aload_n 0, 1) := dk_42 (dk_at dksX0_isBendBy_0 11 rfl rfl)
theorem dX0_isBendBy_12 : decode cX0_isBendBy 12 = .ok (.getfield 31, 3) := dk_180 0 31 (dk_at dksX0_isBendBy_0 12 rfl rfl)
theorem dX0_isBendBy_15 : decode cX0_isBendBy 15 = .ok (.getfield 195, 3) := dk_180 0 195 (dk_at dksX0_isBendBy_0 15 rfl rfl)
theorem dX0_isBendBy_18 : decode cX0_isBendBy 18 = .ok (.ifnonnull 14, 3) := dk_199 0 14 (dk_at dksX0_isBendBy_0 18 rfl rfl)
theorem dX0_isBendBy_21 : decode cX0_isBendBy 21 = .ok (.iload 6, 2) := dk_21 6 (dk_at dksX0_isBendBy_0 21 rfl rfl)
theorem dX0_isBendBy_23 : decode cX0_isBendBy 23 = .ok (.ifCond .le 7, 3) := dk_158 0 7 (dk_at dksX0_isBendBy_1 0 rfl rfl)
theorem dX0_isBendBy_26 : decode cX0_isBendBy 26 = .ok (.iconst 1, 1) := dk_4 (dk_at dksX0_isBendBy_1 3 rfl rfl)
theorem dX0_isBendBy_27 : decode cX0_isBendBy 27 = .ok (.goto 4, 3) := dk_167 0 4 (dk_at dksX0_isBendBy_1 4 rfl rfl)
theorem dX0_isBendBy_30 : decode cX0_isBendBy 30 = .ok (.iconst 0, 1) := dk_3 (dk_at dksX0_isBendBy_1 7 rfl rfl)
theorem dX0_isBendBy_31 : decode cX0_isBendBy 31 = .ok (.ireturn, 1) := dk_172 (dk_at dksX0_isBendBy_1 8 rfl rfl)
theorem dX0_isBendBy_32 : decode cX0_isBendBy 32 = .ok (.aload_n 0, 1) := dk_42 (dk_at dksX0_isBendBy_1 9 rfl rfl)
theorem dX0_isBendBy_33 : decode cX0_isBendBy 33 = .ok (.getfield 55, 3) := dk_180 0 55 (dk_at dksX0_isBendBy_1 10 rfl rfl)
theorem dX0_isBendBy_36 : decode cX0_isBendBy 36 = .ok (.getfield 199, 3) := dk_180 0 199 (dk_at dksX0_isBendBy_1 13 rfl rfl)
theorem dX0_isBendBy_39 : decode cX0_isBendBy 39 = .ok (.iconst 0, 1) := dk_3 (dk_at dksX0_isBendBy_1 16 rfl rfl)
theorem dX0_isBendBy_40 : decode cX0_isBendBy 40 = .ok (.iload_n 1, 1) := dk_27 (dk_at dksX0_isBendBy_1 17 rfl rfl)
theorem dX0_isBendBy_41 : decode cX0_isBendBy 41 = .ok (.i2l, 1) := dk_133 (dk_at dksX0_isBendBy_1 18 rfl rfl)
theorem dX0_isBendBy_42 : decode cX0_isBendBy 42 = .ok (.lastore, 1) := dk_80 (dk_at dksX0_isBendBy_1 19 rfl rfl)
theorem dX0_isBendBy_43 : decode cX0_isBendBy 43 = .ok (.aload_n 0, 1) := dk_42 (dk_at dksX0_isBendBy_1 20 rfl rfl)
theorem dX0_isBendBy_44 : decode cX0_isBendBy 44 = .ok (.getfield 55, 3) := dk_180 0 55 (dk_at dksX0_isBendBy_1 21 rfl rfl)
theorem dX0_isBendBy_47 : decode cX0_isBendBy 47 = .ok (.getfield 199, 3) := dk_180 0 199 (dk_at dksX0_isBendBy_2 0 rfl rfl)
theorem dX0_isBendBy_50 : decode cX0_isBendBy 50 = .ok (.iconst 1, 1) := dk_4 (dk_at dksX0_isBendBy_2 3 rfl rfl)
theorem dX0_isBendBy_51 : decode cX0_isBendBy 51 = .ok (.iload_n 3, 1) := dk_29 (dk_at dksX0_isBendBy_2 4 rfl rfl)
theorem dX0_isBendBy_52 : decode cX0_isBendBy 52 = .ok (.i2l, 1) := dk_133 (dk_at dksX0_isBendBy_2 5 rfl rfl)
theorem dX0_isBendBy_53 : decode cX0_isBendBy 53 = .ok (.lastore, 1) := dk_80 (dk_at dksX0_isBendBy_2 6 rfl rfl)
theorem dX0_isBendBy_54 : decode cX0_isBendBy 54 = .ok (.aload_n 0, 1) := dk_42 (dk_at dksX0_isBendBy_2 7 rfl rfl)
theorem dX0_isBendBy_55 : decode cX0_isBendBy 55 = .ok (.getfield 55, 3) := dk_180 0 55 (dk_at dksX0_isBendBy_2 8 rfl rfl)
theorem dX0_isBendBy_58 : decode cX0_isBendBy 58 = .ok (.getfield 199, 3) := dk_180 0 199 (dk_at dksX0_isBendBy_2 11 rfl rfl)
theorem dX0_isBendBy_61 : decode cX0_isBendBy 61 = .ok (.iconst 2, 1) := dk_5 (dk_at dksX0_isBendBy_2 14 rfl rfl)
theorem dX0_isBendBy_62 : decode cX0_isBendBy 62 = .ok (.iload 6, 2) := dk_21 6 (dk_at dksX0_isBendBy_2 15 rfl rfl)
theorem dX0_isBendBy_64 : decode cX0_isBendBy 64 = .ok (.i2l, 1) := dk_133 (dk_at dksX0_isBendBy_2 17 rfl rfl)
theorem dX0_isBendBy_65 : decode cX0_isBendBy 65 = .ok (.lastore, 1) := dk_80 (dk_at dksX0_isBendBy_2 18 rfl rfl)
theorem dX0_isBendBy_66 : decode cX0_isBendBy 66 = .ok (.aload_n 0, 1) := dk_42 (dk_at dksX0_isBendBy_2 19 rfl rfl)
theorem dX0_isBendBy_67 : decode cX0_isBendBy 67 = .ok (.getfield 55, 3) := dk_180 0 55 (dk_at dksX0_isBendBy_2 20 rfl rfl)
theorem dX0_isBendBy_70 : decode cX0_isBendBy 70 = .ok (.getfield 199, 3) := dk_180 0 199 (dk_at dksX0_isBendBy_3 0 rfl rfl)
theorem dX0_isBendBy_73 : decode cX0_isBendBy 73 = .ok (.iconst 3, 1) := dk_6 (dk_at dksX0_isBendBy_3 3 rfl rfl)
theorem dX0_isBendBy_74 : decode cX0_isBendBy 74 = .ok (.iload 5, 2) := dk_21 5 (dk_at dksX0_isBendBy_3 4 rfl rfl)
theorem dX0_isBendBy_76 : decode cX0_isBendBy 76 = .ok (.i2l, 1) := dk_133 (dk_at dksX0_isBendBy_3 6 rfl rfl)
theorem dX0_isBendBy_77 : decode cX0_isBendBy 77 = .ok (.lastore, 1) := dk_80 (dk_at dksX0_isBendBy_3 7 rfl rfl)
theorem dX0_isBendBy_78 : decode cX0_isBendBy 78 = .ok (.aload_n 0, 1) := dk_42 (dk_at dksX0_isBendBy_3 8 rfl rfl)
theorem dX0_isBendBy_79 : decode cX0_isBendBy 79 = .ok (.getfield 55, 3) := dk_180 0 55 (dk_at dksX0_isBendBy_3 9 rfl rfl)
theorem dX0_isBendBy_82 : decode cX0_isBendBy 82 = .ok (.getfield 199, 3) := dk_180 0 199 (dk_at dksX0_isBendBy_3 12 rfl rfl)
theorem dX0_isBendBy_85 : decode cX0_isBendBy 85 = .ok (.bipush 8, 2) := dk_16 8 (dk_at dksX0_isBendBy_3 15 rfl rfl)
theorem dX0_isBendBy_87 : decode cX0_isBendBy 87 = .ok (.iload_n 2, 1) := dk_28 (dk_at dksX0_isBendBy_3 17 rfl rfl)
theorem dX0_isBendBy_88 : decode cX0_isBendBy 88 = .ok (.i2l, 1) := dk_133 (dk_at dksX0_isBendBy_3 18 rfl rfl)
theorem dX0_isBendBy_89 : decode cX0_isBendBy 89 = .ok (.lastore, 1) := dk_80 (dk_at dksX0_isBendBy_3 19 rfl rfl)
theorem dX0_isBendBy_90 : decode cX0_isBendBy 90 = .ok (.aload_n 0, 1) := dk_42 (dk_at dksX0_isBendBy_3 20 rfl rfl)
theorem dX0_isBendBy_91 : decode cX0_isBendBy 91 = .ok (.getfield 55, 3) := dk_180 0 55 (dk_at dksX0_isBendBy_3 21 rfl rfl)
theorem dX0_isBendBy_94 : decode cX0_isBendBy 94 = .ok (.getfield 199, 3) := dk_180 0 199 (dk_at dksX0_isBendBy_4 0 rfl rfl)
theorem dX0_isBendBy_97 : decode cX0_isBendBy 97 = .ok (.bipush 9, 2) := dk_16 9 (dk_at dksX0_isBendBy_4 3 rfl rfl)
theorem dX0_isBendBy_99 : decode cX0_isBendBy 99 = .ok (.iload 4, 2) := dk_21 4 (dk_at dksX0_isBendBy_4 5 rfl rfl)
theorem dX0_isBendBy_101 : decode cX0_isBendBy 101 = .ok (.i2l, 1) := dk_133 (dk_at dksX0_isBendBy_4 7 rfl rfl)
theorem dX0_isBendBy_102 : decode cX0_isBendBy 102 = .ok (.lastore, 1) := dk_80 (dk_at dksX0_isBendBy_4 8 rfl rfl)
theorem dX0_isBendBy_103 : decode cX0_isBendBy 103 = .ok (.aload_n 0, 1) := dk_42 (dk_at dksX0_isBendBy_4 9 rfl rfl)
theorem dX0_isBendBy_104 : decode cX0_isBendBy 104 = .ok (.getfield 31, 3) := dk_180 0 31 (dk_at dksX0_isBendBy_4 10 rfl rfl)
theorem dX0_isBendBy_107 : decode cX0_isBendBy 107 = .ok (.getfield 195, 3) := dk_180 0 195 (dk_at dksX0_isBendBy_4 13 rfl rfl)
theorem dX0_isBendBy_110 : decode cX0_isBendBy 110 = .ok (.aload_n 0, 1) := dk_42 (dk_at dksX0_isBendBy_4 16 rfl rfl)
theorem dX0_isBendBy_111 : decode cX0_isBendBy 111 = .ok (.getfield 55, 3) := dk_180 0 55 (dk_at dksX0_isBendBy_4 17 rfl rfl)
theorem dX0_isBendBy_114 : decode cX0_isBendBy 114 = .ok (.invokevirtual 203, 3) := dk_182 0 203 (dk_at dksX0_isBendBy_4 20 rfl rfl)
theorem dX0_isBendBy_117 : decode cX0_isBendBy 117 = .ok (.ireturn, 1) := dk_172 (dk_at dksX0_isBendBy_4 23 rfl rfl)
abbrev cX0_turnOf : ByteArray := prog_1_method_22_code
def yX0_turnOf : MethodName := ⟨RX0, "turnOf", "(IIII)I"⟩
def dkwX0_turnOf_1 : List UInt8 := [104, 100, 184, 0, 188, 172]
abbrev dktX0_turnOf_1 : List UInt8 := dkwX0_turnOf_1 ++ []
def dkwX0_turnOf_0 : List UInt8 := [27, 153, 0, 13, 27, 42, 182, 0, 169, 4, 100, 160, 0, 7, 3, 167, 0, 14, 28, 21, 4, 96, 5, 29]
abbrev dktX0_turnOf_0 : List UInt8 := dkwX0_turnOf_0 ++ dktX0_turnOf_1
theorem dksX0_turnOf_0 : cX0_turnOf.data.toList.drop 0 = dktX0_turnOf_0 := by decide +kernel
theorem dksX0_turnOf_1 : cX0_turnOf.data.toList.drop 24 = dktX0_turnOf_1 := dk_seg dksX0_turnOf_0 24 rfl rfl
theorem dX0_turnOf_0 : decode cX0_turnOf 0 = .ok (.iload_n 1, 1) := dk_27 (dk_at dksX0_turnOf_0 0 rfl rfl)
theorem dX0_turnOf_1 : decode cX0_turnOf 1 = .ok (.ifCond .eq 13, 3) := dk_153 0 13 (dk_at dksX0_turnOf_0 1 rfl rfl)
theorem dX0_turnOf_4 : decode cX0_turnOf 4 = .ok (.iload_n 1, 1) := dk_27 (dk_at dksX0_turnOf_0 4 rfl rfl)
theorem dX0_turnOf_5 : decode cX0_turnOf 5 = .ok (.aload_n 0, 1) := dk_42 (dk_at dksX0_turnOf_0 5 rfl rfl)
theorem dX0_turnOf_6 : decode cX0_turnOf 6 = .ok (.invokevirtual 169, 3) := dk_182 0 169 (dk_at dksX0_turnOf_0 6 rfl rfl)
theorem dX0_turnOf_9 : decode cX0_turnOf 9 = .ok (.iconst 1, 1) := dk_4 (dk_at dksX0_turnOf_0 9 rfl rfl)
theorem dX0_turnOf_10 : decode cX0_turnOf 10 = .ok (.isub, 1) := dk_100 (dk_at dksX0_turnOf_0 10 rfl rfl)
theorem dX0_turnOf_11 : decode cX0_turnOf 11 = .ok (.if_icmp .ne 7, 3) := dk_160 0 7 (dk_at dksX0_turnOf_0 11 rfl rfl)
theorem dX0_turnOf_14 : decode cX0_turnOf 14 = .ok (.iconst 0, 1) := dk_3 (dk_at dksX0_turnOf_0 14 rfl rfl)
theorem dX0_turnOf_15 : decode cX0_turnOf 15 = .ok (.goto 14, 3) := dk_167 0 14 (dk_at dksX0_turnOf_0 15 rfl rfl)
theorem dX0_turnOf_18 : decode cX0_turnOf 18 = .ok (.iload_n 2, 1) := dk_28 (dk_at dksX0_turnOf_0 18 rfl rfl)
theorem dX0_turnOf_19 : decode cX0_turnOf 19 = .ok (.iload 4, 2) := dk_21 4 (dk_at dksX0_turnOf_0 19 rfl rfl)
theorem dX0_turnOf_21 : decode cX0_turnOf 21 = .ok (.iadd, 1) := dk_96 (dk_at dksX0_turnOf_0 21 rfl rfl)
theorem dX0_turnOf_22 : decode cX0_turnOf 22 = .ok (.iconst 2, 1) := dk_5 (dk_at dksX0_turnOf_0 22 rfl rfl)
theorem dX0_turnOf_23 : decode cX0_turnOf 23 = .ok (.iload_n 3, 1) := dk_29 (dk_at dksX0_turnOf_0 23 rfl rfl)
theorem dX0_turnOf_24 : decode cX0_turnOf 24 = .ok (.imul, 1) := dk_104 (dk_at dksX0_turnOf_1 0 rfl rfl)
theorem dX0_turnOf_25 : decode cX0_turnOf 25 = .ok (.isub, 1) := dk_100 (dk_at dksX0_turnOf_1 1 rfl rfl)
theorem dX0_turnOf_26 : decode cX0_turnOf 26 = .ok (.invokestatic 188, 3) := dk_184 0 188 (dk_at dksX0_turnOf_1 2 rfl rfl)
theorem dX0_turnOf_29 : decode cX0_turnOf 29 = .ok (.ireturn, 1) := dk_172 (dk_at dksX0_turnOf_1 5 rfl rfl)
abbrev cX0_held : ByteArray := prog_1_method_3_code
def yX0_held : MethodName := ⟨RX0, "held", "(J)J"⟩
def dkwX0_held_0 : List UInt8 := [20, 0, 3, 20, 0, 5, 30, 184, 0, 7, 184, 0, 13, 173]
abbrev dktX0_held_0 : List UInt8 := dkwX0_held_0 ++ []
theorem dksX0_held_0 : cX0_held.data.toList.drop 0 = dktX0_held_0 := by decide +kernel
theorem dX0_held_0 : decode cX0_held 0 = .ok (.ldc2_w 3, 3) := dk_20 0 3 (dk_at dksX0_held_0 0 rfl rfl)
theorem dX0_held_3 : decode cX0_held 3 = .ok (.ldc2_w 5, 3) := dk_20 0 5 (dk_at dksX0_held_0 3 rfl rfl)
theorem dX0_held_6 : decode cX0_held 6 = .ok (.lload_n 0, 1) := dk_30 (dk_at dksX0_held_0 6 rfl rfl)
theorem dX0_held_7 : decode cX0_held 7 = .ok (.invokestatic 7, 3) := dk_184 0 7 (dk_at dksX0_held_0 7 rfl rfl)
theorem dX0_held_10 : decode cX0_held 10 = .ok (.invokestatic 13, 3) := dk_184 0 13 (dk_at dksX0_held_0 10 rfl rfl)
theorem dX0_held_13 : decode cX0_held 13 = .ok (.lreturn, 1) := dk_173 (dk_at dksX0_held_0 13 rfl rfl)
abbrev cX0_looked : ByteArray := prog_1_method_64_code
def yX0_looked : MethodName := ⟨RX0, "looked", "(IJ)J"⟩
def dkwX0_looked_2 : List UInt8 := [173]
abbrev dktX0_looked_2 : List UInt8 := dkwX0_looked_2 ++ []
def dkwX0_looked_1 : List UInt8 := [42, 180, 0, 69, 180, 0, 238, 32, 136, 46, 133, 167, 0, 13, 42, 180, 0, 69, 32, 136, 182, 0, 241, 133]
abbrev dktX0_looked_1 : List UInt8 := dkwX0_looked_1 ++ dktX0_looked_2
def dkwX0_looked_0 : List UInt8 := [32, 9, 148, 155, 0, 13, 32, 42, 182, 0, 169, 133, 148, 155, 0, 7, 20, 1, 130, 173, 27, 154, 0, 17]
abbrev dktX0_looked_0 : List UInt8 := dkwX0_looked_0 ++ dktX0_looked_1
theorem dksX0_looked_0 : cX0_looked.data.toList.drop 0 = dktX0_looked_0 := by decide +kernel
theorem dksX0_looked_1 : cX0_looked.data.toList.drop 24 = dktX0_looked_1 := dk_seg dksX0_looked_0 24 rfl rfl
theorem dksX0_looked_2 : cX0_looked.data.toList.drop 48 = dktX0_looked_2 := dk_seg dksX0_looked_1 24 rfl rfl
theorem dX0_looked_0 : decode cX0_looked 0 = .ok (.lload_n 2, 1) := dk_32 (dk_at dksX0_looked_0 0 rfl rfl)
theorem dX0_looked_1 : decode cX0_looked 1 = .ok (.lconst 0, 1) := dk_9 (dk_at dksX0_looked_0 1 rfl rfl)
theorem dX0_looked_2 : decode cX0_looked 2 = .ok (.lcmp, 1) := dk_148 (dk_at dksX0_looked_0 2 rfl rfl)
theorem dX0_looked_3 : decode cX0_looked 3 = .ok (.ifCond .lt 13, 3) := dk_155 0 13 (dk_at dksX0_looked_0 3 rfl rfl)
theorem dX0_looked_6 : decode cX0_looked 6 = .ok (.lload_n 2, 1) := dk_32 (dk_at dksX0_looked_0 6 rfl rfl)
theorem dX0_looked_7 : decode cX0_looked 7 = .ok (.aload_n 0, 1) := dk_42 (dk_at dksX0_looked_0 7 rfl rfl)
theorem dX0_looked_8 : decode cX0_looked 8 = .ok (.invokevirtual 169, 3) := dk_182 0 169 (dk_at dksX0_looked_0 8 rfl rfl)
theorem dX0_looked_11 : decode cX0_looked 11 = .ok (.i2l, 1) := dk_133 (dk_at dksX0_looked_0 11 rfl rfl)
theorem dX0_looked_12 : decode cX0_looked 12 = .ok (.lcmp, 1) := dk_148 (dk_at dksX0_looked_0 12 rfl rfl)
theorem dX0_looked_13 : decode cX0_looked 13 = .ok (.ifCond .lt 7, 3) := dk_155 0 7 (dk_at dksX0_looked_0 13 rfl rfl)
theorem dX0_looked_16 : decode cX0_looked 16 = .ok (.ldc2_w 386, 3) := dk_20 1 130 (dk_at dksX0_looked_0 16 rfl rfl)
theorem dX0_looked_19 : decode cX0_looked 19 = .ok (.lreturn, 1) := dk_173 (dk_at dksX0_looked_0 19 rfl rfl)
theorem dX0_looked_20 : decode cX0_looked 20 = .ok (.iload_n 1, 1) := dk_27 (dk_at dksX0_looked_0 20 rfl rfl)
theorem dX0_looked_21 : decode cX0_looked 21 = .ok (.ifCond .ne 17, 3) := dk_154 0 17 (dk_at dksX0_looked_0 21 rfl rfl)
theorem dX0_looked_24 : decode cX0_looked 24 = .ok (.aload_n 0, 1) := dk_42 (dk_at dksX0_looked_1 0 rfl rfl)
theorem dX0_looked_25 : decode cX0_looked 25 = .ok (.getfield 69, 3) := dk_180 0 69 (dk_at dksX0_looked_1 1 rfl rfl)
theorem dX0_looked_28 : decode cX0_looked 28 = .ok (.getfield 238, 3) := dk_180 0 238 (dk_at dksX0_looked_1 4 rfl rfl)
theorem dX0_looked_31 : decode cX0_looked 31 = .ok (.lload_n 2, 1) := dk_32 (dk_at dksX0_looked_1 7 rfl rfl)
theorem dX0_looked_32 : decode cX0_looked 32 = .ok (.l2i, 1) := dk_136 (dk_at dksX0_looked_1 8 rfl rfl)
theorem dX0_looked_33 : decode cX0_looked 33 = .ok (.iaload, 1) := dk_46 (dk_at dksX0_looked_1 9 rfl rfl)
theorem dX0_looked_34 : decode cX0_looked 34 = .ok (.i2l, 1) := dk_133 (dk_at dksX0_looked_1 10 rfl rfl)
theorem dX0_looked_35 : decode cX0_looked 35 = .ok (.goto 13, 3) := dk_167 0 13 (dk_at dksX0_looked_1 11 rfl rfl)
theorem dX0_looked_38 : decode cX0_looked 38 = .ok (.aload_n 0, 1) := dk_42 (dk_at dksX0_looked_1 14 rfl rfl)
theorem dX0_looked_39 : decode cX0_looked 39 = .ok (.getfield 69, 3) := dk_180 0 69 (dk_at dksX0_looked_1 15 rfl rfl)
theorem dX0_looked_42 : decode cX0_looked 42 = .ok (.lload_n 2, 1) := dk_32 (dk_at dksX0_looked_1 18 rfl rfl)
theorem dX0_looked_43 : decode cX0_looked 43 = .ok (.l2i, 1) := dk_136 (dk_at dksX0_looked_1 19 rfl rfl)
theorem dX0_looked_44 : decode cX0_looked 44 = .ok (.invokevirtual 241, 3) := dk_182 0 241 (dk_at dksX0_looked_1 20 rfl rfl)
theorem dX0_looked_47 : decode cX0_looked 47 = .ok (.i2l, 1) := dk_133 (dk_at dksX0_looked_1 23 rfl rfl)
theorem dX0_looked_48 : decode cX0_looked 48 = .ok (.lreturn, 1) := dk_173 (dk_at dksX0_looked_2 0 rfl rfl)
abbrev cX0_letter : ByteArray := prog_1_method_25_code
def yX0_letter : MethodName := ⟨RX0, "letter", "(II)I"⟩
def dkwX0_letter_1 : List UInt8 := [182, 0, 235, 167, 0, 4, 2, 172]
abbrev dktX0_letter_1 : List UInt8 := dkwX0_letter_1 ++ []
def dkwX0_letter_0 : List UInt8 := [42, 27, 182, 0, 228, 153, 0, 24, 28, 3, 8, 184, 0, 176, 153, 0, 15, 42, 27, 182, 0, 231, 28]
abbrev dktX0_letter_0 : List UInt8 := dkwX0_letter_0 ++ dktX0_letter_1
theorem dksX0_letter_0 : cX0_letter.data.toList.drop 0 = dktX0_letter_0 := by decide +kernel
theorem dksX0_letter_1 : cX0_letter.data.toList.drop 23 = dktX0_letter_1 := dk_seg dksX0_letter_0 23 rfl rfl
theorem dX0_letter_0 : decode cX0_letter 0 = .ok (.aload_n 0, 1) := dk_42 (dk_at dksX0_letter_0 0 rfl rfl)
theorem dX0_letter_1 : decode cX0_letter 1 = .ok (.iload_n 1, 1) := dk_27 (dk_at dksX0_letter_0 1 rfl rfl)
theorem dX0_letter_2 : decode cX0_letter 2 = .ok (.invokevirtual 228, 3) := dk_182 0 228 (dk_at dksX0_letter_0 2 rfl rfl)
theorem dX0_letter_5 : decode cX0_letter 5 = .ok (.ifCond .eq 24, 3) := dk_153 0 24 (dk_at dksX0_letter_0 5 rfl rfl)
theorem dX0_letter_8 : decode cX0_letter 8 = .ok (.iload_n 2, 1) := dk_28 (dk_at dksX0_letter_0 8 rfl rfl)
theorem dX0_letter_9 : decode cX0_letter 9 = .ok (.iconst 0, 1) := dk_3 (dk_at dksX0_letter_0 9 rfl rfl)
theorem dX0_letter_10 : decode cX0_letter 10 = .ok (.iconst 5, 1) := dk_8 (dk_at dksX0_letter_0 10 rfl rfl)
theorem dX0_letter_11 : decode cX0_letter 11 = .ok (.invokestatic 176, 3) := dk_184 0 176 (dk_at dksX0_letter_0 11 rfl rfl)
theorem dX0_letter_14 : decode cX0_letter 14 = .ok (.ifCond .eq 15, 3) := dk_153 0 15 (dk_at dksX0_letter_0 14 rfl rfl)
theorem dX0_letter_17 : decode cX0_letter 17 = .ok (.aload_n 0, 1) := dk_42 (dk_at dksX0_letter_0 17 rfl rfl)
theorem dX0_letter_18 : decode cX0_letter 18 = .ok (.iload_n 1, 1) := dk_27 (dk_at dksX0_letter_0 18 rfl rfl)
theorem dX0_letter_19 : decode cX0_letter 19 = .ok (.invokevirtual 231, 3) := dk_182 0 231 (dk_at dksX0_letter_0 19 rfl rfl)
theorem dX0_letter_22 : decode cX0_letter 22 = .ok (.iload_n 2, 1) := dk_28 (dk_at dksX0_letter_0 22 rfl rfl)
theorem dX0_letter_23 : decode cX0_letter 23 = .ok (.invokevirtual 235, 3) := dk_182 0 235 (dk_at dksX0_letter_1 0 rfl rfl)
theorem dX0_letter_26 : decode cX0_letter 26 = .ok (.goto 4, 3) := dk_167 0 4 (dk_at dksX0_letter_1 3 rfl rfl)
theorem dX0_letter_29 : decode cX0_letter 29 = .ok (.iconst (-1), 1) := dk_2 (dk_at dksX0_letter_1 6 rfl rfl)
theorem dX0_letter_30 : decode cX0_letter 30 = .ok (.ireturn, 1) := dk_172 (dk_at dksX0_letter_1 7 rfl rfl)
abbrev cX0_isLord : ByteArray := prog_1_method_20_code
def yX0_isLord : MethodName := ⟨RX0, "isLord", "(I)Z"⟩
def dkwX0_isLord_0 : List UInt8 := [27, 155, 0, 15, 27, 42, 182, 0, 180, 162, 0, 7, 4, 167, 0, 4, 3, 172]
abbrev dktX0_isLord_0 : List UInt8 := dkwX0_isLord_0 ++ []
theorem dksX0_isLord_0 : cX0_isLord.data.toList.drop 0 = dktX0_isLord_0 := by decide +kernel
theorem dX0_isLord_0 : decode cX0_isLord 0 = .ok (.iload_n 1, 1) := dk_27 (dk_at dksX0_isLord_0 0 rfl rfl)
theorem dX0_isLord_1 : decode cX0_isLord 1 = .ok (.ifCond .lt 15, 3) := dk_155 0 15 (dk_at dksX0_isLord_0 1 rfl rfl)
theorem dX0_isLord_4 : decode cX0_isLord 4 = .ok (.iload_n 1, 1) := dk_27 (dk_at dksX0_isLord_0 4 rfl rfl)
theorem dX0_isLord_5 : decode cX0_isLord 5 = .ok (.aload_n 0, 1) := dk_42 (dk_at dksX0_isLord_0 5 rfl rfl)
theorem dX0_isLord_6 : decode cX0_isLord 6 = .ok (.invokevirtual 180, 3) := dk_182 0 180 (dk_at dksX0_isLord_0 6 rfl rfl)
theorem dX0_isLord_9 : decode cX0_isLord 9 = .ok (.if_icmp .ge 7, 3) := dk_162 0 7 (dk_at dksX0_isLord_0 9 rfl rfl)
theorem dX0_isLord_12 : decode cX0_isLord 12 = .ok (.iconst 1, 1) := dk_4 (dk_at dksX0_isLord_0 12 rfl rfl)
theorem dX0_isLord_13 : decode cX0_isLord 13 = .ok (.goto 4, 3) := dk_167 0 4 (dk_at dksX0_isLord_0 13 rfl rfl)
theorem dX0_isLord_16 : decode cX0_isLord 16 = .ok (.iconst 0, 1) := dk_3 (dk_at dksX0_isLord_0 16 rfl rfl)
theorem dX0_isLord_17 : decode cX0_isLord 17 = .ok (.ireturn, 1) := dk_172 (dk_at dksX0_isLord_0 17 rfl rfl)
abbrev cX0_column : ByteArray := prog_1_method_26_code
def yX0_column : MethodName := ⟨RX0, "column", "(II)I"⟩
def dkwX0_column_3 : List UInt8 := [182, 0, 244, 153, 0, 7, 4, 167, 0, 4, 3, 172, 42, 180, 0, 69, 27, 182, 0, 247, 172, 2, 172]
abbrev dktX0_column_3 : List UInt8 := dkwX0_column_3 ++ []
def dkwX0_column_2 : List UInt8 := [42, 180, 0, 69, 180, 0, 238, 27, 46, 172, 42, 180, 0, 69, 27, 182, 0, 241, 172, 42, 180, 0, 69, 27]
abbrev dktX0_column_2 : List UInt8 := dkwX0_column_2 ++ dktX0_column_3
def dkwX0_column_1 : List UInt8 := [170, 0, 0, 0, 74, 0, 0, 0, 0, 0, 0, 0, 3, 0, 0, 0, 29, 0, 0, 0, 39, 0, 0, 0, 48, 0, 0, 0, 65]
abbrev dktX0_column_1 : List UInt8 := dkwX0_column_1 ++ dktX0_column_2
def dkwX0_column_0 : List UInt8 := [42, 27, 182, 0, 171, 154, 0, 5, 2, 172, 28]
abbrev dktX0_column_0 : List UInt8 := dkwX0_column_0 ++ dktX0_column_1
theorem dksX0_column_0 : cX0_column.data.toList.drop 0 = dktX0_column_0 := by decide +kernel
theorem dksX0_column_1 : cX0_column.data.toList.drop 11 = dktX0_column_1 := dk_seg dksX0_column_0 11 rfl rfl
theorem dksX0_column_2 : cX0_column.data.toList.drop 40 = dktX0_column_2 := dk_seg dksX0_column_1 29 rfl rfl
theorem dksX0_column_3 : cX0_column.data.toList.drop 64 = dktX0_column_3 := dk_seg dksX0_column_2 24 rfl rfl
theorem dX0_column_0 : decode cX0_column 0 = .ok (.aload_n 0, 1) := dk_42 (dk_at dksX0_column_0 0 rfl rfl)
theorem dX0_column_1 : decode cX0_column 1 = .ok (.iload_n 1, 1) := dk_27 (dk_at dksX0_column_0 1 rfl rfl)
theorem dX0_column_2 : decode cX0_column 2 = .ok (.invokevirtual 171, 3) := dk_182 0 171 (dk_at dksX0_column_0 2 rfl rfl)
theorem dX0_column_5 : decode cX0_column 5 = .ok (.ifCond .ne 5, 3) := dk_154 0 5 (dk_at dksX0_column_0 5 rfl rfl)
theorem dX0_column_8 : decode cX0_column 8 = .ok (.iconst (-1), 1) := dk_2 (dk_at dksX0_column_0 8 rfl rfl)
theorem dX0_column_9 : decode cX0_column 9 = .ok (.ireturn, 1) := dk_172 (dk_at dksX0_column_0 9 rfl rfl)
theorem dX0_column_10 : decode cX0_column 10 = .ok (.iload_n 2, 1) := dk_28 (dk_at dksX0_column_0 10 rfl rfl)
theorem dX0_column_11 : decode cX0_column 11 = .ok (.tableswitch 74 0 3 #[29, 39, 48, 65], 29) := by decide +kernel
theorem dX0_column_40 : decode cX0_column 40 = .ok (.aload_n 0, 1) := dk_42 (dk_at dksX0_column_2 0 rfl rfl)
theorem dX0_column_41 : decode cX0_column 41 = .ok (.getfield 69, 3) := dk_180 0 69 (dk_at dksX0_column_2 1 rfl rfl)
theorem dX0_column_44 : decode cX0_column 44 = .ok (.getfield 238, 3) := dk_180 0 238 (dk_at dksX0_column_2 4 rfl rfl)
theorem dX0_column_47 : decode cX0_column 47 = .ok (.iload_n 1, 1) := dk_27 (dk_at dksX0_column_2 7 rfl rfl)
theorem dX0_column_48 : decode cX0_column 48 = .ok (.iaload, 1) := dk_46 (dk_at dksX0_column_2 8 rfl rfl)
theorem dX0_column_49 : decode cX0_column 49 = .ok (.ireturn, 1) := dk_172 (dk_at dksX0_column_2 9 rfl rfl)
theorem dX0_column_50 : decode cX0_column 50 = .ok (.aload_n 0, 1) := dk_42 (dk_at dksX0_column_2 10 rfl rfl)
theorem dX0_column_51 : decode cX0_column 51 = .ok (.getfield 69, 3) := dk_180 0 69 (dk_at dksX0_column_2 11 rfl rfl)
theorem dX0_column_54 : decode cX0_column 54 = .ok (.iload_n 1, 1) := dk_27 (dk_at dksX0_column_2 14 rfl rfl)
theorem dX0_column_55 : decode cX0_column 55 = .ok (.invokevirtual 241, 3) := dk_182 0 241 (dk_at dksX0_column_2 15 rfl rfl)
theorem dX0_column_58 : decode cX0_column 58 = .ok (.ireturn, 1) := dk_172 (dk_at dksX0_column_2 18 rfl rfl)
theorem dX0_column_59 : decode cX0_column 59 = .ok (.aload_n 0, 1) := dk_42 (dk_at dksX0_column_2 19 rfl rfl)
theorem dX0_column_60 : decode cX0_column 60 = .ok (.getfield 69, 3) := dk_180 0 69 (dk_at dksX0_column_2 20 rfl rfl)
theorem dX0_column_63 : decode cX0_column 63 = .ok (.iload_n 1, 1) := dk_27 (dk_at dksX0_column_2 23 rfl rfl)
theorem dX0_column_64 : decode cX0_column 64 = .ok (.invokevirtual 244, 3) := dk_182 0 244 (dk_at dksX0_column_3 0 rfl rfl)
theorem dX0_column_67 : decode cX0_column 67 = .ok (.ifCond .eq 7, 3) := dk_153 0 7 (dk_at dksX0_column_3 3 rfl rfl)
theorem dX0_column_70 : decode cX0_column 70 = .ok (.iconst 1, 1) := dk_4 (dk_at dksX0_column_3 6 rfl rfl)
theorem dX0_column_71 : decode cX0_column 71 = .ok (.goto 4, 3) := dk_167 0 4 (dk_at dksX0_column_3 7 rfl rfl)
theorem dX0_column_74 : decode cX0_column 74 = .ok (.iconst 0, 1) := dk_3 (dk_at dksX0_column_3 10 rfl rfl)
theorem dX0_column_75 : decode cX0_column 75 = .ok (.ireturn, 1) := dk_172 (dk_at dksX0_column_3 11 rfl rfl)
theorem dX0_column_76 : decode cX0_column 76 = .ok (.aload_n 0, 1) := dk_42 (dk_at dksX0_column_3 12 rfl rfl)
theorem dX0_column_77 : decode cX0_column 77 = .ok (.getfield 69, 3) := dk_180 0 69 (dk_at dksX0_column_3 13 rfl rfl)
theorem dX0_column_80 : decode cX0_column 80 = .ok (.iload_n 1, 1) := dk_27 (dk_at dksX0_column_3 16 rfl rfl)
theorem dX0_column_81 : decode cX0_column 81 = .ok (.invokevirtual 247, 3) := dk_182 0 247 (dk_at dksX0_column_3 17 rfl rfl)
theorem dX0_column_84 : decode cX0_column 84 = .ok (.ireturn, 1) := dk_172 (dk_at dksX0_column_3 20 rfl rfl)
theorem dX0_column_85 : decode cX0_column 85 = .ok (.iconst (-1), 1) := dk_2 (dk_at dksX0_column_3 21 rfl rfl)
theorem dX0_column_86 : decode cX0_column 86 = .ok (.ireturn, 1) := dk_172 (dk_at dksX0_column_3 22 rfl rfl)
abbrev cX0_isColumn : ByteArray := prog_1_method_18_code
def yX0_isColumn : MethodName := ⟨RX0, "isColumn", "(I)Z"⟩
def dkwX0_isColumn_0 : List UInt8 := [27, 155, 0, 15, 27, 42, 182, 0, 169, 162, 0, 7, 4, 167, 0, 4, 3, 172]
abbrev dktX0_isColumn_0 : List UInt8 := dkwX0_isColumn_0 ++ []
theorem dksX0_isColumn_0 : cX0_isColumn.data.toList.drop 0 = dktX0_isColumn_0 := by decide +kernel
theorem dX0_isColumn_0 : decode cX0_isColumn 0 = .ok (.iload_n 1, 1) := dk_27 (dk_at dksX0_isColumn_0 0 rfl rfl)
theorem dX0_isColumn_1 : decode cX0_isColumn 1 = .ok (.ifCond .lt 15, 3) := dk_155 0 15 (dk_at dksX0_isColumn_0 1 rfl rfl)
theorem dX0_isColumn_4 : decode cX0_isColumn 4 = .ok (.iload_n 1, 1) := dk_27 (dk_at dksX0_isColumn_0 4 rfl rfl)
theorem dX0_isColumn_5 : decode cX0_isColumn 5 = .ok (.aload_n 0, 1) := dk_42 (dk_at dksX0_isColumn_0 5 rfl rfl)
theorem dX0_isColumn_6 : decode cX0_isColumn 6 = .ok (.invokevirtual 169, 3) := dk_182 0 169 (dk_at dksX0_isColumn_0 6 rfl rfl)
theorem dX0_isColumn_9 : decode cX0_isColumn 9 = .ok (.if_icmp .ge 7, 3) := dk_162 0 7 (dk_at dksX0_isColumn_0 9 rfl rfl)
theorem dX0_isColumn_12 : decode cX0_isColumn 12 = .ok (.iconst 1, 1) := dk_4 (dk_at dksX0_isColumn_0 12 rfl rfl)
theorem dX0_isColumn_13 : decode cX0_isColumn 13 = .ok (.goto 4, 3) := dk_167 0 4 (dk_at dksX0_isColumn_0 13 rfl rfl)
theorem dX0_isColumn_16 : decode cX0_isColumn 16 = .ok (.iconst 0, 1) := dk_3 (dk_at dksX0_isColumn_0 16 rfl rfl)
theorem dX0_isColumn_17 : decode cX0_isColumn 17 = .ok (.ireturn, 1) := dk_172 (dk_at dksX0_isColumn_0 17 rfl rfl)
abbrev cX0_cell : ByteArray := prog_1_method_27_code
def yX0_cell : MethodName := ⟨RX0, "cell", "(III)I"⟩
def dkwX0_cell_2 : List UInt8 := [29, 5, 160, 0, 17, 42, 180, 0, 69, 180, 1, 1, 27, 50, 28, 46, 167, 0, 4, 2, 172]
abbrev dktX0_cell_2 : List UInt8 := dkwX0_cell_2 ++ []
def dkwX0_cell_1 : List UInt8 := [28, 46, 167, 0, 42, 29, 4, 160, 0, 17, 42, 180, 0, 69, 180, 0, 222, 27, 50, 28, 46, 167, 0, 23]
abbrev dktX0_cell_1 : List UInt8 := dkwX0_cell_1 ++ dktX0_cell_2
def dkwX0_cell_0 : List UInt8 := [42, 27, 28, 182, 0, 250, 154, 0, 5, 2, 172, 29, 154, 0, 17, 42, 180, 0, 31, 180, 0, 254, 27, 50]
abbrev dktX0_cell_0 : List UInt8 := dkwX0_cell_0 ++ dktX0_cell_1
theorem dksX0_cell_0 : cX0_cell.data.toList.drop 0 = dktX0_cell_0 := by decide +kernel
theorem dksX0_cell_1 : cX0_cell.data.toList.drop 24 = dktX0_cell_1 := dk_seg dksX0_cell_0 24 rfl rfl
theorem dksX0_cell_2 : cX0_cell.data.toList.drop 48 = dktX0_cell_2 := dk_seg dksX0_cell_1 24 rfl rfl
theorem dX0_cell_0 : decode cX0_cell 0 = .ok (.aload_n 0, 1) := dk_42 (dk_at dksX0_cell_0 0 rfl rfl)
theorem dX0_cell_1 : decode cX0_cell 1 = .ok (.iload_n 1, 1) := dk_27 (dk_at dksX0_cell_0 1 rfl rfl)
theorem dX0_cell_2 : decode cX0_cell 2 = .ok (.iload_n 2, 1) := dk_28 (dk_at dksX0_cell_0 2 rfl rfl)
theorem dX0_cell_3 : decode cX0_cell 3 = .ok (.invokevirtual 250, 3) := dk_182 0 250 (dk_at dksX0_cell_0 3 rfl rfl)
theorem dX0_cell_6 : decode cX0_cell 6 = .ok (.ifCond .ne 5, 3) := dk_154 0 5 (dk_at dksX0_cell_0 6 rfl rfl)
theorem dX0_cell_9 : decode cX0_cell 9 = .ok (.iconst (-1), 1) := dk_2 (dk_at dksX0_cell_0 9 rfl rfl)
theorem dX0_cell_10 : decode cX0_cell 10 = .ok (.ireturn, 1) := dk_172 (dk_at dksX0_cell_0 10 rfl rfl)
theorem dX0_cell_11 : decode cX0_cell 11 = .ok (.iload_n 3, 1) := dk_29 (dk_at dksX0_cell_0 11 rfl rfl)
theorem dX0_cell_12 : decode cX0_cell 12 = .ok (.ifCond .ne 17, 3) := dk_154 0 17 (dk_at dksX0_cell_0 12 rfl rfl)
theorem dX0_cell_15 : decode cX0_cell 15 = .ok (.aload_n 0, 1) := dk_42 (dk_at dksX0_cell_0 15 rfl rfl)
theorem dX0_cell_16 : decode cX0_cell 16 = .ok (.getfield 31, 3) := dk_180 0 31 (dk_at dksX0_cell_0 16 rfl rfl)
theorem dX0_cell_19 : decode cX0_cell 19 = .ok (.getfield 254, 3) := dk_180 0 254 (dk_at dksX0_cell_0 19 rfl rfl)
theorem dX0_cell_22 : decode cX0_cell 22 = .ok (.iload_n 1, 1) := dk_27 (dk_at dksX0_cell_0 22 rfl rfl)
theorem dX0_cell_23 : decode cX0_cell 23 = .ok (.aaload, 1) := dk_50 (dk_at dksX0_cell_0 23 rfl rfl)
theorem dX0_cell_24 : decode cX0_cell 24 = .ok (.iload_n 2, 1) := dk_28 (dk_at dksX0_cell_1 0 rfl rfl)
theorem dX0_cell_25 : decode cX0_cell 25 = .ok (.iaload, 1) := dk_46 (dk_at dksX0_cell_1 1 rfl rfl)
theorem dX0_cell_26 : decode cX0_cell 26 = .ok (.goto 42, 3) := dk_167 0 42 (dk_at dksX0_cell_1 2 rfl rfl)
theorem dX0_cell_29 : decode cX0_cell 29 = .ok (.iload_n 3, 1) := dk_29 (dk_at dksX0_cell_1 5 rfl rfl)
theorem dX0_cell_30 : decode cX0_cell 30 = .ok (.iconst 1, 1) := dk_4 (dk_at dksX0_cell_1 6 rfl rfl)
theorem dX0_cell_31 : decode cX0_cell 31 = .ok (.if_icmp .ne 17, 3) := dk_160 0 17 (dk_at dksX0_cell_1 7 rfl rfl)
theorem dX0_cell_34 : decode cX0_cell 34 = .ok (.aload_n 0, 1) := dk_42 (dk_at dksX0_cell_1 10 rfl rfl)
theorem dX0_cell_35 : decode cX0_cell 35 = .ok (.getfield 69, 3) := dk_180 0 69 (dk_at dksX0_cell_1 11 rfl rfl)
theorem dX0_cell_38 : decode cX0_cell 38 = .ok (.getfield 222, 3) := dk_180 0 222 (dk_at dksX0_cell_1 14 rfl rfl)
theorem dX0_cell_41 : decode cX0_cell 41 = .ok (.iload_n 1, 1) := dk_27 (dk_at dksX0_cell_1 17 rfl rfl)
theorem dX0_cell_42 : decode cX0_cell 42 = .ok (.aaload, 1) := dk_50 (dk_at dksX0_cell_1 18 rfl rfl)
theorem dX0_cell_43 : decode cX0_cell 43 = .ok (.iload_n 2, 1) := dk_28 (dk_at dksX0_cell_1 19 rfl rfl)
theorem dX0_cell_44 : decode cX0_cell 44 = .ok (.iaload, 1) := dk_46 (dk_at dksX0_cell_1 20 rfl rfl)
theorem dX0_cell_45 : decode cX0_cell 45 = .ok (.goto 23, 3) := dk_167 0 23 (dk_at dksX0_cell_1 21 rfl rfl)
theorem dX0_cell_48 : decode cX0_cell 48 = .ok (.iload_n 3, 1) := dk_29 (dk_at dksX0_cell_2 0 rfl rfl)
theorem dX0_cell_49 : decode cX0_cell 49 = .ok (.iconst 2, 1) := dk_5 (dk_at dksX0_cell_2 1 rfl rfl)
theorem dX0_cell_50 : decode cX0_cell 50 = .ok (.if_icmp .ne 17, 3) := dk_160 0 17 (dk_at dksX0_cell_2 2 rfl rfl)
theorem dX0_cell_53 : decode cX0_cell 53 = .ok (.aload_n 0, 1) := dk_42 (dk_at dksX0_cell_2 5 rfl rfl)
theorem dX0_cell_54 : decode cX0_cell 54 = .ok (.getfield 69, 3) := dk_180 0 69 (dk_at dksX0_cell_2 6 rfl rfl)
theorem dX0_cell_57 : decode cX0_cell 57 = .ok (.getfield 257, 3) := dk_180 1 1 (dk_at dksX0_cell_2 9 rfl rfl)
theorem dX0_cell_60 : decode cX0_cell 60 = .ok (.iload_n 1, 1) := dk_27 (dk_at dksX0_cell_2 12 rfl rfl)
theorem dX0_cell_61 : decode cX0_cell 61 = .ok (.aaload, 1) := dk_50 (dk_at dksX0_cell_2 13 rfl rfl)
theorem dX0_cell_62 : decode cX0_cell 62 = .ok (.iload_n 2, 1) := dk_28 (dk_at dksX0_cell_2 14 rfl rfl)
theorem dX0_cell_63 : decode cX0_cell 63 = .ok (.iaload, 1) := dk_46 (dk_at dksX0_cell_2 15 rfl rfl)
theorem dX0_cell_64 : decode cX0_cell 64 = .ok (.goto 4, 3) := dk_167 0 4 (dk_at dksX0_cell_2 16 rfl rfl)
theorem dX0_cell_67 : decode cX0_cell 67 = .ok (.iconst (-1), 1) := dk_2 (dk_at dksX0_cell_2 19 rfl rfl)
theorem dX0_cell_68 : decode cX0_cell 68 = .ok (.ireturn, 1) := dk_172 (dk_at dksX0_cell_2 20 rfl rfl)
abbrev cX0_isCell : ByteArray := prog_1_method_19_code
def yX0_isCell : MethodName := ⟨RX0, "isCell", "(II)Z"⟩
def dkwX0_isCell_1 : List UInt8 := [153, 0, 7, 4, 167, 0, 4, 3, 172]
abbrev dktX0_isCell_1 : List UInt8 := dkwX0_isCell_1 ++ []
def dkwX0_isCell_0 : List UInt8 := [42, 27, 182, 0, 171, 153, 0, 24, 28, 3, 42, 180, 0, 31, 180, 0, 175, 4, 100, 184, 0, 176]
abbrev dktX0_isCell_0 : List UInt8 := dkwX0_isCell_0 ++ dktX0_isCell_1
theorem dksX0_isCell_0 : cX0_isCell.data.toList.drop 0 = dktX0_isCell_0 := by decide +kernel
theorem dksX0_isCell_1 : cX0_isCell.data.toList.drop 22 = dktX0_isCell_1 := dk_seg dksX0_isCell_0 22 rfl rfl
theorem dX0_isCell_0 : decode cX0_isCell 0 = .ok (.aload_n 0, 1) := dk_42 (dk_at dksX0_isCell_0 0 rfl rfl)
theorem dX0_isCell_1 : decode cX0_isCell 1 = .ok (.iload_n 1, 1) := dk_27 (dk_at dksX0_isCell_0 1 rfl rfl)
theorem dX0_isCell_2 : decode cX0_isCell 2 = .ok (.invokevirtual 171, 3) := dk_182 0 171 (dk_at dksX0_isCell_0 2 rfl rfl)
theorem dX0_isCell_5 : decode cX0_isCell 5 = .ok (.ifCond .eq 24, 3) := dk_153 0 24 (dk_at dksX0_isCell_0 5 rfl rfl)
theorem dX0_isCell_8 : decode cX0_isCell 8 = .ok (.iload_n 2, 1) := dk_28 (dk_at dksX0_isCell_0 8 rfl rfl)
theorem dX0_isCell_9 : decode cX0_isCell 9 = .ok (.iconst 0, 1) := dk_3 (dk_at dksX0_isCell_0 9 rfl rfl)
theorem dX0_isCell_10 : decode cX0_isCell 10 = .ok (.aload_n 0, 1) := dk_42 (dk_at dksX0_isCell_0 10 rfl rfl)
theorem dX0_isCell_11 : decode cX0_isCell 11 = .ok (.getfield 31, 3) := dk_180 0 31 (dk_at dksX0_isCell_0 11 rfl rfl)
theorem dX0_isCell_14 : decode cX0_isCell 14 = .ok (.getfield 175, 3) := dk_180 0 175 (dk_at dksX0_isCell_0 14 rfl rfl)
theorem dX0_isCell_17 : decode cX0_isCell 17 = .ok (.iconst 1, 1) := dk_4 (dk_at dksX0_isCell_0 17 rfl rfl)
theorem dX0_isCell_18 : decode cX0_isCell 18 = .ok (.isub, 1) := dk_100 (dk_at dksX0_isCell_0 18 rfl rfl)
theorem dX0_isCell_19 : decode cX0_isCell 19 = .ok (.invokestatic 176, 3) := dk_184 0 176 (dk_at dksX0_isCell_0 19 rfl rfl)
theorem dX0_isCell_22 : decode cX0_isCell 22 = .ok (.ifCond .eq 7, 3) := dk_153 0 7 (dk_at dksX0_isCell_1 0 rfl rfl)
theorem dX0_isCell_25 : decode cX0_isCell 25 = .ok (.iconst 1, 1) := dk_4 (dk_at dksX0_isCell_1 3 rfl rfl)
theorem dX0_isCell_26 : decode cX0_isCell 26 = .ok (.goto 4, 3) := dk_167 0 4 (dk_at dksX0_isCell_1 4 rfl rfl)
theorem dX0_isCell_29 : decode cX0_isCell 29 = .ok (.iconst 0, 1) := dk_3 (dk_at dksX0_isCell_1 7 rfl rfl)
theorem dX0_isCell_30 : decode cX0_isCell 30 = .ok (.ireturn, 1) := dk_172 (dk_at dksX0_isCell_1 8 rfl rfl)
abbrev cX0_eats : ByteArray := prog_1_method_28_code
def yX0_eats : MethodName := ⟨RX0, "eats", "(II)J"⟩
def dkwX0_eats_1 : List UInt8 := [173]
abbrev dktX0_eats_1 : List UInt8 := dkwX0_eats_1 ++ []
def dkwX0_eats_0 : List UInt8 := [42, 27, 28, 182, 0, 250, 153, 0, 15, 42, 180, 0, 69, 27, 28, 182, 1, 4, 167, 0, 6, 20, 1, 8]
abbrev dktX0_eats_0 : List UInt8 := dkwX0_eats_0 ++ dktX0_eats_1
theorem dksX0_eats_0 : cX0_eats.data.toList.drop 0 = dktX0_eats_0 := by decide +kernel
theorem dksX0_eats_1 : cX0_eats.data.toList.drop 24 = dktX0_eats_1 := dk_seg dksX0_eats_0 24 rfl rfl
theorem dX0_eats_0 : decode cX0_eats 0 = .ok (.aload_n 0, 1) := dk_42 (dk_at dksX0_eats_0 0 rfl rfl)
theorem dX0_eats_1 : decode cX0_eats 1 = .ok (.iload_n 1, 1) := dk_27 (dk_at dksX0_eats_0 1 rfl rfl)
theorem dX0_eats_2 : decode cX0_eats 2 = .ok (.iload_n 2, 1) := dk_28 (dk_at dksX0_eats_0 2 rfl rfl)
theorem dX0_eats_3 : decode cX0_eats 3 = .ok (.invokevirtual 250, 3) := dk_182 0 250 (dk_at dksX0_eats_0 3 rfl rfl)
theorem dX0_eats_6 : decode cX0_eats 6 = .ok (.ifCond .eq 15, 3) := dk_153 0 15 (dk_at dksX0_eats_0 6 rfl rfl)
theorem dX0_eats_9 : decode cX0_eats 9 = .ok (.aload_n 0, 1) := dk_42 (dk_at dksX0_eats_0 9 rfl rfl)
theorem dX0_eats_10 : decode cX0_eats 10 = .ok (.getfield 69, 3) := dk_180 0 69 (dk_at dksX0_eats_0 10 rfl rfl)
theorem dX0_eats_13 : decode cX0_eats 13 = .ok (.iload_n 1, 1) := dk_27 (dk_at dksX0_eats_0 13 rfl rfl)
theorem dX0_eats_14 : decode cX0_eats 14 = .ok (.iload_n 2, 1) := dk_28 (dk_at dksX0_eats_0 14 rfl rfl)
theorem dX0_eats_15 : decode cX0_eats 15 = .ok (.invokevirtual 260, 3) := dk_182 1 4 (dk_at dksX0_eats_0 15 rfl rfl)
theorem dX0_eats_18 : decode cX0_eats 18 = .ok (.goto 6, 3) := dk_167 0 6 (dk_at dksX0_eats_0 18 rfl rfl)
theorem dX0_eats_21 : decode cX0_eats 21 = .ok (.ldc2_w 264, 3) := dk_20 1 8 (dk_at dksX0_eats_0 21 rfl rfl)
theorem dX0_eats_24 : decode cX0_eats 24 = .ok (.lreturn, 1) := dk_173 (dk_at dksX0_eats_1 0 rfl rfl)
abbrev cX0_lord : ByteArray := prog_1_method_29_code
def yX0_lord : MethodName := ⟨RX0, "lord", "(II)I"⟩
def dkwX0_lord_4 : List UInt8 := [42, 180, 0, 69, 27, 182, 1, 24, 172, 2, 172]
abbrev dktX0_lord_4 : List UInt8 := dkwX0_lord_4 ++ []
def dkwX0_lord_3 : List UInt8 := [180, 1, 21, 27, 46, 172, 42, 180, 0, 69, 180, 0, 218, 27, 51, 153, 0, 7, 4, 167, 0, 4, 3, 172]
abbrev dktX0_lord_3 : List UInt8 := dkwX0_lord_3 ++ dktX0_lord_4
def dkwX0_lord_2 : List UInt8 := [45, 180, 1, 10, 172, 45, 180, 1, 13, 172, 45, 180, 1, 16, 172, 45, 180, 1, 18, 172, 42, 180, 0, 69]
abbrev dktX0_lord_2 : List UInt8 := dkwX0_lord_2 ++ dktX0_lord_3
def dkwX0_lord_1 : List UInt8 := [170, 0, 0, 0, 0, 0, 100, 0, 0, 0, 0, 0, 0, 0, 6, 0, 0, 0, 43, 0, 0, 0, 48, 0, 0, 0, 53, 0, 0, 0, 58, 0, 0, 0, 63, 0, 0, 0, 73, 0, 0, 0, 91]
abbrev dktX0_lord_1 : List UInt8 := dkwX0_lord_1 ++ dktX0_lord_2
def dkwX0_lord_0 : List UInt8 := [42, 27, 182, 0, 228, 154, 0, 5, 2, 172, 42, 27, 182, 0, 231, 78, 28]
abbrev dktX0_lord_0 : List UInt8 := dkwX0_lord_0 ++ dktX0_lord_1
theorem dksX0_lord_0 : cX0_lord.data.toList.drop 0 = dktX0_lord_0 := by decide +kernel
theorem dksX0_lord_1 : cX0_lord.data.toList.drop 17 = dktX0_lord_1 := dk_seg dksX0_lord_0 17 rfl rfl
theorem dksX0_lord_2 : cX0_lord.data.toList.drop 60 = dktX0_lord_2 := dk_seg dksX0_lord_1 43 rfl rfl
theorem dksX0_lord_3 : cX0_lord.data.toList.drop 84 = dktX0_lord_3 := dk_seg dksX0_lord_2 24 rfl rfl
theorem dksX0_lord_4 : cX0_lord.data.toList.drop 108 = dktX0_lord_4 := dk_seg dksX0_lord_3 24 rfl rfl
theorem dX0_lord_0 : decode cX0_lord 0 = .ok (.aload_n 0, 1) := dk_42 (dk_at dksX0_lord_0 0 rfl rfl)
theorem dX0_lord_1 : decode cX0_lord 1 = .ok (.iload_n 1, 1) := dk_27 (dk_at dksX0_lord_0 1 rfl rfl)
theorem dX0_lord_2 : decode cX0_lord 2 = .ok (.invokevirtual 228, 3) := dk_182 0 228 (dk_at dksX0_lord_0 2 rfl rfl)
theorem dX0_lord_5 : decode cX0_lord 5 = .ok (.ifCond .ne 5, 3) := dk_154 0 5 (dk_at dksX0_lord_0 5 rfl rfl)
theorem dX0_lord_8 : decode cX0_lord 8 = .ok (.iconst (-1), 1) := dk_2 (dk_at dksX0_lord_0 8 rfl rfl)
theorem dX0_lord_9 : decode cX0_lord 9 = .ok (.ireturn, 1) := dk_172 (dk_at dksX0_lord_0 9 rfl rfl)
theorem dX0_lord_10 : decode cX0_lord 10 = .ok (.aload_n 0, 1) := dk_42 (dk_at dksX0_lord_0 10 rfl rfl)
theorem dX0_lord_11 : decode cX0_lord 11 = .ok (.iload_n 1, 1) := dk_27 (dk_at dksX0_lord_0 11 rfl rfl)
theorem dX0_lord_12 : decode cX0_lord 12 = .ok (.invokevirtual 231, 3) := dk_182 0 231 (dk_at dksX0_lord_0 12 rfl rfl)
theorem dX0_lord_15 : decode cX0_lord 15 = .ok (.astore_n 3, 1) := dk_78 (dk_at dksX0_lord_0 15 rfl rfl)
theorem dX0_lord_16 : decode cX0_lord 16 = .ok (.iload_n 2, 1) := dk_28 (dk_at dksX0_lord_0 16 rfl rfl)
theorem dX0_lord_17 : decode cX0_lord 17 = .ok (.tableswitch 100 0 6 #[43, 48, 53, 58, 63, 73, 91], 43) := by decide +kernel
theorem dX0_lord_60 : decode cX0_lord 60 = .ok (.aload_n 3, 1) := dk_45 (dk_at dksX0_lord_2 0 rfl rfl)
theorem dX0_lord_61 : decode cX0_lord 61 = .ok (.getfield 266, 3) := dk_180 1 10 (dk_at dksX0_lord_2 1 rfl rfl)
theorem dX0_lord_64 : decode cX0_lord 64 = .ok (.ireturn, 1) := dk_172 (dk_at dksX0_lord_2 4 rfl rfl)
theorem dX0_lord_65 : decode cX0_lord 65 = .ok (.aload_n 3, 1) := dk_45 (dk_at dksX0_lord_2 5 rfl rfl)
theorem dX0_lord_66 : decode cX0_lord 66 = .ok (.getfield 269, 3) := dk_180 1 13 (dk_at dksX0_lord_2 6 rfl rfl)
theorem dX0_lord_69 : decode cX0_lord 69 = .ok (.ireturn, 1) := dk_172 (dk_at dksX0_lord_2 9 rfl rfl)
theorem dX0_lord_70 : decode cX0_lord 70 = .ok (.aload_n 3, 1) := dk_45 (dk_at dksX0_lord_2 10 rfl rfl)
theorem dX0_lord_71 : decode cX0_lord 71 = .ok (.getfield 272, 3) := dk_180 1 16 (dk_at dksX0_lord_2 11 rfl rfl)
theorem dX0_lord_74 : decode cX0_lord 74 = .ok (.ireturn, 1) := dk_172 (dk_at dksX0_lord_2 14 rfl rfl)
theorem dX0_lord_75 : decode cX0_lord 75 = .ok (.aload_n 3, 1) := dk_45 (dk_at dksX0_lord_2 15 rfl rfl)
theorem dX0_lord_76 : decode cX0_lord 76 = .ok (.getfield 274, 3) := dk_180 1 18 (dk_at dksX0_lord_2 16 rfl rfl)
theorem dX0_lord_79 : decode cX0_lord 79 = .ok (.ireturn, 1) := dk_172 (dk_at dksX0_lord_2 19 rfl rfl)
theorem dX0_lord_80 : decode cX0_lord 80 = .ok (.aload_n 0, 1) := dk_42 (dk_at dksX0_lord_2 20 rfl rfl)
theorem dX0_lord_81 : decode cX0_lord 81 = .ok (.getfield 69, 3) := dk_180 0 69 (dk_at dksX0_lord_2 21 rfl rfl)
theorem dX0_lord_84 : decode cX0_lord 84 = .ok (.getfield 277, 3) := dk_180 1 21 (dk_at dksX0_lord_3 0 rfl rfl)
theorem dX0_lord_87 : decode cX0_lord 87 = .ok (.iload_n 1, 1) := dk_27 (dk_at dksX0_lord_3 3 rfl rfl)
theorem dX0_lord_88 : decode cX0_lord 88 = .ok (.iaload, 1) := dk_46 (dk_at dksX0_lord_3 4 rfl rfl)
theorem dX0_lord_89 : decode cX0_lord 89 = .ok (.ireturn, 1) := dk_172 (dk_at dksX0_lord_3 5 rfl rfl)
theorem dX0_lord_90 : decode cX0_lord 90 = .ok (.aload_n 0, 1) := dk_42 (dk_at dksX0_lord_3 6 rfl rfl)
theorem dX0_lord_91 : decode cX0_lord 91 = .ok (.getfield 69, 3) := dk_180 0 69 (dk_at dksX0_lord_3 7 rfl rfl)
theorem dX0_lord_94 : decode cX0_lord 94 = .ok (.getfield 218, 3) := dk_180 0 218 (dk_at dksX0_lord_3 10 rfl rfl)
theorem dX0_lord_97 : decode cX0_lord 97 = .ok (.iload_n 1, 1) := dk_27 (dk_at dksX0_lord_3 13 rfl rfl)
theorem dX0_lord_98 : decode cX0_lord 98 = .ok (.baload, 1) := dk_51 (dk_at dksX0_lord_3 14 rfl rfl)
theorem dX0_lord_99 : decode cX0_lord 99 = .ok (.ifCond .eq 7, 3) := dk_153 0 7 (dk_at dksX0_lord_3 15 rfl rfl)
theorem dX0_lord_102 : decode cX0_lord 102 = .ok (.iconst 1, 1) := dk_4 (dk_at dksX0_lord_3 18 rfl rfl)
theorem dX0_lord_103 : decode cX0_lord 103 = .ok (.goto 4, 3) := dk_167 0 4 (dk_at dksX0_lord_3 19 rfl rfl)
theorem dX0_lord_106 : decode cX0_lord 106 = .ok (.iconst 0, 1) := dk_3 (dk_at dksX0_lord_3 22 rfl rfl)
theorem dX0_lord_107 : decode cX0_lord 107 = .ok (.ireturn, 1) := dk_172 (dk_at dksX0_lord_3 23 rfl rfl)
theorem dX0_lord_108 : decode cX0_lord 108 = .ok (.aload_n 0, 1) := dk_42 (dk_at dksX0_lord_4 0 rfl rfl)
theorem dX0_lord_109 : decode cX0_lord 109 = .ok (.getfield 69, 3) := dk_180 0 69 (dk_at dksX0_lord_4 1 rfl rfl)
theorem dX0_lord_112 : decode cX0_lord 112 = .ok (.iload_n 1, 1) := dk_27 (dk_at dksX0_lord_4 4 rfl rfl)
theorem dX0_lord_113 : decode cX0_lord 113 = .ok (.invokevirtual 280, 3) := dk_182 1 24 (dk_at dksX0_lord_4 5 rfl rfl)
theorem dX0_lord_116 : decode cX0_lord 116 = .ok (.ireturn, 1) := dk_172 (dk_at dksX0_lord_4 8 rfl rfl)
theorem dX0_lord_117 : decode cX0_lord 117 = .ok (.iconst (-1), 1) := dk_2 (dk_at dksX0_lord_4 9 rfl rfl)
theorem dX0_lord_118 : decode cX0_lord 118 = .ok (.ireturn, 1) := dk_172 (dk_at dksX0_lord_4 10 rfl rfl)
abbrev cX0_kept : ByteArray := prog_1_method_30_code
def yX0_kept : MethodName := ⟨RX0, "kept", "(II)I"⟩
def dkwX0_kept_1 : List UInt8 := [153, 0, 17, 42, 180, 0, 69, 180, 1, 27, 27, 50, 28, 46, 167, 0, 4, 2, 172]
abbrev dktX0_kept_1 : List UInt8 := dkwX0_kept_1 ++ []
def dkwX0_kept_0 : List UInt8 := [27, 3, 42, 180, 0, 69, 180, 0, 225, 4, 100, 184, 0, 176, 153, 0, 26, 28, 3, 5, 184, 0, 176]
abbrev dktX0_kept_0 : List UInt8 := dkwX0_kept_0 ++ dktX0_kept_1
theorem dksX0_kept_0 : cX0_kept.data.toList.drop 0 = dktX0_kept_0 := by decide +kernel
theorem dksX0_kept_1 : cX0_kept.data.toList.drop 23 = dktX0_kept_1 := dk_seg dksX0_kept_0 23 rfl rfl
theorem dX0_kept_0 : decode cX0_kept 0 = .ok (.iload_n 1, 1) := dk_27 (dk_at dksX0_kept_0 0 rfl rfl)
theorem dX0_kept_1 : decode cX0_kept 1 = .ok (.iconst 0, 1) := dk_3 (dk_at dksX0_kept_0 1 rfl rfl)
theorem dX0_kept_2 : decode cX0_kept 2 = .ok (.aload_n 0, 1) := dk_42 (dk_at dksX0_kept_0 2 rfl rfl)
theorem dX0_kept_3 : decode cX0_kept 3 = .ok (.getfield 69, 3) := dk_180 0 69 (dk_at dksX0_kept_0 3 rfl rfl)
theorem dX0_kept_6 : decode cX0_kept 6 = .ok (.getfield 225, 3) := dk_180 0 225 (dk_at dksX0_kept_0 6 rfl rfl)
theorem dX0_kept_9 : decode cX0_kept 9 = .ok (.iconst 1, 1) := dk_4 (dk_at dksX0_kept_0 9 rfl rfl)
theorem dX0_kept_10 : decode cX0_kept 10 = .ok (.isub, 1) := dk_100 (dk_at dksX0_kept_0 10 rfl rfl)
theorem dX0_kept_11 : decode cX0_kept 11 = .ok (.invokestatic 176, 3) := dk_184 0 176 (dk_at dksX0_kept_0 11 rfl rfl)
theorem dX0_kept_14 : decode cX0_kept 14 = .ok (.ifCond .eq 26, 3) := dk_153 0 26 (dk_at dksX0_kept_0 14 rfl rfl)
theorem dX0_kept_17 : decode cX0_kept 17 = .ok (.iload_n 2, 1) := dk_28 (dk_at dksX0_kept_0 17 rfl rfl)
theorem dX0_kept_18 : decode cX0_kept 18 = .ok (.iconst 0, 1) := dk_3 (dk_at dksX0_kept_0 18 rfl rfl)
theorem dX0_kept_19 : decode cX0_kept 19 = .ok (.iconst 2, 1) := dk_5 (dk_at dksX0_kept_0 19 rfl rfl)
theorem dX0_kept_20 : decode cX0_kept 20 = .ok (.invokestatic 176, 3) := dk_184 0 176 (dk_at dksX0_kept_0 20 rfl rfl)
theorem dX0_kept_23 : decode cX0_kept 23 = .ok (.ifCond .eq 17, 3) := dk_153 0 17 (dk_at dksX0_kept_1 0 rfl rfl)
theorem dX0_kept_26 : decode cX0_kept 26 = .ok (.aload_n 0, 1) := dk_42 (dk_at dksX0_kept_1 3 rfl rfl)
theorem dX0_kept_27 : decode cX0_kept 27 = .ok (.getfield 69, 3) := dk_180 0 69 (dk_at dksX0_kept_1 4 rfl rfl)
theorem dX0_kept_30 : decode cX0_kept 30 = .ok (.getfield 283, 3) := dk_180 1 27 (dk_at dksX0_kept_1 7 rfl rfl)
theorem dX0_kept_33 : decode cX0_kept 33 = .ok (.iload_n 1, 1) := dk_27 (dk_at dksX0_kept_1 10 rfl rfl)
theorem dX0_kept_34 : decode cX0_kept 34 = .ok (.aaload, 1) := dk_50 (dk_at dksX0_kept_1 11 rfl rfl)
theorem dX0_kept_35 : decode cX0_kept 35 = .ok (.iload_n 2, 1) := dk_28 (dk_at dksX0_kept_1 12 rfl rfl)
theorem dX0_kept_36 : decode cX0_kept 36 = .ok (.iaload, 1) := dk_46 (dk_at dksX0_kept_1 13 rfl rfl)
theorem dX0_kept_37 : decode cX0_kept 37 = .ok (.goto 4, 3) := dk_167 0 4 (dk_at dksX0_kept_1 14 rfl rfl)
theorem dX0_kept_40 : decode cX0_kept 40 = .ok (.iconst (-1), 1) := dk_2 (dk_at dksX0_kept_1 17 rfl rfl)
theorem dX0_kept_41 : decode cX0_kept 41 = .ok (.ireturn, 1) := dk_172 (dk_at dksX0_kept_1 18 rfl rfl)
abbrev cX0_later : ByteArray := prog_1_method_32_code
def yX0_later : MethodName := ⟨RX0, "later", "(II)I"⟩
def dkwX0_later_1 : List UInt8 := [180, 0, 69, 182, 1, 36, 28, 182, 1, 40, 180, 0, 238, 27, 46, 167, 0, 4, 2, 172]
abbrev dktX0_later_1 : List UInt8 := dkwX0_later_1 ++ []
def dkwX0_later_0 : List UInt8 := [42, 27, 182, 0, 171, 153, 0, 37, 42, 28, 3, 16, 60, 182, 1, 33, 153, 0, 26, 42, 180, 0, 73, 42]
abbrev dktX0_later_0 : List UInt8 := dkwX0_later_0 ++ dktX0_later_1
theorem dksX0_later_0 : cX0_later.data.toList.drop 0 = dktX0_later_0 := by decide +kernel
theorem dksX0_later_1 : cX0_later.data.toList.drop 24 = dktX0_later_1 := dk_seg dksX0_later_0 24 rfl rfl
theorem dX0_later_0 : decode cX0_later 0 = .ok (.aload_n 0, 1) := dk_42 (dk_at dksX0_later_0 0 rfl rfl)
theorem dX0_later_1 : decode cX0_later 1 = .ok (.iload_n 1, 1) := dk_27 (dk_at dksX0_later_0 1 rfl rfl)
theorem dX0_later_2 : decode cX0_later 2 = .ok (.invokevirtual 171, 3) := dk_182 0 171 (dk_at dksX0_later_0 2 rfl rfl)
theorem dX0_later_5 : decode cX0_later 5 = .ok (.ifCond .eq 37, 3) := dk_153 0 37 (dk_at dksX0_later_0 5 rfl rfl)
theorem dX0_later_8 : decode cX0_later 8 = .ok (.aload_n 0, 1) := dk_42 (dk_at dksX0_later_0 8 rfl rfl)
theorem dX0_later_9 : decode cX0_later 9 = .ok (.iload_n 2, 1) := dk_28 (dk_at dksX0_later_0 9 rfl rfl)
theorem dX0_later_10 : decode cX0_later 10 = .ok (.iconst 0, 1) := dk_3 (dk_at dksX0_later_0 10 rfl rfl)
theorem dX0_later_11 : decode cX0_later 11 = .ok (.bipush 60, 2) := dk_16 60 (dk_at dksX0_later_0 11 rfl rfl)
theorem dX0_later_13 : decode cX0_later 13 = .ok (.invokevirtual 289, 3) := dk_182 1 33 (dk_at dksX0_later_0 13 rfl rfl)
theorem dX0_later_16 : decode cX0_later 16 = .ok (.ifCond .eq 26, 3) := dk_153 0 26 (dk_at dksX0_later_0 16 rfl rfl)
theorem dX0_later_19 : decode cX0_later 19 = .ok (.aload_n 0, 1) := dk_42 (dk_at dksX0_later_0 19 rfl rfl)
theorem dX0_later_20 : decode cX0_later 20 = .ok (.getfield 73, 3) := dk_180 0 73 (dk_at dksX0_later_0 20 rfl rfl)
theorem dX0_later_23 : decode cX0_later 23 = .ok (.aload_n 0, 1) := dk_42 (dk_at dksX0_later_0 23 rfl rfl)
theorem dX0_later_24 : decode cX0_later 24 = .ok (.getfield 69, 3) := dk_180 0 69 (dk_at dksX0_later_1 0 rfl rfl)
theorem dX0_later_27 : decode cX0_later 27 = .ok (.invokevirtual 292, 3) := dk_182 1 36 (dk_at dksX0_later_1 3 rfl rfl)
theorem dX0_later_30 : decode cX0_later 30 = .ok (.iload_n 2, 1) := dk_28 (dk_at dksX0_later_1 6 rfl rfl)
theorem dX0_later_31 : decode cX0_later 31 = .ok (.invokevirtual 296, 3) := dk_182 1 40 (dk_at dksX0_later_1 7 rfl rfl)
theorem dX0_later_34 : decode cX0_later 34 = .ok (.getfield 238, 3) := dk_180 0 238 (dk_at dksX0_later_1 10 rfl rfl)
theorem dX0_later_37 : decode cX0_later 37 = .ok (.iload_n 1, 1) := dk_27 (dk_at dksX0_later_1 13 rfl rfl)
theorem dX0_later_38 : decode cX0_later 38 = .ok (.iaload, 1) := dk_46 (dk_at dksX0_later_1 14 rfl rfl)
theorem dX0_later_39 : decode cX0_later 39 = .ok (.goto 4, 3) := dk_167 0 4 (dk_at dksX0_later_1 15 rfl rfl)
theorem dX0_later_42 : decode cX0_later 42 = .ok (.iconst (-1), 1) := dk_2 (dk_at dksX0_later_1 18 rfl rfl)
theorem dX0_later_43 : decode cX0_later 43 = .ok (.ireturn, 1) := dk_172 (dk_at dksX0_later_1 19 rfl rfl)
abbrev cX0_isAhead : ByteArray := prog_1_method_31_code
def yX0_isAhead : MethodName := ⟨RX0, "isAhead", "(III)Z"⟩
def dkwX0_isAhead_1 : List UInt8 := [96, 17, 3, 231, 163, 0, 7, 4, 167, 0, 4, 3, 172]
abbrev dktX0_isAhead_1 : List UInt8 := dkwX0_isAhead_1 ++ []
def dkwX0_isAhead_0 : List UInt8 := [42, 182, 1, 29, 153, 0, 31, 27, 28, 29, 184, 0, 176, 153, 0, 22, 42, 180, 0, 69, 180, 0, 209, 27]
abbrev dktX0_isAhead_0 : List UInt8 := dkwX0_isAhead_0 ++ dktX0_isAhead_1
theorem dksX0_isAhead_0 : cX0_isAhead.data.toList.drop 0 = dktX0_isAhead_0 := by decide +kernel
theorem dksX0_isAhead_1 : cX0_isAhead.data.toList.drop 24 = dktX0_isAhead_1 := dk_seg dksX0_isAhead_0 24 rfl rfl
theorem dX0_isAhead_0 : decode cX0_isAhead 0 = .ok (.aload_n 0, 1) := dk_42 (dk_at dksX0_isAhead_0 0 rfl rfl)
theorem dX0_isAhead_1 : decode cX0_isAhead 1 = .ok (.invokevirtual 285, 3) := dk_182 1 29 (dk_at dksX0_isAhead_0 1 rfl rfl)
theorem dX0_isAhead_4 : decode cX0_isAhead 4 = .ok (.ifCond .eq 31, 3) := dk_153 0 31 (dk_at dksX0_isAhead_0 4 rfl rfl)
theorem dX0_isAhead_7 : decode cX0_isAhead 7 = .ok (.iload_n 1, 1) := dk_27 (dk_at dksX0_isAhead_0 7 rfl rfl)
theorem dX0_isAhead_8 : decode cX0_isAhead 8 = .ok (.iload_n 2, 1) := dk_28 (dk_at dksX0_isAhead_0 8 rfl rfl)
theorem dX0_isAhead_9 : decode cX0_isAhead 9 = .ok (.iload_n 3, 1) := dk_29 (dk_at dksX0_isAhead_0 9 rfl rfl)
theorem dX0_isAhead_10 : decode cX0_isAhead 10 = .ok (.invokestatic 176, 3) := dk_184 0 176 (dk_at dksX0_isAhead_0 10 rfl rfl)
theorem dX0_isAhead_13 : decode cX0_isAhead 13 = .ok (.ifCond .eq 22, 3) := dk_153 0 22 (dk_at dksX0_isAhead_0 13 rfl rfl)
theorem dX0_isAhead_16 : decode cX0_isAhead 16 = .ok (.aload_n 0, 1) := dk_42 (dk_at dksX0_isAhead_0 16 rfl rfl)
theorem dX0_isAhead_17 : decode cX0_isAhead 17 = .ok (.getfield 69, 3) := dk_180 0 69 (dk_at dksX0_isAhead_0 17 rfl rfl)
theorem dX0_isAhead_20 : decode cX0_isAhead 20 = .ok (.getfield 209, 3) := dk_180 0 209 (dk_at dksX0_isAhead_0 20 rfl rfl)
theorem dX0_isAhead_23 : decode cX0_isAhead 23 = .ok (.iload_n 1, 1) := dk_27 (dk_at dksX0_isAhead_0 23 rfl rfl)
theorem dX0_isAhead_24 : decode cX0_isAhead 24 = .ok (.iadd, 1) := dk_96 (dk_at dksX0_isAhead_1 0 rfl rfl)
theorem dX0_isAhead_25 : decode cX0_isAhead 25 = .ok (.sipush 999, 3) := dk_17 3 231 (dk_at dksX0_isAhead_1 1 rfl rfl)
theorem dX0_isAhead_28 : decode cX0_isAhead 28 = .ok (.if_icmp .gt 7, 3) := dk_163 0 7 (dk_at dksX0_isAhead_1 4 rfl rfl)
theorem dX0_isAhead_31 : decode cX0_isAhead 31 = .ok (.iconst 1, 1) := dk_4 (dk_at dksX0_isAhead_1 7 rfl rfl)
theorem dX0_isAhead_32 : decode cX0_isAhead 32 = .ok (.goto 4, 3) := dk_167 0 4 (dk_at dksX0_isAhead_1 8 rfl rfl)
theorem dX0_isAhead_35 : decode cX0_isAhead 35 = .ok (.iconst 0, 1) := dk_3 (dk_at dksX0_isAhead_1 11 rfl rfl)
theorem dX0_isAhead_36 : decode cX0_isAhead 36 = .ok (.ireturn, 1) := dk_172 (dk_at dksX0_isAhead_1 12 rfl rfl)
abbrev cX0_isValley : ByteArray := prog_1_method_15_code
def yX0_isValley : MethodName := ⟨RX0, "isValley", "()Z"⟩
def dkwX0_isValley_0 : List UInt8 := [42, 180, 0, 31, 180, 0, 157, 158, 0, 7, 4, 167, 0, 4, 3, 172]
abbrev dktX0_isValley_0 : List UInt8 := dkwX0_isValley_0 ++ []
theorem dksX0_isValley_0 : cX0_isValley.data.toList.drop 0 = dktX0_isValley_0 := by decide +kernel
theorem dX0_isValley_0 : decode cX0_isValley 0 = .ok (.aload_n 0, 1) := dk_42 (dk_at dksX0_isValley_0 0 rfl rfl)
theorem dX0_isValley_1 : decode cX0_isValley 1 = .ok (.getfield 31, 3) := dk_180 0 31 (dk_at dksX0_isValley_0 1 rfl rfl)
theorem dX0_isValley_4 : decode cX0_isValley 4 = .ok (.getfield 157, 3) := dk_180 0 157 (dk_at dksX0_isValley_0 4 rfl rfl)
theorem dX0_isValley_7 : decode cX0_isValley 7 = .ok (.ifCond .le 7, 3) := dk_158 0 7 (dk_at dksX0_isValley_0 7 rfl rfl)
theorem dX0_isValley_10 : decode cX0_isValley 10 = .ok (.iconst 1, 1) := dk_4 (dk_at dksX0_isValley_0 10 rfl rfl)
theorem dX0_isValley_11 : decode cX0_isValley 11 = .ok (.goto 4, 3) := dk_167 0 4 (dk_at dksX0_isValley_0 11 rfl rfl)
theorem dX0_isValley_14 : decode cX0_isValley 14 = .ok (.iconst 0, 1) := dk_3 (dk_at dksX0_isValley_0 14 rfl rfl)
theorem dX0_isValley_15 : decode cX0_isValley 15 = .ok (.ireturn, 1) := dk_172 (dk_at dksX0_isValley_0 15 rfl rfl)
abbrev cX0_sums : ByteArray := prog_1_method_33_code
def yX0_sums : MethodName := ⟨RX0, "sums", "(II)I"⟩
def dkwX0_sums_4 : List UInt8 := [132, 4, 1, 167, 255, 231, 29, 172]
abbrev dktX0_sums_4 : List UInt8 := dkwX0_sums_4 ++ []
def dkwX0_sums_3 : List UInt8 := [21, 4, 42, 182, 0, 180, 162, 0, 22, 29, 42, 180, 0, 73, 180, 1, 21, 21, 4, 46, 96, 62]
abbrev dktX0_sums_3 : List UInt8 := dkwX0_sums_3 ++ dktX0_sums_4
def dkwX0_sums_2 : List UInt8 := [42, 180, 0, 73, 182, 0, 215, 167, 0, 10, 42, 180, 0, 73, 180, 0, 212, 172, 3, 62, 3, 54, 4]
abbrev dktX0_sums_2 : List UInt8 := dkwX0_sums_2 ++ dktX0_sums_3
def dkwX0_sums_1 : List UInt8 := [180, 0, 73, 42, 180, 0, 69, 182, 1, 36, 27, 182, 1, 40, 87, 28, 5, 162, 0, 25, 28, 154, 0, 13]
abbrev dktX0_sums_1 : List UInt8 := dkwX0_sums_1 ++ dktX0_sums_2
def dkwX0_sums_0 : List UInt8 := [42, 27, 3, 16, 60, 182, 1, 33, 153, 0, 12, 28, 3, 5, 184, 0, 176, 154, 0, 5, 2, 172, 42]
abbrev dktX0_sums_0 : List UInt8 := dkwX0_sums_0 ++ dktX0_sums_1
theorem dksX0_sums_0 : cX0_sums.data.toList.drop 0 = dktX0_sums_0 := by decide +kernel
theorem dksX0_sums_1 : cX0_sums.data.toList.drop 23 = dktX0_sums_1 := dk_seg dksX0_sums_0 23 rfl rfl
theorem dksX0_sums_2 : cX0_sums.data.toList.drop 47 = dktX0_sums_2 := dk_seg dksX0_sums_1 24 rfl rfl
theorem dksX0_sums_3 : cX0_sums.data.toList.drop 70 = dktX0_sums_3 := dk_seg dksX0_sums_2 23 rfl rfl
theorem dksX0_sums_4 : cX0_sums.data.toList.drop 92 = dktX0_sums_4 := dk_seg dksX0_sums_3 22 rfl rfl
theorem dX0_sums_0 : decode cX0_sums 0 = .ok (.aload_n 0, 1) := dk_42 (dk_at dksX0_sums_0 0 rfl rfl)
theorem dX0_sums_1 : decode cX0_sums 1 = .ok (.iload_n 1, 1) := dk_27 (dk_at dksX0_sums_0 1 rfl rfl)
theorem dX0_sums_2 : decode cX0_sums 2 = .ok (.iconst 0, 1) := dk_3 (dk_at dksX0_sums_0 2 rfl rfl)
theorem dX0_sums_3 : decode cX0_sums 3 = .ok (.bipush 60, 2) := dk_16 60 (dk_at dksX0_sums_0 3 rfl rfl)
theorem dX0_sums_5 : decode cX0_sums 5 = .ok (.invokevirtual 289, 3) := dk_182 1 33 (dk_at dksX0_sums_0 5 rfl rfl)
theorem dX0_sums_8 : decode cX0_sums 8 = .ok (.ifCond .eq 12, 3) := dk_153 0 12 (dk_at dksX0_sums_0 8 rfl rfl)
theorem dX0_sums_11 : decode cX0_sums 11 = .ok (.iload_n 2, 1) := dk_28 (dk_at dksX0_sums_0 11 rfl rfl)
theorem dX0_sums_12 : decode cX0_sums 12 = .ok (.iconst 0, 1) := dk_3 (dk_at dksX0_sums_0 12 rfl rfl)
theorem dX0_sums_13 : decode cX0_sums 13 = .ok (.iconst 2, 1) := dk_5 (dk_at dksX0_sums_0 13 rfl rfl)
theorem dX0_sums_14 : decode cX0_sums 14 = .ok (.invokestatic 176, 3) := dk_184 0 176 (dk_at dksX0_sums_0 14 rfl rfl)
theorem dX0_sums_17 : decode cX0_sums 17 = .ok (.ifCond .ne 5, 3) := dk_154 0 5 (dk_at dksX0_sums_0 17 rfl rfl)
theorem dX0_sums_20 : decode cX0_sums 20 = .ok (.iconst (-1), 1) := dk_2 (dk_at dksX0_sums_0 20 rfl rfl)
theorem dX0_sums_21 : decode cX0_sums 21 = .ok (.ireturn, 1) := dk_172 (dk_at dksX0_sums_0 21 rfl rfl)
theorem dX0_sums_22 : decode cX0_sums 22 = .ok (.aload_n 0, 1) := dk_42 (dk_at dksX0_sums_0 22 rfl rfl)
theorem dX0_sums_23 : decode cX0_sums 23 = .ok (.getfield 73, 3) := dk_180 0 73 (dk_at dksX0_sums_1 0 rfl rfl)
theorem dX0_sums_26 : decode cX0_sums 26 = .ok (.aload_n 0, 1) := dk_42 (dk_at dksX0_sums_1 3 rfl rfl)
theorem dX0_sums_27 : decode cX0_sums 27 = .ok (.getfield 69, 3) := dk_180 0 69 (dk_at dksX0_sums_1 4 rfl rfl)
theorem dX0_sums_30 : decode cX0_sums 30 = .ok (.invokevirtual 292, 3) := dk_182 1 36 (dk_at dksX0_sums_1 7 rfl rfl)
theorem dX0_sums_33 : decode cX0_sums 33 = .ok (.iload_n 1, 1) := dk_27 (dk_at dksX0_sums_1 10 rfl rfl)
theorem dX0_sums_34 : decode cX0_sums 34 = .ok (.invokevirtual 296, 3) := dk_182 1 40 (dk_at dksX0_sums_1 11 rfl rfl)
theorem dX0_sums_37 : decode cX0_sums 37 = .ok (.pop, 1) := dk_87 (dk_at dksX0_sums_1 14 rfl rfl)
theorem dX0_sums_38 : decode cX0_sums 38 = .ok (.iload_n 2, 1) := dk_28 (dk_at dksX0_sums_1 15 rfl rfl)
theorem dX0_sums_39 : decode cX0_sums 39 = .ok (.iconst 2, 1) := dk_5 (dk_at dksX0_sums_1 16 rfl rfl)
theorem dX0_sums_40 : decode cX0_sums 40 = .ok (.if_icmp .ge 25, 3) := dk_162 0 25 (dk_at dksX0_sums_1 17 rfl rfl)
theorem dX0_sums_43 : decode cX0_sums 43 = .ok (.iload_n 2, 1) := dk_28 (dk_at dksX0_sums_1 20 rfl rfl)
theorem dX0_sums_44 : decode cX0_sums 44 = .ok (.ifCond .ne 13, 3) := dk_154 0 13 (dk_at dksX0_sums_1 21 rfl rfl)
theorem dX0_sums_47 : decode cX0_sums 47 = .ok (.aload_n 0, 1) := dk_42 (dk_at dksX0_sums_2 0 rfl rfl)
theorem dX0_sums_48 : decode cX0_sums 48 = .ok (.getfield 73, 3) := dk_180 0 73 (dk_at dksX0_sums_2 1 rfl rfl)
theorem dX0_sums_51 : decode cX0_sums 51 = .ok (.invokevirtual 215, 3) := dk_182 0 215 (dk_at dksX0_sums_2 4 rfl rfl)
theorem dX0_sums_54 : decode cX0_sums 54 = .ok (.goto 10, 3) := dk_167 0 10 (dk_at dksX0_sums_2 7 rfl rfl)
theorem dX0_sums_57 : decode cX0_sums 57 = .ok (.aload_n 0, 1) := dk_42 (dk_at dksX0_sums_2 10 rfl rfl)
theorem dX0_sums_58 : decode cX0_sums 58 = .ok (.getfield 73, 3) := dk_180 0 73 (dk_at dksX0_sums_2 11 rfl rfl)
theorem dX0_sums_61 : decode cX0_sums 61 = .ok (.getfield 212, 3) := dk_180 0 212 (dk_at dksX0_sums_2 14 rfl rfl)
theorem dX0_sums_64 : decode cX0_sums 64 = .ok (.ireturn, 1) := dk_172 (dk_at dksX0_sums_2 17 rfl rfl)
theorem dX0_sums_65 : decode cX0_sums 65 = .ok (.iconst 0, 1) := dk_3 (dk_at dksX0_sums_2 18 rfl rfl)
theorem dX0_sums_66 : decode cX0_sums 66 = .ok (.istore_n 3, 1) := dk_62 (dk_at dksX0_sums_2 19 rfl rfl)
theorem dX0_sums_67 : decode cX0_sums 67 = .ok (.iconst 0, 1) := dk_3 (dk_at dksX0_sums_2 20 rfl rfl)
theorem dX0_sums_68 : decode cX0_sums 68 = .ok (.istore 4, 2) := dk_54 4 (dk_at dksX0_sums_2 21 rfl rfl)
theorem dX0_sums_70 : decode cX0_sums 70 = .ok (.iload 4, 2) := dk_21 4 (dk_at dksX0_sums_3 0 rfl rfl)
theorem dX0_sums_72 : decode cX0_sums 72 = .ok (.aload_n 0, 1) := dk_42 (dk_at dksX0_sums_3 2 rfl rfl)
theorem dX0_sums_73 : decode cX0_sums 73 = .ok (.invokevirtual 180, 3) := dk_182 0 180 (dk_at dksX0_sums_3 3 rfl rfl)
theorem dX0_sums_76 : decode cX0_sums 76 = .ok (.if_icmp .ge 22, 3) := dk_162 0 22 (dk_at dksX0_sums_3 6 rfl rfl)
theorem dX0_sums_79 : decode cX0_sums 79 = .ok (.iload_n 3, 1) := dk_29 (dk_at dksX0_sums_3 9 rfl rfl)
theorem dX0_sums_80 : decode cX0_sums 80 = .ok (.aload_n 0, 1) := dk_42 (dk_at dksX0_sums_3 10 rfl rfl)
theorem dX0_sums_81 : decode cX0_sums 81 = .ok (.getfield 73, 3) := dk_180 0 73 (dk_at dksX0_sums_3 11 rfl rfl)
theorem dX0_sums_84 : decode cX0_sums 84 = .ok (.getfield 277, 3) := dk_180 1 21 (dk_at dksX0_sums_3 14 rfl rfl)
theorem dX0_sums_87 : decode cX0_sums 87 = .ok (.iload 4, 2) := dk_21 4 (dk_at dksX0_sums_3 17 rfl rfl)
theorem dX0_sums_89 : decode cX0_sums 89 = .ok (.iaload, 1) := dk_46 (dk_at dksX0_sums_3 19 rfl rfl)
theorem dX0_sums_90 : decode cX0_sums 90 = .ok (.iadd, 1) := dk_96 (dk_at dksX0_sums_3 20 rfl rfl)
theorem dX0_sums_91 : decode cX0_sums 91 = .ok (.istore_n 3, 1) := dk_62 (dk_at dksX0_sums_3 21 rfl rfl)
theorem dX0_sums_92 : decode cX0_sums 92 = .ok (.iinc 4 1, 3) := dk_132 4 1 (dk_at dksX0_sums_4 0 rfl rfl)
theorem dX0_sums_95 : decode cX0_sums 95 = .ok (.goto (-25), 3) := dk_167 255 231 (dk_at dksX0_sums_4 3 rfl rfl)
theorem dX0_sums_98 : decode cX0_sums 98 = .ok (.iload_n 3, 1) := dk_29 (dk_at dksX0_sums_4 6 rfl rfl)
theorem dX0_sums_99 : decode cX0_sums 99 = .ok (.ireturn, 1) := dk_172 (dk_at dksX0_sums_4 7 rfl rfl)
abbrev cX0_straight : ByteArray := prog_1_method_34_code
def yX0_straight : MethodName := ⟨RX0, "straight", "()I"⟩
def dkwX0_straight_2 : List UInt8 := [132, 1, 1, 167, 255, 222, 2, 172]
abbrev dktX0_straight_2 : List UInt8 := dkwX0_straight_2 ++ []
def dkwX0_straight_1 : List UInt8 := [153, 0, 29, 42, 180, 0, 73, 182, 0, 215, 154, 0, 5, 27, 172, 42, 180, 0, 73, 182, 1, 44, 87]
abbrev dktX0_straight_1 : List UInt8 := dkwX0_straight_1 ++ dktX0_straight_2
def dkwX0_straight_0 : List UInt8 := [42, 180, 0, 73, 42, 180, 0, 69, 182, 1, 36, 87, 3, 60, 42, 27, 3, 16, 60, 182, 1, 33]
abbrev dktX0_straight_0 : List UInt8 := dkwX0_straight_0 ++ dktX0_straight_1
theorem dksX0_straight_0 : cX0_straight.data.toList.drop 0 = dktX0_straight_0 := by decide +kernel
theorem dksX0_straight_1 : cX0_straight.data.toList.drop 22 = dktX0_straight_1 := dk_seg dksX0_straight_0 22 rfl rfl
theorem dksX0_straight_2 : cX0_straight.data.toList.drop 45 = dktX0_straight_2 := dk_seg dksX0_straight_1 23 rfl rfl
theorem dX0_straight_0 : decode cX0_straight 0 = .ok (.aload_n 0, 1) := dk_42 (dk_at dksX0_straight_0 0 rfl rfl)
theorem dX0_straight_1 : decode cX0_straight 1 = .ok (.getfield 73, 3) := dk_180 0 73 (dk_at dksX0_straight_0 1 rfl rfl)
theorem dX0_straight_4 : decode cX0_straight 4 = .ok (.aload_n 0, 1) := dk_42 (dk_at dksX0_straight_0 4 rfl rfl)
theorem dX0_straight_5 : decode cX0_straight 5 = .ok (.getfield 69, 3) := dk_180 0 69 (dk_at dksX0_straight_0 5 rfl rfl)
theorem dX0_straight_8 : decode cX0_straight 8 = .ok (.invokevirtual 292, 3) := dk_182 1 36 (dk_at dksX0_straight_0 8 rfl rfl)
theorem dX0_straight_11 : decode cX0_straight 11 = .ok (.pop, 1) := dk_87 (dk_at dksX0_straight_0 11 rfl rfl)
theorem dX0_straight_12 : decode cX0_straight 12 = .ok (.iconst 0, 1) := dk_3 (dk_at dksX0_straight_0 12 rfl rfl)
theorem dX0_straight_13 : decode cX0_straight 13 = .ok (.istore_n 1, 1) := dk_60 (dk_at dksX0_straight_0 13 rfl rfl)
theorem dX0_straight_14 : decode cX0_straight 14 = .ok (.aload_n 0, 1) := dk_42 (dk_at dksX0_straight_0 14 rfl rfl)
theorem dX0_straight_15 : decode cX0_straight 15 = .ok (.iload_n 1, 1) := dk_27 (dk_at dksX0_straight_0 15 rfl rfl)
theorem dX0_straight_16 : decode cX0_straight 16 = .ok (.iconst 0, 1) := dk_3 (dk_at dksX0_straight_0 16 rfl rfl)
theorem dX0_straight_17 : decode cX0_straight 17 = .ok (.bipush 60, 2) := dk_16 60 (dk_at dksX0_straight_0 17 rfl rfl)
theorem dX0_straight_19 : decode cX0_straight 19 = .ok (.invokevirtual 289, 3) := dk_182 1 33 (dk_at dksX0_straight_0 19 rfl rfl)
theorem dX0_straight_22 : decode cX0_straight 22 = .ok (.ifCond .eq 29, 3) := dk_153 0 29 (dk_at dksX0_straight_1 0 rfl rfl)
theorem dX0_straight_25 : decode cX0_straight 25 = .ok (.aload_n 0, 1) := dk_42 (dk_at dksX0_straight_1 3 rfl rfl)
theorem dX0_straight_26 : decode cX0_straight 26 = .ok (.getfield 73, 3) := dk_180 0 73 (dk_at dksX0_straight_1 4 rfl rfl)
theorem dX0_straight_29 : decode cX0_straight 29 = .ok (.invokevirtual 215, 3) := dk_182 0 215 (dk_at dksX0_straight_1 7 rfl rfl)
theorem dX0_straight_32 : decode cX0_straight 32 = .ok (.ifCond .ne 5, 3) := dk_154 0 5 (dk_at dksX0_straight_1 10 rfl rfl)
theorem dX0_straight_35 : decode cX0_straight 35 = .ok (.iload_n 1, 1) := dk_27 (dk_at dksX0_straight_1 13 rfl rfl)
theorem dX0_straight_36 : decode cX0_straight 36 = .ok (.ireturn, 1) := dk_172 (dk_at dksX0_straight_1 14 rfl rfl)
theorem dX0_straight_37 : decode cX0_straight 37 = .ok (.aload_n 0, 1) := dk_42 (dk_at dksX0_straight_1 15 rfl rfl)
theorem dX0_straight_38 : decode cX0_straight 38 = .ok (.getfield 73, 3) := dk_180 0 73 (dk_at dksX0_straight_1 16 rfl rfl)
theorem dX0_straight_41 : decode cX0_straight 41 = .ok (.invokevirtual 300, 3) := dk_182 1 44 (dk_at dksX0_straight_1 19 rfl rfl)
theorem dX0_straight_44 : decode cX0_straight 44 = .ok (.pop, 1) := dk_87 (dk_at dksX0_straight_1 22 rfl rfl)
theorem dX0_straight_45 : decode cX0_straight 45 = .ok (.iinc 1 1, 3) := dk_132 1 1 (dk_at dksX0_straight_2 0 rfl rfl)
theorem dX0_straight_48 : decode cX0_straight 48 = .ok (.goto (-34), 3) := dk_167 255 222 (dk_at dksX0_straight_2 3 rfl rfl)
theorem dX0_straight_51 : decode cX0_straight 51 = .ok (.iconst (-1), 1) := dk_2 (dk_at dksX0_straight_2 6 rfl rfl)
theorem dX0_straight_52 : decode cX0_straight 52 = .ok (.ireturn, 1) := dk_172 (dk_at dksX0_straight_2 7 rfl rfl)
abbrev cX0_works : ByteArray := prog_1_method_39_code
def yX0_works : MethodName := ⟨RX0, "works", "(IIII)I"⟩
def dkwX0_works_4 : List UInt8 := [180, 0, 31, 180, 0, 175, 112, 96, 167, 0, 4, 2, 172, 132, 5, 1, 167, 255, 171, 2, 172]
abbrev dktX0_works_4 : List UInt8 := dkwX0_works_4 ++ []
def dkwX0_works_3 : List UInt8 := [42, 180, 0, 76, 21, 4, 46, 42, 180, 0, 31, 180, 0, 175, 108, 104, 42, 180, 0, 76, 21, 4, 46, 42]
abbrev dktX0_works_3 : List UInt8 := dkwX0_works_3 ++ dktX0_works_4
def dkwX0_works_2 : List UInt8 := [21, 4, 2, 160, 0, 6, 21, 5, 172, 21, 4, 3, 21, 5, 4, 100, 184, 0, 176, 153, 0, 40, 16, 8]
abbrev dktX0_works_2 : List UInt8 := dkwX0_works_2 ++ dktX0_works_3
def dkwX0_works_1 : List UInt8 := [54, 5, 21, 5, 5, 163, 0, 85, 42, 21, 5, 27, 28, 29, 182, 1, 58, 154, 0, 6, 167, 0, 64]
abbrev dktX0_works_1 : List UInt8 := dkwX0_works_1 ++ dktX0_works_2
def dkwX0_works_0 : List UInt8 := [42, 27, 28, 182, 0, 250, 153, 0, 14, 42, 29, 4, 16, 20, 182, 1, 33, 154, 0, 5, 2, 172, 3]
abbrev dktX0_works_0 : List UInt8 := dkwX0_works_0 ++ dktX0_works_1
theorem dksX0_works_0 : cX0_works.data.toList.drop 0 = dktX0_works_0 := by decide +kernel
theorem dksX0_works_1 : cX0_works.data.toList.drop 23 = dktX0_works_1 := dk_seg dksX0_works_0 23 rfl rfl
theorem dksX0_works_2 : cX0_works.data.toList.drop 46 = dktX0_works_2 := dk_seg dksX0_works_1 23 rfl rfl
theorem dksX0_works_3 : cX0_works.data.toList.drop 70 = dktX0_works_3 := dk_seg dksX0_works_2 24 rfl rfl
theorem dksX0_works_4 : cX0_works.data.toList.drop 94 = dktX0_works_4 := dk_seg dksX0_works_3 24 rfl rfl
theorem dX0_works_0 : decode cX0_works 0 = .ok (.aload_n 0, 1) := dk_42 (dk_at dksX0_works_0 0 rfl rfl)
theorem dX0_works_1 : decode cX0_works 1 = .ok (.iload_n 1, 1) := dk_27 (dk_at dksX0_works_0 1 rfl rfl)
theorem dX0_works_2 : decode cX0_works 2 = .ok (.iload_n 2, 1) := dk_28 (dk_at dksX0_works_0 2 rfl rfl)
theorem dX0_works_3 : decode cX0_works 3 = .ok (.invokevirtual 250, 3) := dk_182 0 250 (dk_at dksX0_works_0 3 rfl rfl)
theorem dX0_works_6 : decode cX0_works 6 = .ok (.ifCond .eq 14, 3) := dk_153 0 14 (dk_at dksX0_works_0 6 rfl rfl)
theorem dX0_works_9 : decode cX0_works 9 = .ok (.aload_n 0, 1) := dk_42 (dk_at dksX0_works_0 9 rfl rfl)
theorem dX0_works_10 : decode cX0_works 10 = .ok (.iload_n 3, 1) := dk_29 (dk_at dksX0_works_0 10 rfl rfl)
theorem dX0_works_11 : decode cX0_works 11 = .ok (.iconst 1, 1) := dk_4 (dk_at dksX0_works_0 11 rfl rfl)
theorem dX0_works_12 : decode cX0_works 12 = .ok (.bipush 20, 2) := dk_16 20 (dk_at dksX0_works_0 12 rfl rfl)
theorem dX0_works_14 : decode cX0_works 14 = .ok (.invokevirtual 289, 3) := dk_182 1 33 (dk_at dksX0_works_0 14 rfl rfl)
theorem dX0_works_17 : decode cX0_works 17 = .ok (.ifCond .ne 5, 3) := dk_154 0 5 (dk_at dksX0_works_0 17 rfl rfl)
theorem dX0_works_20 : decode cX0_works 20 = .ok (.iconst (-1), 1) := dk_2 (dk_at dksX0_works_0 20 rfl rfl)
theorem dX0_works_21 : decode cX0_works 21 = .ok (.ireturn, 1) := dk_172 (dk_at dksX0_works_0 21 rfl rfl)
theorem dX0_works_22 : decode cX0_works 22 = .ok (.iconst 0, 1) := dk_3 (dk_at dksX0_works_0 22 rfl rfl)
theorem dX0_works_23 : decode cX0_works 23 = .ok (.istore 5, 2) := dk_54 5 (dk_at dksX0_works_1 0 rfl rfl)
theorem dX0_works_25 : decode cX0_works 25 = .ok (.iload 5, 2) := dk_21 5 (dk_at dksX0_works_1 2 rfl rfl)
theorem dX0_works_27 : decode cX0_works 27 = .ok (.iconst 2, 1) := dk_5 (dk_at dksX0_works_1 4 rfl rfl)
theorem dX0_works_28 : decode cX0_works 28 = .ok (.if_icmp .gt 85, 3) := dk_163 0 85 (dk_at dksX0_works_1 5 rfl rfl)
theorem dX0_works_31 : decode cX0_works 31 = .ok (.aload_n 0, 1) := dk_42 (dk_at dksX0_works_1 8 rfl rfl)
theorem dX0_works_32 : decode cX0_works 32 = .ok (.iload 5, 2) := dk_21 5 (dk_at dksX0_works_1 9 rfl rfl)
theorem dX0_works_34 : decode cX0_works 34 = .ok (.iload_n 1, 1) := dk_27 (dk_at dksX0_works_1 11 rfl rfl)
theorem dX0_works_35 : decode cX0_works 35 = .ok (.iload_n 2, 1) := dk_28 (dk_at dksX0_works_1 12 rfl rfl)
theorem dX0_works_36 : decode cX0_works 36 = .ok (.iload_n 3, 1) := dk_29 (dk_at dksX0_works_1 13 rfl rfl)
theorem dX0_works_37 : decode cX0_works 37 = .ok (.invokevirtual 314, 3) := dk_182 1 58 (dk_at dksX0_works_1 14 rfl rfl)
theorem dX0_works_40 : decode cX0_works 40 = .ok (.ifCond .ne 6, 3) := dk_154 0 6 (dk_at dksX0_works_1 17 rfl rfl)
theorem dX0_works_43 : decode cX0_works 43 = .ok (.goto 64, 3) := dk_167 0 64 (dk_at dksX0_works_1 20 rfl rfl)
theorem dX0_works_46 : decode cX0_works 46 = .ok (.iload 4, 2) := dk_21 4 (dk_at dksX0_works_2 0 rfl rfl)
theorem dX0_works_48 : decode cX0_works 48 = .ok (.iconst (-1), 1) := dk_2 (dk_at dksX0_works_2 2 rfl rfl)
theorem dX0_works_49 : decode cX0_works 49 = .ok (.if_icmp .ne 6, 3) := dk_160 0 6 (dk_at dksX0_works_2 3 rfl rfl)
theorem dX0_works_52 : decode cX0_works 52 = .ok (.iload 5, 2) := dk_21 5 (dk_at dksX0_works_2 6 rfl rfl)
theorem dX0_works_54 : decode cX0_works 54 = .ok (.ireturn, 1) := dk_172 (dk_at dksX0_works_2 8 rfl rfl)
theorem dX0_works_55 : decode cX0_works 55 = .ok (.iload 4, 2) := dk_21 4 (dk_at dksX0_works_2 9 rfl rfl)
theorem dX0_works_57 : decode cX0_works 57 = .ok (.iconst 0, 1) := dk_3 (dk_at dksX0_works_2 11 rfl rfl)
theorem dX0_works_58 : decode cX0_works 58 = .ok (.iload 5, 2) := dk_21 5 (dk_at dksX0_works_2 12 rfl rfl)
theorem dX0_works_60 : decode cX0_works 60 = .ok (.iconst 1, 1) := dk_4 (dk_at dksX0_works_2 14 rfl rfl)
theorem dX0_works_61 : decode cX0_works 61 = .ok (.isub, 1) := dk_100 (dk_at dksX0_works_2 15 rfl rfl)
theorem dX0_works_62 : decode cX0_works 62 = .ok (.invokestatic 176, 3) := dk_184 0 176 (dk_at dksX0_works_2 16 rfl rfl)
theorem dX0_works_65 : decode cX0_works 65 = .ok (.ifCond .eq 40, 3) := dk_153 0 40 (dk_at dksX0_works_2 19 rfl rfl)
theorem dX0_works_68 : decode cX0_works 68 = .ok (.bipush 8, 2) := dk_16 8 (dk_at dksX0_works_2 22 rfl rfl)
theorem dX0_works_70 : decode cX0_works 70 = .ok (.aload_n 0, 1) := dk_42 (dk_at dksX0_works_3 0 rfl rfl)
theorem dX0_works_71 : decode cX0_works 71 = .ok (.getfield 76, 3) := dk_180 0 76 (dk_at dksX0_works_3 1 rfl rfl)
theorem dX0_works_74 : decode cX0_works 74 = .ok (.iload 4, 2) := dk_21 4 (dk_at dksX0_works_3 4 rfl rfl)
theorem dX0_works_76 : decode cX0_works 76 = .ok (.iaload, 1) := dk_46 (dk_at dksX0_works_3 6 rfl rfl)
theorem dX0_works_77 : decode cX0_works 77 = .ok (.aload_n 0, 1) := dk_42 (dk_at dksX0_works_3 7 rfl rfl)
theorem dX0_works_78 : decode cX0_works 78 = .ok (.getfield 31, 3) := dk_180 0 31 (dk_at dksX0_works_3 8 rfl rfl)
theorem dX0_works_81 : decode cX0_works 81 = .ok (.getfield 175, 3) := dk_180 0 175 (dk_at dksX0_works_3 11 rfl rfl)
theorem dX0_works_84 : decode cX0_works 84 = .ok (.idiv, 1) := dk_108 (dk_at dksX0_works_3 14 rfl rfl)
theorem dX0_works_85 : decode cX0_works 85 = .ok (.imul, 1) := dk_104 (dk_at dksX0_works_3 15 rfl rfl)
theorem dX0_works_86 : decode cX0_works 86 = .ok (.aload_n 0, 1) := dk_42 (dk_at dksX0_works_3 16 rfl rfl)
theorem dX0_works_87 : decode cX0_works 87 = .ok (.getfield 76, 3) := dk_180 0 76 (dk_at dksX0_works_3 17 rfl rfl)
theorem dX0_works_90 : decode cX0_works 90 = .ok (.iload 4, 2) := dk_21 4 (dk_at dksX0_works_3 20 rfl rfl)
theorem dX0_works_92 : decode cX0_works 92 = .ok (.iaload, 1) := dk_46 (dk_at dksX0_works_3 22 rfl rfl)
theorem dX0_works_93 : decode cX0_works 93 = .ok (.aload_n 0, 1) := dk_42 (dk_at dksX0_works_3 23 rfl rfl)
theorem dX0_works_94 : decode cX0_works 94 = .ok (.getfield 31, 3) := dk_180 0 31 (dk_at dksX0_works_4 0 rfl rfl)
theorem dX0_works_97 : decode cX0_works 97 = .ok (.getfield 175, 3) := dk_180 0 175 (dk_at dksX0_works_4 3 rfl rfl)
theorem dX0_works_100 : decode cX0_works 100 = .ok (.irem, 1) := dk_112 (dk_at dksX0_works_4 6 rfl rfl)
theorem dX0_works_101 : decode cX0_works 101 = .ok (.iadd, 1) := dk_96 (dk_at dksX0_works_4 7 rfl rfl)
theorem dX0_works_102 : decode cX0_works 102 = .ok (.goto 4, 3) := dk_167 0 4 (dk_at dksX0_works_4 8 rfl rfl)
theorem dX0_works_105 : decode cX0_works 105 = .ok (.iconst (-1), 1) := dk_2 (dk_at dksX0_works_4 11 rfl rfl)
theorem dX0_works_106 : decode cX0_works 106 = .ok (.ireturn, 1) := dk_172 (dk_at dksX0_works_4 12 rfl rfl)
theorem dX0_works_107 : decode cX0_works 107 = .ok (.iinc 5 1, 3) := dk_132 5 1 (dk_at dksX0_works_4 13 rfl rfl)
theorem dX0_works_110 : decode cX0_works 110 = .ok (.goto (-85), 3) := dk_167 255 171 (dk_at dksX0_works_4 16 rfl rfl)
theorem dX0_works_113 : decode cX0_works 113 = .ok (.iconst (-1), 1) := dk_2 (dk_at dksX0_works_4 19 rfl rfl)
theorem dX0_works_114 : decode cX0_works 114 = .ok (.ireturn, 1) := dk_172 (dk_at dksX0_works_4 20 rfl rfl)
abbrev cX0_runsBy : ByteArray := prog_1_method_38_code
def yX0_runsBy : MethodName := ⟨RX0, "runsBy", "(IIII)Z"⟩
def dkwX0_runsBy_8 : List UInt8 := [4, 21, 6, 79, 4, 172, 132, 6, 1, 167, 255, 96, 132, 5, 1, 167, 255, 60, 3, 172]
abbrev dktX0_runsBy_8 : List UInt8 := dkwX0_runsBy_8 ++ []
def dkwX0_runsBy_7 : List UInt8 := [180, 0, 238, 28, 46, 29, 159, 0, 6, 167, 0, 21, 42, 180, 0, 76, 3, 21, 5, 79, 42, 180, 0, 76]
abbrev dktX0_runsBy_7 : List UInt8 := dkwX0_runsBy_7 ++ dktX0_runsBy_8
def dkwX0_runsBy_6 : List UInt8 := [180, 0, 73, 21, 6, 182, 1, 54, 21, 7, 153, 0, 42, 42, 180, 0, 73, 21, 4, 182, 1, 40]
abbrev dktX0_runsBy_6 : List UInt8 := dkwX0_runsBy_6 ++ dktX0_runsBy_7
def dkwX0_runsBy_5 : List UInt8 := [21, 6, 182, 1, 50, 154, 0, 7, 4, 167, 0, 4, 3, 54, 7, 27, 4, 164, 0, 13, 42, 42]
abbrev dktX0_runsBy_5 : List UInt8 := dkwX0_runsBy_5 ++ dktX0_runsBy_6
def dkwX0_runsBy_4 : List UInt8 := [42, 180, 0, 73, 21, 5, 182, 1, 54, 21, 7, 153, 0, 25, 27, 5, 161, 0, 16, 42, 42, 180, 0, 73]
abbrev dktX0_runsBy_4 : List UInt8 := dkwX0_runsBy_4 ++ dktX0_runsBy_5
def dkwX0_runsBy_3 : List UInt8 := [42, 180, 0, 73, 21, 5, 182, 1, 50, 154, 0, 7, 4, 167, 0, 4, 3, 54, 7, 27, 158, 0, 13, 42]
abbrev dktX0_runsBy_3 : List UInt8 := dkwX0_runsBy_3 ++ dktX0_runsBy_4
def dkwX0_runsBy_2 : List UInt8 := [167, 0, 4, 4, 162, 0, 148, 42, 180, 0, 73, 42, 180, 0, 69, 182, 1, 36, 87, 27, 153, 0, 16, 42]
abbrev dktX0_runsBy_2 : List UInt8 := dkwX0_runsBy_2 ++ dktX0_runsBy_3
def dkwX0_runsBy_1 : List UInt8 := [164, 0, 8, 21, 5, 167, 0, 4, 3, 54, 6, 21, 6, 27, 4, 164, 0, 10, 42, 182, 1, 47]
abbrev dktX0_runsBy_1 : List UInt8 := dkwX0_runsBy_1 ++ dktX0_runsBy_2
def dkwX0_runsBy_0 : List UInt8 := [3, 54, 5, 21, 5, 27, 158, 0, 10, 42, 182, 1, 47, 167, 0, 4, 4, 162, 0, 185, 27, 4]
abbrev dktX0_runsBy_0 : List UInt8 := dkwX0_runsBy_0 ++ dktX0_runsBy_1
theorem dksX0_runsBy_0 : cX0_runsBy.data.toList.drop 0 = dktX0_runsBy_0 := by decide +kernel
theorem dksX0_runsBy_1 : cX0_runsBy.data.toList.drop 22 = dktX0_runsBy_1 := dk_seg dksX0_runsBy_0 22 rfl rfl
theorem dksX0_runsBy_2 : cX0_runsBy.data.toList.drop 44 = dktX0_runsBy_2 := dk_seg dksX0_runsBy_1 22 rfl rfl
theorem dksX0_runsBy_3 : cX0_runsBy.data.toList.drop 68 = dktX0_runsBy_3 := dk_seg dksX0_runsBy_2 24 rfl rfl
theorem dksX0_runsBy_4 : cX0_runsBy.data.toList.drop 92 = dktX0_runsBy_4 := dk_seg dksX0_runsBy_3 24 rfl rfl
theorem dksX0_runsBy_5 : cX0_runsBy.data.toList.drop 116 = dktX0_runsBy_5 := dk_seg dksX0_runsBy_4 24 rfl rfl
theorem dksX0_runsBy_6 : cX0_runsBy.data.toList.drop 138 = dktX0_runsBy_6 := dk_seg dksX0_runsBy_5 22 rfl rfl
theorem dksX0_runsBy_7 : cX0_runsBy.data.toList.drop 160 = dktX0_runsBy_7 := dk_seg dksX0_runsBy_6 22 rfl rfl
theorem dksX0_runsBy_8 : cX0_runsBy.data.toList.drop 184 = dktX0_runsBy_8 := dk_seg dksX0_runsBy_7 24 rfl rfl
theorem dX0_runsBy_0 : decode cX0_runsBy 0 = .ok (.iconst 0, 1) := dk_3 (dk_at dksX0_runsBy_0 0 rfl rfl)
theorem dX0_runsBy_1 : decode cX0_runsBy 1 = .ok (.istore 5, 2) := dk_54 5 (dk_at dksX0_runsBy_0 1 rfl rfl)
theorem dX0_runsBy_3 : decode cX0_runsBy 3 = .ok (.iload 5, 2) := dk_21 5 (dk_at dksX0_runsBy_0 3 rfl rfl)
theorem dX0_runsBy_5 : decode cX0_runsBy 5 = .ok (.iload_n 1, 1) := dk_27 (dk_at dksX0_runsBy_0 5 rfl rfl)
theorem dX0_runsBy_6 : decode cX0_runsBy 6 = .ok (.ifCond .le 10, 3) := dk_158 0 10 (dk_at dksX0_runsBy_0 6 rfl rfl)
theorem dX0_runsBy_9 : decode cX0_runsBy 9 = .ok (.aload_n 0, 1) := dk_42 (dk_at dksX0_runsBy_0 9 rfl rfl)
theorem dX0_runsBy_10 : decode cX0_runsBy 10 = .ok (.invokevirtual 303, 3) := dk_182 1 47 (dk_at dksX0_runsBy_0 10 rfl rfl)
theorem dX0_runsBy_13 : decode cX0_runsBy 13 = .ok (.goto 4, 3) := dk_167 0 4 (dk_at dksX0_runsBy_0 13 rfl rfl)
theorem dX0_runsBy_16 : decode cX0_runsBy 16 = .ok (.iconst 1, 1) := dk_4 (dk_at dksX0_runsBy_0 16 rfl rfl)
theorem dX0_runsBy_17 : decode cX0_runsBy 17 = .ok (.if_icmp .ge 185, 3) := dk_162 0 185 (dk_at dksX0_runsBy_0 17 rfl rfl)
theorem dX0_runsBy_20 : decode cX0_runsBy 20 = .ok (.iload_n 1, 1) := dk_27 (dk_at dksX0_runsBy_0 20 rfl rfl)
theorem dX0_runsBy_21 : decode cX0_runsBy 21 = .ok (.iconst 1, 1) := dk_4 (dk_at dksX0_runsBy_0 21 rfl rfl)
theorem dX0_runsBy_22 : decode cX0_runsBy 22 = .ok (.if_icmp .le 8, 3) := dk_164 0 8 (dk_at dksX0_runsBy_1 0 rfl rfl)
theorem dX0_runsBy_25 : decode cX0_runsBy 25 = .ok (.iload 5, 2) := dk_21 5 (dk_at dksX0_runsBy_1 3 rfl rfl)
theorem dX0_runsBy_27 : decode cX0_runsBy 27 = .ok (.goto 4, 3) := dk_167 0 4 (dk_at dksX0_runsBy_1 5 rfl rfl)
theorem dX0_runsBy_30 : decode cX0_runsBy 30 = .ok (.iconst 0, 1) := dk_3 (dk_at dksX0_runsBy_1 8 rfl rfl)
theorem dX0_runsBy_31 : decode cX0_runsBy 31 = .ok (.istore 6, 2) := dk_54 6 (dk_at dksX0_runsBy_1 9 rfl rfl)
theorem dX0_runsBy_33 : decode cX0_runsBy 33 = .ok (.iload 6, 2) := dk_21 6 (dk_at dksX0_runsBy_1 11 rfl rfl)
theorem dX0_runsBy_35 : decode cX0_runsBy 35 = .ok (.iload_n 1, 1) := dk_27 (dk_at dksX0_runsBy_1 13 rfl rfl)
theorem dX0_runsBy_36 : decode cX0_runsBy 36 = .ok (.iconst 1, 1) := dk_4 (dk_at dksX0_runsBy_1 14 rfl rfl)
theorem dX0_runsBy_37 : decode cX0_runsBy 37 = .ok (.if_icmp .le 10, 3) := dk_164 0 10 (dk_at dksX0_runsBy_1 15 rfl rfl)
theorem dX0_runsBy_40 : decode cX0_runsBy 40 = .ok (.aload_n 0, 1) := dk_42 (dk_at dksX0_runsBy_1 18 rfl rfl)
theorem dX0_runsBy_41 : decode cX0_runsBy 41 = .ok (.invokevirtual 303, 3) := dk_182 1 47 (dk_at dksX0_runsBy_1 19 rfl rfl)
theorem dX0_runsBy_44 : decode cX0_runsBy 44 = .ok (.goto 4, 3) := dk_167 0 4 (dk_at dksX0_runsBy_2 0 rfl rfl)
theorem dX0_runsBy_47 : decode cX0_runsBy 47 = .ok (.iconst 1, 1) := dk_4 (dk_at dksX0_runsBy_2 3 rfl rfl)
theorem dX0_runsBy_48 : decode cX0_runsBy 48 = .ok (.if_icmp .ge 148, 3) := dk_162 0 148 (dk_at dksX0_runsBy_2 4 rfl rfl)
theorem dX0_runsBy_51 : decode cX0_runsBy 51 = .ok (.aload_n 0, 1) := dk_42 (dk_at dksX0_runsBy_2 7 rfl rfl)
theorem dX0_runsBy_52 : decode cX0_runsBy 52 = .ok (.getfield 73, 3) := dk_180 0 73 (dk_at dksX0_runsBy_2 8 rfl rfl)
theorem dX0_runsBy_55 : decode cX0_runsBy 55 = .ok (.aload_n 0, 1) := dk_42 (dk_at dksX0_runsBy_2 11 rfl rfl)
theorem dX0_runsBy_56 : decode cX0_runsBy 56 = .ok (.getfield 69, 3) := dk_180 0 69 (dk_at dksX0_runsBy_2 12 rfl rfl)
theorem dX0_runsBy_59 : decode cX0_runsBy 59 = .ok (.invokevirtual 292, 3) := dk_182 1 36 (dk_at dksX0_runsBy_2 15 rfl rfl)
theorem dX0_runsBy_62 : decode cX0_runsBy 62 = .ok (.pop, 1) := dk_87 (dk_at dksX0_runsBy_2 18 rfl rfl)
theorem dX0_runsBy_63 : decode cX0_runsBy 63 = .ok (.iload_n 1, 1) := dk_27 (dk_at dksX0_runsBy_2 19 rfl rfl)
theorem dX0_runsBy_64 : decode cX0_runsBy 64 = .ok (.ifCond .eq 16, 3) := dk_153 0 16 (dk_at dksX0_runsBy_2 20 rfl rfl)
theorem dX0_runsBy_67 : decode cX0_runsBy 67 = .ok (.aload_n 0, 1) := dk_42 (dk_at dksX0_runsBy_2 23 rfl rfl)
theorem dX0_runsBy_68 : decode cX0_runsBy 68 = .ok (.aload_n 0, 1) := dk_42 (dk_at dksX0_runsBy_3 0 rfl rfl)
theorem dX0_runsBy_69 : decode cX0_runsBy 69 = .ok (.getfield 73, 3) := dk_180 0 73 (dk_at dksX0_runsBy_3 1 rfl rfl)
theorem dX0_runsBy_72 : decode cX0_runsBy 72 = .ok (.iload 5, 2) := dk_21 5 (dk_at dksX0_runsBy_3 4 rfl rfl)
theorem dX0_runsBy_74 : decode cX0_runsBy 74 = .ok (.invokevirtual 306, 3) := dk_182 1 50 (dk_at dksX0_runsBy_3 6 rfl rfl)
theorem dX0_runsBy_77 : decode cX0_runsBy 77 = .ok (.ifCond .ne 7, 3) := dk_154 0 7 (dk_at dksX0_runsBy_3 9 rfl rfl)
theorem dX0_runsBy_80 : decode cX0_runsBy 80 = .ok (.iconst 1, 1) := dk_4 (dk_at dksX0_runsBy_3 12 rfl rfl)
theorem dX0_runsBy_81 : decode cX0_runsBy 81 = .ok (.goto 4, 3) := dk_167 0 4 (dk_at dksX0_runsBy_3 13 rfl rfl)
theorem dX0_runsBy_84 : decode cX0_runsBy 84 = .ok (.iconst 0, 1) := dk_3 (dk_at dksX0_runsBy_3 16 rfl rfl)
theorem dX0_runsBy_85 : decode cX0_runsBy 85 = .ok (.istore 7, 2) := dk_54 7 (dk_at dksX0_runsBy_3 17 rfl rfl)
theorem dX0_runsBy_87 : decode cX0_runsBy 87 = .ok (.iload_n 1, 1) := dk_27 (dk_at dksX0_runsBy_3 19 rfl rfl)
theorem dX0_runsBy_88 : decode cX0_runsBy 88 = .ok (.ifCond .le 13, 3) := dk_158 0 13 (dk_at dksX0_runsBy_3 20 rfl rfl)
theorem dX0_runsBy_91 : decode cX0_runsBy 91 = .ok (.aload_n 0, 1) := dk_42 (dk_at dksX0_runsBy_3 23 rfl rfl)
theorem dX0_runsBy_92 : decode cX0_runsBy 92 = .ok (.aload_n 0, 1) := dk_42 (dk_at dksX0_runsBy_4 0 rfl rfl)
theorem dX0_runsBy_93 : decode cX0_runsBy 93 = .ok (.getfield 73, 3) := dk_180 0 73 (dk_at dksX0_runsBy_4 1 rfl rfl)
theorem dX0_runsBy_96 : decode cX0_runsBy 96 = .ok (.iload 5, 2) := dk_21 5 (dk_at dksX0_runsBy_4 4 rfl rfl)
theorem dX0_runsBy_98 : decode cX0_runsBy 98 = .ok (.invokevirtual 310, 3) := dk_182 1 54 (dk_at dksX0_runsBy_4 6 rfl rfl)
theorem dX0_runsBy_101 : decode cX0_runsBy 101 = .ok (.iload 7, 2) := dk_21 7 (dk_at dksX0_runsBy_4 9 rfl rfl)
theorem dX0_runsBy_103 : decode cX0_runsBy 103 = .ok (.ifCond .eq 25, 3) := dk_153 0 25 (dk_at dksX0_runsBy_4 11 rfl rfl)
theorem dX0_runsBy_106 : decode cX0_runsBy 106 = .ok (.iload_n 1, 1) := dk_27 (dk_at dksX0_runsBy_4 14 rfl rfl)
theorem dX0_runsBy_107 : decode cX0_runsBy 107 = .ok (.iconst 2, 1) := dk_5 (dk_at dksX0_runsBy_4 15 rfl rfl)
theorem dX0_runsBy_108 : decode cX0_runsBy 108 = .ok (.if_icmp .lt 16, 3) := dk_161 0 16 (dk_at dksX0_runsBy_4 16 rfl rfl)
theorem dX0_runsBy_111 : decode cX0_runsBy 111 = .ok (.aload_n 0, 1) := dk_42 (dk_at dksX0_runsBy_4 19 rfl rfl)
theorem dX0_runsBy_112 : decode cX0_runsBy 112 = .ok (.aload_n 0, 1) := dk_42 (dk_at dksX0_runsBy_4 20 rfl rfl)
theorem dX0_runsBy_113 : decode cX0_runsBy 113 = .ok (.getfield 73, 3) := dk_180 0 73 (dk_at dksX0_runsBy_4 21 rfl rfl)
theorem dX0_runsBy_116 : decode cX0_runsBy 116 = .ok (.iload 6, 2) := dk_21 6 (dk_at dksX0_runsBy_5 0 rfl rfl)
theorem dX0_runsBy_118 : decode cX0_runsBy 118 = .ok (.invokevirtual 306, 3) := dk_182 1 50 (dk_at dksX0_runsBy_5 2 rfl rfl)
theorem dX0_runsBy_121 : decode cX0_runsBy 121 = .ok (.ifCond .ne 7, 3) := dk_154 0 7 (dk_at dksX0_runsBy_5 5 rfl rfl)
theorem dX0_runsBy_124 : decode cX0_runsBy 124 = .ok (.iconst 1, 1) := dk_4 (dk_at dksX0_runsBy_5 8 rfl rfl)
theorem dX0_runsBy_125 : decode cX0_runsBy 125 = .ok (.goto 4, 3) := dk_167 0 4 (dk_at dksX0_runsBy_5 9 rfl rfl)
theorem dX0_runsBy_128 : decode cX0_runsBy 128 = .ok (.iconst 0, 1) := dk_3 (dk_at dksX0_runsBy_5 12 rfl rfl)
theorem dX0_runsBy_129 : decode cX0_runsBy 129 = .ok (.istore 7, 2) := dk_54 7 (dk_at dksX0_runsBy_5 13 rfl rfl)
theorem dX0_runsBy_131 : decode cX0_runsBy 131 = .ok (.iload_n 1, 1) := dk_27 (dk_at dksX0_runsBy_5 15 rfl rfl)
theorem dX0_runsBy_132 : decode cX0_runsBy 132 = .ok (.iconst 1, 1) := dk_4 (dk_at dksX0_runsBy_5 16 rfl rfl)
theorem dX0_runsBy_133 : decode cX0_runsBy 133 = .ok (.if_icmp .le 13, 3) := dk_164 0 13 (dk_at dksX0_runsBy_5 17 rfl rfl)
theorem dX0_runsBy_136 : decode cX0_runsBy 136 = .ok (.aload_n 0, 1) := dk_42 (dk_at dksX0_runsBy_5 20 rfl rfl)
theorem dX0_runsBy_137 : decode cX0_runsBy 137 = .ok (.aload_n 0, 1) := dk_42 (dk_at dksX0_runsBy_5 21 rfl rfl)
theorem dX0_runsBy_138 : decode cX0_runsBy 138 = .ok (.getfield 73, 3) := dk_180 0 73 (dk_at dksX0_runsBy_6 0 rfl rfl)
theorem dX0_runsBy_141 : decode cX0_runsBy 141 = .ok (.iload 6, 2) := dk_21 6 (dk_at dksX0_runsBy_6 3 rfl rfl)
theorem dX0_runsBy_143 : decode cX0_runsBy 143 = .ok (.invokevirtual 310, 3) := dk_182 1 54 (dk_at dksX0_runsBy_6 5 rfl rfl)
theorem dX0_runsBy_146 : decode cX0_runsBy 146 = .ok (.iload 7, 2) := dk_21 7 (dk_at dksX0_runsBy_6 8 rfl rfl)
theorem dX0_runsBy_148 : decode cX0_runsBy 148 = .ok (.ifCond .eq 42, 3) := dk_153 0 42 (dk_at dksX0_runsBy_6 10 rfl rfl)
theorem dX0_runsBy_151 : decode cX0_runsBy 151 = .ok (.aload_n 0, 1) := dk_42 (dk_at dksX0_runsBy_6 13 rfl rfl)
theorem dX0_runsBy_152 : decode cX0_runsBy 152 = .ok (.getfield 73, 3) := dk_180 0 73 (dk_at dksX0_runsBy_6 14 rfl rfl)
theorem dX0_runsBy_155 : decode cX0_runsBy 155 = .ok (.iload 4, 2) := dk_21 4 (dk_at dksX0_runsBy_6 17 rfl rfl)
theorem dX0_runsBy_157 : decode cX0_runsBy 157 = .ok (.invokevirtual 296, 3) := dk_182 1 40 (dk_at dksX0_runsBy_6 19 rfl rfl)
theorem dX0_runsBy_160 : decode cX0_runsBy 160 = .ok (.getfield 238, 3) := dk_180 0 238 (dk_at dksX0_runsBy_7 0 rfl rfl)
theorem dX0_runsBy_163 : decode cX0_runsBy 163 = .ok (.iload_n 2, 1) := dk_28 (dk_at dksX0_runsBy_7 3 rfl rfl)
theorem dX0_runsBy_164 : decode cX0_runsBy 164 = .ok (.iaload, 1) := dk_46 (dk_at dksX0_runsBy_7 4 rfl rfl)
theorem dX0_runsBy_165 : decode cX0_runsBy 165 = .ok (.iload_n 3, 1) := dk_29 (dk_at dksX0_runsBy_7 5 rfl rfl)
theorem dX0_runsBy_166 : decode cX0_runsBy 166 = .ok (.if_icmp .eq 6, 3) := dk_159 0 6 (dk_at dksX0_runsBy_7 6 rfl rfl)
theorem dX0_runsBy_169 : decode cX0_runsBy 169 = .ok (.goto 21, 3) := dk_167 0 21 (dk_at dksX0_runsBy_7 9 rfl rfl)
theorem dX0_runsBy_172 : decode cX0_runsBy 172 = .ok (.aload_n 0, 1) := dk_42 (dk_at dksX0_runsBy_7 12 rfl rfl)
theorem dX0_runsBy_173 : decode cX0_runsBy 173 = .ok (.getfield 76, 3) := dk_180 0 76 (dk_at dksX0_runsBy_7 13 rfl rfl)
theorem dX0_runsBy_176 : decode cX0_runsBy 176 = .ok (.iconst 0, 1) := dk_3 (dk_at dksX0_runsBy_7 16 rfl rfl)
theorem dX0_runsBy_177 : decode cX0_runsBy 177 = .ok (.iload 5, 2) := dk_21 5 (dk_at dksX0_runsBy_7 17 rfl rfl)
theorem dX0_runsBy_179 : decode cX0_runsBy 179 = .ok (.iastore, 1) := dk_79 (dk_at dksX0_runsBy_7 19 rfl rfl)
theorem dX0_runsBy_180 : decode cX0_runsBy 180 = .ok (.aload_n 0, 1) := dk_42 (dk_at dksX0_runsBy_7 20 rfl rfl)
theorem dX0_runsBy_181 : decode cX0_runsBy 181 = .ok (.getfield 76, 3) := dk_180 0 76 (dk_at dksX0_runsBy_7 21 rfl rfl)
theorem dX0_runsBy_184 : decode cX0_runsBy 184 = .ok (.iconst 1, 1) := dk_4 (dk_at dksX0_runsBy_8 0 rfl rfl)
theorem dX0_runsBy_185 : decode cX0_runsBy 185 = .ok (.iload 6, 2) := dk_21 6 (dk_at dksX0_runsBy_8 1 rfl rfl)
theorem dX0_runsBy_187 : decode cX0_runsBy 187 = .ok (.iastore, 1) := dk_79 (dk_at dksX0_runsBy_8 3 rfl rfl)
theorem dX0_runsBy_188 : decode cX0_runsBy 188 = .ok (.iconst 1, 1) := dk_4 (dk_at dksX0_runsBy_8 4 rfl rfl)
theorem dX0_runsBy_189 : decode cX0_runsBy 189 = .ok (.ireturn, 1) := dk_172 (dk_at dksX0_runsBy_8 5 rfl rfl)
theorem dX0_runsBy_190 : decode cX0_runsBy 190 = .ok (.iinc 6 1, 3) := dk_132 6 1 (dk_at dksX0_runsBy_8 6 rfl rfl)
theorem dX0_runsBy_193 : decode cX0_runsBy 193 = .ok (.goto (-160), 3) := dk_167 255 96 (dk_at dksX0_runsBy_8 9 rfl rfl)
theorem dX0_runsBy_196 : decode cX0_runsBy 196 = .ok (.iinc 5 1, 3) := dk_132 5 1 (dk_at dksX0_runsBy_8 12 rfl rfl)
theorem dX0_runsBy_199 : decode cX0_runsBy 199 = .ok (.goto (-196), 3) := dk_167 255 60 (dk_at dksX0_runsBy_8 15 rfl rfl)
theorem dX0_runsBy_202 : decode cX0_runsBy 202 = .ok (.iconst 0, 1) := dk_3 (dk_at dksX0_runsBy_8 18 rfl rfl)
theorem dX0_runsBy_203 : decode cX0_runsBy 203 = .ok (.ireturn, 1) := dk_172 (dk_at dksX0_runsBy_8 19 rfl rfl)
abbrev cX0_places : ByteArray := prog_1_method_35_code
def yX0_places : MethodName := ⟨RX0, "places", "()I"⟩
def dkwX0_places_0 : List UInt8 := [42, 182, 0, 169, 42, 180, 0, 31, 180, 0, 175, 104, 172]
abbrev dktX0_places_0 : List UInt8 := dkwX0_places_0 ++ []
theorem dksX0_places_0 : cX0_places.data.toList.drop 0 = dktX0_places_0 := by decide +kernel
theorem dX0_places_0 : decode cX0_places 0 = .ok (.aload_n 0, 1) := dk_42 (dk_at dksX0_places_0 0 rfl rfl)
theorem dX0_places_1 : decode cX0_places 1 = .ok (.invokevirtual 169, 3) := dk_182 0 169 (dk_at dksX0_places_0 1 rfl rfl)
theorem dX0_places_4 : decode cX0_places 4 = .ok (.aload_n 0, 1) := dk_42 (dk_at dksX0_places_0 4 rfl rfl)
theorem dX0_places_5 : decode cX0_places 5 = .ok (.getfield 31, 3) := dk_180 0 31 (dk_at dksX0_places_0 5 rfl rfl)
theorem dX0_places_8 : decode cX0_places 8 = .ok (.getfield 175, 3) := dk_180 0 175 (dk_at dksX0_places_0 8 rfl rfl)
theorem dX0_places_11 : decode cX0_places 11 = .ok (.imul, 1) := dk_104 (dk_at dksX0_places_0 11 rfl rfl)
theorem dX0_places_12 : decode cX0_places 12 = .ok (.ireturn, 1) := dk_172 (dk_at dksX0_places_0 12 rfl rfl)
abbrev cX0_isFull : ByteArray := prog_1_method_37_code
def yX0_isFull : MethodName := ⟨RX0, "isFull", "(LBentRiver$State;I)Z"⟩
def dkwX0_isFull_1 : List UInt8 := [16, 9, 161, 0, 7, 4, 167, 0, 4, 3, 172]
abbrev dktX0_isFull_1 : List UInt8 := dkwX0_isFull_1 ++ []
def dkwX0_isFull_0 : List UInt8 := [43, 180, 0, 222, 28, 42, 180, 0, 31, 180, 0, 175, 108, 50, 28, 42, 180, 0, 31, 180, 0, 175, 112, 46]
abbrev dktX0_isFull_0 : List UInt8 := dkwX0_isFull_0 ++ dktX0_isFull_1
theorem dksX0_isFull_0 : cX0_isFull.data.toList.drop 0 = dktX0_isFull_0 := by decide +kernel
theorem dksX0_isFull_1 : cX0_isFull.data.toList.drop 24 = dktX0_isFull_1 := dk_seg dksX0_isFull_0 24 rfl rfl
theorem dX0_isFull_0 : decode cX0_isFull 0 = .ok (.aload_n 1, 1) := dk_43 (dk_at dksX0_isFull_0 0 rfl rfl)
theorem dX0_isFull_1 : decode cX0_isFull 1 = .ok (.getfield 222, 3) := dk_180 0 222 (dk_at dksX0_isFull_0 1 rfl rfl)
theorem dX0_isFull_4 : decode cX0_isFull 4 = .ok (.iload_n 2, 1) := dk_28 (dk_at dksX0_isFull_0 4 rfl rfl)
theorem dX0_isFull_5 : decode cX0_isFull 5 = .ok (.aload_n 0, 1) := dk_42 (dk_at dksX0_isFull_0 5 rfl rfl)
theorem dX0_isFull_6 : decode cX0_isFull 6 = .ok (.getfield 31, 3) := dk_180 0 31 (dk_at dksX0_isFull_0 6 rfl rfl)
theorem dX0_isFull_9 : decode cX0_isFull 9 = .ok (.getfield 175, 3) := dk_180 0 175 (dk_at dksX0_isFull_0 9 rfl rfl)
theorem dX0_isFull_12 : decode cX0_isFull 12 = .ok (.idiv, 1) := dk_108 (dk_at dksX0_isFull_0 12 rfl rfl)
theorem dX0_isFull_13 : decode cX0_isFull 13 = .ok (.aaload, 1) := dk_50 (dk_at dksX0_isFull_0 13 rfl rfl)
theorem dX0_isFull_14 : decode cX0_isFull 14 = .ok (.iload_n 2, 1) := dk_28 (dk_at dksX0_isFull_0 14 rfl rfl)
theorem dX0_isFull_15 : decode cX0_isFull 15 = .ok (.aload_n 0, 1) := dk_42 (dk_at dksX0_isFull_0 15 rfl rfl)
theorem dX0_isFull_16 : decode cX0_isFull 16 = .ok (.getfield 31, 3) := dk_180 0 31 (dk_at dksX0_isFull_0 16 rfl rfl)
theorem dX0_isFull_19 : decode cX0_isFull 19 = .ok (.getfield 175, 3) := dk_180 0 175 (dk_at dksX0_isFull_0 19 rfl rfl)
theorem dX0_isFull_22 : decode cX0_isFull 22 = .ok (.irem, 1) := dk_112 (dk_at dksX0_isFull_0 22 rfl rfl)
theorem dX0_isFull_23 : decode cX0_isFull 23 = .ok (.iaload, 1) := dk_46 (dk_at dksX0_isFull_0 23 rfl rfl)
theorem dX0_isFull_24 : decode cX0_isFull 24 = .ok (.bipush 9, 2) := dk_16 9 (dk_at dksX0_isFull_1 0 rfl rfl)
theorem dX0_isFull_26 : decode cX0_isFull 26 = .ok (.if_icmp .lt 7, 3) := dk_161 0 7 (dk_at dksX0_isFull_1 2 rfl rfl)
theorem dX0_isFull_29 : decode cX0_isFull 29 = .ok (.iconst 1, 1) := dk_4 (dk_at dksX0_isFull_1 5 rfl rfl)
theorem dX0_isFull_30 : decode cX0_isFull 30 = .ok (.goto 4, 3) := dk_167 0 4 (dk_at dksX0_isFull_1 6 rfl rfl)
theorem dX0_isFull_33 : decode cX0_isFull 33 = .ok (.iconst 0, 1) := dk_3 (dk_at dksX0_isFull_1 9 rfl rfl)
theorem dX0_isFull_34 : decode cX0_isFull 34 = .ok (.ireturn, 1) := dk_172 (dk_at dksX0_isFull_1 10 rfl rfl)
abbrev cX0_plants : ByteArray := prog_1_method_36_code
def yX0_plants : MethodName := ⟨RX0, "plants", "(LBentRiver$State;I)V"⟩
def dkwX0_plants_1 : List UInt8 := [46, 4, 96, 79, 177]
abbrev dktX0_plants_1 : List UInt8 := dkwX0_plants_1 ++ []
def dkwX0_plants_0 : List UInt8 := [43, 180, 0, 222, 28, 42, 180, 0, 31, 180, 0, 175, 108, 50, 28, 42, 180, 0, 31, 180, 0, 175, 112, 92]
abbrev dktX0_plants_0 : List UInt8 := dkwX0_plants_0 ++ dktX0_plants_1
theorem dksX0_plants_0 : cX0_plants.data.toList.drop 0 = dktX0_plants_0 := by decide +kernel
theorem dksX0_plants_1 : cX0_plants.data.toList.drop 24 = dktX0_plants_1 := dk_seg dksX0_plants_0 24 rfl rfl
theorem dX0_plants_0 : decode cX0_plants 0 = .ok (.aload_n 1, 1) := dk_43 (dk_at dksX0_plants_0 0 rfl rfl)
theorem dX0_plants_1 : decode cX0_plants 1 = .ok (.getfield 222, 3) := dk_180 0 222 (dk_at dksX0_plants_0 1 rfl rfl)
theorem dX0_plants_4 : decode cX0_plants 4 = .ok (.iload_n 2, 1) := dk_28 (dk_at dksX0_plants_0 4 rfl rfl)
theorem dX0_plants_5 : decode cX0_plants 5 = .ok (.aload_n 0, 1) := dk_42 (dk_at dksX0_plants_0 5 rfl rfl)
theorem dX0_plants_6 : decode cX0_plants 6 = .ok (.getfield 31, 3) := dk_180 0 31 (dk_at dksX0_plants_0 6 rfl rfl)
theorem dX0_plants_9 : decode cX0_plants 9 = .ok (.getfield 175, 3) := dk_180 0 175 (dk_at dksX0_plants_0 9 rfl rfl)
theorem dX0_plants_12 : decode cX0_plants 12 = .ok (.idiv, 1) := dk_108 (dk_at dksX0_plants_0 12 rfl rfl)
theorem dX0_plants_13 : decode cX0_plants 13 = .ok (.aaload, 1) := dk_50 (dk_at dksX0_plants_0 13 rfl rfl)
theorem dX0_plants_14 : decode cX0_plants 14 = .ok (.iload_n 2, 1) := dk_28 (dk_at dksX0_plants_0 14 rfl rfl)
theorem dX0_plants_15 : decode cX0_plants 15 = .ok (.aload_n 0, 1) := dk_42 (dk_at dksX0_plants_0 15 rfl rfl)
theorem dX0_plants_16 : decode cX0_plants 16 = .ok (.getfield 31, 3) := dk_180 0 31 (dk_at dksX0_plants_0 16 rfl rfl)
theorem dX0_plants_19 : decode cX0_plants 19 = .ok (.getfield 175, 3) := dk_180 0 175 (dk_at dksX0_plants_0 19 rfl rfl)
theorem dX0_plants_22 : decode cX0_plants 22 = .ok (.irem, 1) := dk_112 (dk_at dksX0_plants_0 22 rfl rfl)
theorem dX0_plants_23 : decode cX0_plants 23 = .ok (.dup2, 1) := dk_92 (dk_at dksX0_plants_0 23 rfl rfl)
theorem dX0_plants_24 : decode cX0_plants 24 = .ok (.iaload, 1) := dk_46 (dk_at dksX0_plants_1 0 rfl rfl)
theorem dX0_plants_25 : decode cX0_plants 25 = .ok (.iconst 1, 1) := dk_4 (dk_at dksX0_plants_1 1 rfl rfl)
theorem dX0_plants_26 : decode cX0_plants 26 = .ok (.iadd, 1) := dk_96 (dk_at dksX0_plants_1 2 rfl rfl)
theorem dX0_plants_27 : decode cX0_plants 27 = .ok (.iastore, 1) := dk_79 (dk_at dksX0_plants_1 3 rfl rfl)
theorem dX0_plants_28 : decode cX0_plants 28 = .ok (.return_, 1) := dk_177 (dk_at dksX0_plants_1 4 rfl rfl)
abbrev cX0_rest : ByteArray := prog_1_method_41_code
def yX0_rest : MethodName := ⟨RX0, "rest", "(I)I"⟩
def dkwX0_rest_6 : List UInt8 := [184, 1, 67, 162, 0, 13, 42, 29, 182, 1, 72, 153, 0, 5, 29, 61, 132, 3, 1, 167, 255, 217, 28, 172]
abbrev dktX0_rest_6 : List UInt8 := dkwX0_rest_6 ++ []
def dkwX0_rest_5 : List UInt8 := [61, 3, 62, 29, 4, 42, 182, 0, 180, 120, 162, 0, 35, 28, 2, 159, 0, 14, 29, 184, 1, 67, 28]
abbrev dktX0_rest_5 : List UInt8 := dkwX0_rest_5 ++ dktX0_rest_6
def dkwX0_rest_4 : List UInt8 := [29, 42, 180, 0, 73, 180, 1, 65, 29, 46, 79, 132, 3, 1, 167, 255, 228, 132, 2, 1, 167, 255, 159, 2]
abbrev dktX0_rest_4 : List UInt8 := dkwX0_rest_4 ++ dktX0_rest_5
def dkwX0_rest_3 : List UInt8 := [180, 0, 73, 27, 182, 1, 40, 87, 3, 62, 29, 42, 182, 0, 180, 162, 0, 26, 42, 180, 0, 81, 28, 50]
abbrev dktX0_rest_3 : List UInt8 := dkwX0_rest_3 ++ dktX0_rest_4
def dkwX0_rest_2 : List UInt8 := [162, 0, 23, 42, 180, 0, 73, 180, 0, 218, 29, 28, 29, 184, 1, 62, 84, 132, 3, 1, 167, 255, 231, 42]
abbrev dktX0_rest_2 : List UInt8 := dkwX0_rest_2 ++ dktX0_rest_3
def dkwX0_rest_1 : List UInt8 := [162, 0, 93, 42, 180, 0, 73, 42, 180, 0, 69, 182, 1, 36, 87, 3, 62, 29, 42, 182, 0, 180]
abbrev dktX0_rest_1 : List UInt8 := dkwX0_rest_1 ++ dktX0_rest_2
def dkwX0_rest_0 : List UInt8 := [42, 27, 4, 16, 30, 182, 1, 33, 154, 0, 5, 2, 172, 3, 61, 28, 4, 42, 182, 0, 180, 120]
abbrev dktX0_rest_0 : List UInt8 := dkwX0_rest_0 ++ dktX0_rest_1
theorem dksX0_rest_0 : cX0_rest.data.toList.drop 0 = dktX0_rest_0 := by decide +kernel
theorem dksX0_rest_1 : cX0_rest.data.toList.drop 22 = dktX0_rest_1 := dk_seg dksX0_rest_0 22 rfl rfl
theorem dksX0_rest_2 : cX0_rest.data.toList.drop 44 = dktX0_rest_2 := dk_seg dksX0_rest_1 22 rfl rfl
theorem dksX0_rest_3 : cX0_rest.data.toList.drop 68 = dktX0_rest_3 := dk_seg dksX0_rest_2 24 rfl rfl
theorem dksX0_rest_4 : cX0_rest.data.toList.drop 92 = dktX0_rest_4 := dk_seg dksX0_rest_3 24 rfl rfl
theorem dksX0_rest_5 : cX0_rest.data.toList.drop 116 = dktX0_rest_5 := dk_seg dksX0_rest_4 24 rfl rfl
theorem dksX0_rest_6 : cX0_rest.data.toList.drop 139 = dktX0_rest_6 := dk_seg dksX0_rest_5 23 rfl rfl
theorem dX0_rest_0 : decode cX0_rest 0 = .ok (.aload_n 0, 1) := dk_42 (dk_at dksX0_rest_0 0 rfl rfl)
theorem dX0_rest_1 : decode cX0_rest 1 = .ok (.iload_n 1, 1) := dk_27 (dk_at dksX0_rest_0 1 rfl rfl)
theorem dX0_rest_2 : decode cX0_rest 2 = .ok (.iconst 1, 1) := dk_4 (dk_at dksX0_rest_0 2 rfl rfl)
theorem dX0_rest_3 : decode cX0_rest 3 = .ok (.bipush 30, 2) := dk_16 30 (dk_at dksX0_rest_0 3 rfl rfl)
theorem dX0_rest_5 : decode cX0_rest 5 = .ok (.invokevirtual 289, 3) := dk_182 1 33 (dk_at dksX0_rest_0 5 rfl rfl)
theorem dX0_rest_8 : decode cX0_rest 8 = .ok (.ifCond .ne 5, 3) := dk_154 0 5 (dk_at dksX0_rest_0 8 rfl rfl)
theorem dX0_rest_11 : decode cX0_rest 11 = .ok (.iconst (-1), 1) := dk_2 (dk_at dksX0_rest_0 11 rfl rfl)
theorem dX0_rest_12 : decode cX0_rest 12 = .ok (.ireturn, 1) := dk_172 (dk_at dksX0_rest_0 12 rfl rfl)
theorem dX0_rest_13 : decode cX0_rest 13 = .ok (.iconst 0, 1) := dk_3 (dk_at dksX0_rest_0 13 rfl rfl)
theorem dX0_rest_14 : decode cX0_rest 14 = .ok (.istore_n 2, 1) := dk_61 (dk_at dksX0_rest_0 14 rfl rfl)
theorem dX0_rest_15 : decode cX0_rest 15 = .ok (.iload_n 2, 1) := dk_28 (dk_at dksX0_rest_0 15 rfl rfl)
theorem dX0_rest_16 : decode cX0_rest 16 = .ok (.iconst 1, 1) := dk_4 (dk_at dksX0_rest_0 16 rfl rfl)
theorem dX0_rest_17 : decode cX0_rest 17 = .ok (.aload_n 0, 1) := dk_42 (dk_at dksX0_rest_0 17 rfl rfl)
theorem dX0_rest_18 : decode cX0_rest 18 = .ok (.invokevirtual 180, 3) := dk_182 0 180 (dk_at dksX0_rest_0 18 rfl rfl)
theorem dX0_rest_21 : decode cX0_rest 21 = .ok (.ishl, 1) := dk_120 (dk_at dksX0_rest_0 21 rfl rfl)
theorem dX0_rest_22 : decode cX0_rest 22 = .ok (.if_icmp .ge 93, 3) := dk_162 0 93 (dk_at dksX0_rest_1 0 rfl rfl)
theorem dX0_rest_25 : decode cX0_rest 25 = .ok (.aload_n 0, 1) := dk_42 (dk_at dksX0_rest_1 3 rfl rfl)
theorem dX0_rest_26 : decode cX0_rest 26 = .ok (.getfield 73, 3) := dk_180 0 73 (dk_at dksX0_rest_1 4 rfl rfl)
theorem dX0_rest_29 : decode cX0_rest 29 = .ok (.aload_n 0, 1) := dk_42 (dk_at dksX0_rest_1 7 rfl rfl)
theorem dX0_rest_30 : decode cX0_rest 30 = .ok (.getfield 69, 3) := dk_180 0 69 (dk_at dksX0_rest_1 8 rfl rfl)
theorem dX0_rest_33 : decode cX0_rest 33 = .ok (.invokevirtual 292, 3) := dk_182 1 36 (dk_at dksX0_rest_1 11 rfl rfl)
theorem dX0_rest_36 : decode cX0_rest 36 = .ok (.pop, 1) := dk_87 (dk_at dksX0_rest_1 14 rfl rfl)
theorem dX0_rest_37 : decode cX0_rest 37 = .ok (.iconst 0, 1) := dk_3 (dk_at dksX0_rest_1 15 rfl rfl)
theorem dX0_rest_38 : decode cX0_rest 38 = .ok (.istore_n 3, 1) := dk_62 (dk_at dksX0_rest_1 16 rfl rfl)
theorem dX0_rest_39 : decode cX0_rest 39 = .ok (.iload_n 3, 1) := dk_29 (dk_at dksX0_rest_1 17 rfl rfl)
theorem dX0_rest_40 : decode cX0_rest 40 = .ok (.aload_n 0, 1) := dk_42 (dk_at dksX0_rest_1 18 rfl rfl)
theorem dX0_rest_41 : decode cX0_rest 41 = .ok (.invokevirtual 180, 3) := dk_182 0 180 (dk_at dksX0_rest_1 19 rfl rfl)
theorem dX0_rest_44 : decode cX0_rest 44 = .ok (.if_icmp .ge 23, 3) := dk_162 0 23 (dk_at dksX0_rest_2 0 rfl rfl)
theorem dX0_rest_47 : decode cX0_rest 47 = .ok (.aload_n 0, 1) := dk_42 (dk_at dksX0_rest_2 3 rfl rfl)
theorem dX0_rest_48 : decode cX0_rest 48 = .ok (.getfield 73, 3) := dk_180 0 73 (dk_at dksX0_rest_2 4 rfl rfl)
theorem dX0_rest_51 : decode cX0_rest 51 = .ok (.getfield 218, 3) := dk_180 0 218 (dk_at dksX0_rest_2 7 rfl rfl)
theorem dX0_rest_54 : decode cX0_rest 54 = .ok (.iload_n 3, 1) := dk_29 (dk_at dksX0_rest_2 10 rfl rfl)
theorem dX0_rest_55 : decode cX0_rest 55 = .ok (.iload_n 2, 1) := dk_28 (dk_at dksX0_rest_2 11 rfl rfl)
theorem dX0_rest_56 : decode cX0_rest 56 = .ok (.iload_n 3, 1) := dk_29 (dk_at dksX0_rest_2 12 rfl rfl)
theorem dX0_rest_57 : decode cX0_rest 57 = .ok (.invokestatic 318, 3) := dk_184 1 62 (dk_at dksX0_rest_2 13 rfl rfl)
theorem dX0_rest_60 : decode cX0_rest 60 = .ok (.bastore, 1) := dk_84 (dk_at dksX0_rest_2 16 rfl rfl)
theorem dX0_rest_61 : decode cX0_rest 61 = .ok (.iinc 3 1, 3) := dk_132 3 1 (dk_at dksX0_rest_2 17 rfl rfl)
theorem dX0_rest_64 : decode cX0_rest 64 = .ok (.goto (-25), 3) := dk_167 255 231 (dk_at dksX0_rest_2 20 rfl rfl)
theorem dX0_rest_67 : decode cX0_rest 67 = .ok (.aload_n 0, 1) := dk_42 (dk_at dksX0_rest_2 23 rfl rfl)
theorem dX0_rest_68 : decode cX0_rest 68 = .ok (.getfield 73, 3) := dk_180 0 73 (dk_at dksX0_rest_3 0 rfl rfl)
theorem dX0_rest_71 : decode cX0_rest 71 = .ok (.iload_n 1, 1) := dk_27 (dk_at dksX0_rest_3 3 rfl rfl)
theorem dX0_rest_72 : decode cX0_rest 72 = .ok (.invokevirtual 296, 3) := dk_182 1 40 (dk_at dksX0_rest_3 4 rfl rfl)
theorem dX0_rest_75 : decode cX0_rest 75 = .ok (.pop, 1) := dk_87 (dk_at dksX0_rest_3 7 rfl rfl)
theorem dX0_rest_76 : decode cX0_rest 76 = .ok (.iconst 0, 1) := dk_3 (dk_at dksX0_rest_3 8 rfl rfl)
theorem dX0_rest_77 : decode cX0_rest 77 = .ok (.istore_n 3, 1) := dk_62 (dk_at dksX0_rest_3 9 rfl rfl)
theorem dX0_rest_78 : decode cX0_rest 78 = .ok (.iload_n 3, 1) := dk_29 (dk_at dksX0_rest_3 10 rfl rfl)
theorem dX0_rest_79 : decode cX0_rest 79 = .ok (.aload_n 0, 1) := dk_42 (dk_at dksX0_rest_3 11 rfl rfl)
theorem dX0_rest_80 : decode cX0_rest 80 = .ok (.invokevirtual 180, 3) := dk_182 0 180 (dk_at dksX0_rest_3 12 rfl rfl)
theorem dX0_rest_83 : decode cX0_rest 83 = .ok (.if_icmp .ge 26, 3) := dk_162 0 26 (dk_at dksX0_rest_3 15 rfl rfl)
theorem dX0_rest_86 : decode cX0_rest 86 = .ok (.aload_n 0, 1) := dk_42 (dk_at dksX0_rest_3 18 rfl rfl)
theorem dX0_rest_87 : decode cX0_rest 87 = .ok (.getfield 81, 3) := dk_180 0 81 (dk_at dksX0_rest_3 19 rfl rfl)
theorem dX0_rest_90 : decode cX0_rest 90 = .ok (.iload_n 2, 1) := dk_28 (dk_at dksX0_rest_3 22 rfl rfl)
theorem dX0_rest_91 : decode cX0_rest 91 = .ok (.aaload, 1) := dk_50 (dk_at dksX0_rest_3 23 rfl rfl)
theorem dX0_rest_92 : decode cX0_rest 92 = .ok (.iload_n 3, 1) := dk_29 (dk_at dksX0_rest_4 0 rfl rfl)
theorem dX0_rest_93 : decode cX0_rest 93 = .ok (.aload_n 0, 1) := dk_42 (dk_at dksX0_rest_4 1 rfl rfl)
theorem dX0_rest_94 : decode cX0_rest 94 = .ok (.getfield 73, 3) := dk_180 0 73 (dk_at dksX0_rest_4 2 rfl rfl)
theorem dX0_rest_97 : decode cX0_rest 97 = .ok (.getfield 321, 3) := dk_180 1 65 (dk_at dksX0_rest_4 5 rfl rfl)
theorem dX0_rest_100 : decode cX0_rest 100 = .ok (.iload_n 3, 1) := dk_29 (dk_at dksX0_rest_4 8 rfl rfl)
theorem dX0_rest_101 : decode cX0_rest 101 = .ok (.iaload, 1) := dk_46 (dk_at dksX0_rest_4 9 rfl rfl)
theorem dX0_rest_102 : decode cX0_rest 102 = .ok (.iastore, 1) := dk_79 (dk_at dksX0_rest_4 10 rfl rfl)
theorem dX0_rest_103 : decode cX0_rest 103 = .ok (.iinc 3 1, 3) := dk_132 3 1 (dk_at dksX0_rest_4 11 rfl rfl)
theorem dX0_rest_106 : decode cX0_rest 106 = .ok (.goto (-28), 3) := dk_167 255 228 (dk_at dksX0_rest_4 14 rfl rfl)
theorem dX0_rest_109 : decode cX0_rest 109 = .ok (.iinc 2 1, 3) := dk_132 2 1 (dk_at dksX0_rest_4 17 rfl rfl)
theorem dX0_rest_112 : decode cX0_rest 112 = .ok (.goto (-97), 3) := dk_167 255 159 (dk_at dksX0_rest_4 20 rfl rfl)
theorem dX0_rest_115 : decode cX0_rest 115 = .ok (.iconst (-1), 1) := dk_2 (dk_at dksX0_rest_4 23 rfl rfl)
theorem dX0_rest_116 : decode cX0_rest 116 = .ok (.istore_n 2, 1) := dk_61 (dk_at dksX0_rest_5 0 rfl rfl)
theorem dX0_rest_117 : decode cX0_rest 117 = .ok (.iconst 0, 1) := dk_3 (dk_at dksX0_rest_5 1 rfl rfl)
theorem dX0_rest_118 : decode cX0_rest 118 = .ok (.istore_n 3, 1) := dk_62 (dk_at dksX0_rest_5 2 rfl rfl)
theorem dX0_rest_119 : decode cX0_rest 119 = .ok (.iload_n 3, 1) := dk_29 (dk_at dksX0_rest_5 3 rfl rfl)
theorem dX0_rest_120 : decode cX0_rest 120 = .ok (.iconst 1, 1) := dk_4 (dk_at dksX0_rest_5 4 rfl rfl)
theorem dX0_rest_121 : decode cX0_rest 121 = .ok (.aload_n 0, 1) := dk_42 (dk_at dksX0_rest_5 5 rfl rfl)
theorem dX0_rest_122 : decode cX0_rest 122 = .ok (.invokevirtual 180, 3) := dk_182 0 180 (dk_at dksX0_rest_5 6 rfl rfl)
theorem dX0_rest_125 : decode cX0_rest 125 = .ok (.ishl, 1) := dk_120 (dk_at dksX0_rest_5 9 rfl rfl)
theorem dX0_rest_126 : decode cX0_rest 126 = .ok (.if_icmp .ge 35, 3) := dk_162 0 35 (dk_at dksX0_rest_5 10 rfl rfl)
theorem dX0_rest_129 : decode cX0_rest 129 = .ok (.iload_n 2, 1) := dk_28 (dk_at dksX0_rest_5 13 rfl rfl)
theorem dX0_rest_130 : decode cX0_rest 130 = .ok (.iconst (-1), 1) := dk_2 (dk_at dksX0_rest_5 14 rfl rfl)
theorem dX0_rest_131 : decode cX0_rest 131 = .ok (.if_icmp .eq 14, 3) := dk_159 0 14 (dk_at dksX0_rest_5 15 rfl rfl)
theorem dX0_rest_134 : decode cX0_rest 134 = .ok (.iload_n 3, 1) := dk_29 (dk_at dksX0_rest_5 18 rfl rfl)
theorem dX0_rest_135 : decode cX0_rest 135 = .ok (.invokestatic 323, 3) := dk_184 1 67 (dk_at dksX0_rest_5 19 rfl rfl)
theorem dX0_rest_138 : decode cX0_rest 138 = .ok (.iload_n 2, 1) := dk_28 (dk_at dksX0_rest_5 22 rfl rfl)
theorem dX0_rest_139 : decode cX0_rest 139 = .ok (.invokestatic 323, 3) := dk_184 1 67 (dk_at dksX0_rest_6 0 rfl rfl)
theorem dX0_rest_142 : decode cX0_rest 142 = .ok (.if_icmp .ge 13, 3) := dk_162 0 13 (dk_at dksX0_rest_6 3 rfl rfl)
theorem dX0_rest_145 : decode cX0_rest 145 = .ok (.aload_n 0, 1) := dk_42 (dk_at dksX0_rest_6 6 rfl rfl)
theorem dX0_rest_146 : decode cX0_rest 146 = .ok (.iload_n 3, 1) := dk_29 (dk_at dksX0_rest_6 7 rfl rfl)
theorem dX0_rest_147 : decode cX0_rest 147 = .ok (.invokevirtual 328, 3) := dk_182 1 72 (dk_at dksX0_rest_6 8 rfl rfl)
theorem dX0_rest_150 : decode cX0_rest 150 = .ok (.ifCond .eq 5, 3) := dk_153 0 5 (dk_at dksX0_rest_6 11 rfl rfl)
theorem dX0_rest_153 : decode cX0_rest 153 = .ok (.iload_n 3, 1) := dk_29 (dk_at dksX0_rest_6 14 rfl rfl)
theorem dX0_rest_154 : decode cX0_rest 154 = .ok (.istore_n 2, 1) := dk_61 (dk_at dksX0_rest_6 15 rfl rfl)
theorem dX0_rest_155 : decode cX0_rest 155 = .ok (.iinc 3 1, 3) := dk_132 3 1 (dk_at dksX0_rest_6 16 rfl rfl)
theorem dX0_rest_158 : decode cX0_rest 158 = .ok (.goto (-39), 3) := dk_167 255 217 (dk_at dksX0_rest_6 19 rfl rfl)
theorem dX0_rest_161 : decode cX0_rest 161 = .ok (.iload_n 2, 1) := dk_28 (dk_at dksX0_rest_6 22 rfl rfl)
theorem dX0_rest_162 : decode cX0_rest 162 = .ok (.ireturn, 1) := dk_172 (dk_at dksX0_rest_6 23 rfl rfl)
abbrev cX0_isRest : ByteArray := prog_1_method_40_code
def yX0_isRest : MethodName := ⟨RX0, "isRest", "(I)Z"⟩
def dkwX0_isRest_1 : List UInt8 := [180, 0, 81, 27, 50, 28, 46, 164, 0, 5, 3, 172, 132, 2, 1, 167, 255, 220, 4, 172]
abbrev dktX0_isRest_1 : List UInt8 := dkwX0_isRest_1 ++ []
def dkwX0_isRest_0 : List UInt8 := [3, 61, 28, 42, 182, 0, 180, 162, 0, 34, 42, 180, 0, 81, 27, 4, 28, 120, 130, 50, 28, 46, 42]
abbrev dktX0_isRest_0 : List UInt8 := dkwX0_isRest_0 ++ dktX0_isRest_1
theorem dksX0_isRest_0 : cX0_isRest.data.toList.drop 0 = dktX0_isRest_0 := by decide +kernel
theorem dksX0_isRest_1 : cX0_isRest.data.toList.drop 23 = dktX0_isRest_1 := dk_seg dksX0_isRest_0 23 rfl rfl
theorem dX0_isRest_0 : decode cX0_isRest 0 = .ok (.iconst 0, 1) := dk_3 (dk_at dksX0_isRest_0 0 rfl rfl)
theorem dX0_isRest_1 : decode cX0_isRest 1 = .ok (.istore_n 2, 1) := dk_61 (dk_at dksX0_isRest_0 1 rfl rfl)
theorem dX0_isRest_2 : decode cX0_isRest 2 = .ok (.iload_n 2, 1) := dk_28 (dk_at dksX0_isRest_0 2 rfl rfl)
theorem dX0_isRest_3 : decode cX0_isRest 3 = .ok (.aload_n 0, 1) := dk_42 (dk_at dksX0_isRest_0 3 rfl rfl)
theorem dX0_isRest_4 : decode cX0_isRest 4 = .ok (.invokevirtual 180, 3) := dk_182 0 180 (dk_at dksX0_isRest_0 4 rfl rfl)
theorem dX0_isRest_7 : decode cX0_isRest 7 = .ok (.if_icmp .ge 34, 3) := dk_162 0 34 (dk_at dksX0_isRest_0 7 rfl rfl)
theorem dX0_isRest_10 : decode cX0_isRest 10 = .ok (.aload_n 0, 1) := dk_42 (dk_at dksX0_isRest_0 10 rfl rfl)
theorem dX0_isRest_11 : decode cX0_isRest 11 = .ok (.getfield 81, 3) := dk_180 0 81 (dk_at dksX0_isRest_0 11 rfl rfl)
theorem dX0_isRest_14 : decode cX0_isRest 14 = .ok (.iload_n 1, 1) := dk_27 (dk_at dksX0_isRest_0 14 rfl rfl)
theorem dX0_isRest_15 : decode cX0_isRest 15 = .ok (.iconst 1, 1) := dk_4 (dk_at dksX0_isRest_0 15 rfl rfl)
theorem dX0_isRest_16 : decode cX0_isRest 16 = .ok (.iload_n 2, 1) := dk_28 (dk_at dksX0_isRest_0 16 rfl rfl)
theorem dX0_isRest_17 : decode cX0_isRest 17 = .ok (.ishl, 1) := dk_120 (dk_at dksX0_isRest_0 17 rfl rfl)
theorem dX0_isRest_18 : decode cX0_isRest 18 = .ok (.ixor, 1) := dk_130 (dk_at dksX0_isRest_0 18 rfl rfl)
theorem dX0_isRest_19 : decode cX0_isRest 19 = .ok (.aaload, 1) := dk_50 (dk_at dksX0_isRest_0 19 rfl rfl)
theorem dX0_isRest_20 : decode cX0_isRest 20 = .ok (.iload_n 2, 1) := dk_28 (dk_at dksX0_isRest_0 20 rfl rfl)
theorem dX0_isRest_21 : decode cX0_isRest 21 = .ok (.iaload, 1) := dk_46 (dk_at dksX0_isRest_0 21 rfl rfl)
theorem dX0_isRest_22 : decode cX0_isRest 22 = .ok (.aload_n 0, 1) := dk_42 (dk_at dksX0_isRest_0 22 rfl rfl)
theorem dX0_isRest_23 : decode cX0_isRest 23 = .ok (.getfield 81, 3) := dk_180 0 81 (dk_at dksX0_isRest_1 0 rfl rfl)
theorem dX0_isRest_26 : decode cX0_isRest 26 = .ok (.iload_n 1, 1) := dk_27 (dk_at dksX0_isRest_1 3 rfl rfl)
theorem dX0_isRest_27 : decode cX0_isRest 27 = .ok (.aaload, 1) := dk_50 (dk_at dksX0_isRest_1 4 rfl rfl)
theorem dX0_isRest_28 : decode cX0_isRest 28 = .ok (.iload_n 2, 1) := dk_28 (dk_at dksX0_isRest_1 5 rfl rfl)
theorem dX0_isRest_29 : decode cX0_isRest 29 = .ok (.iaload, 1) := dk_46 (dk_at dksX0_isRest_1 6 rfl rfl)
theorem dX0_isRest_30 : decode cX0_isRest 30 = .ok (.if_icmp .le 5, 3) := dk_164 0 5 (dk_at dksX0_isRest_1 7 rfl rfl)
theorem dX0_isRest_33 : decode cX0_isRest 33 = .ok (.iconst 0, 1) := dk_3 (dk_at dksX0_isRest_1 10 rfl rfl)
theorem dX0_isRest_34 : decode cX0_isRest 34 = .ok (.ireturn, 1) := dk_172 (dk_at dksX0_isRest_1 11 rfl rfl)
theorem dX0_isRest_35 : decode cX0_isRest 35 = .ok (.iinc 2 1, 3) := dk_132 2 1 (dk_at dksX0_isRest_1 12 rfl rfl)
theorem dX0_isRest_38 : decode cX0_isRest 38 = .ok (.goto (-36), 3) := dk_167 255 220 (dk_at dksX0_isRest_1 15 rfl rfl)
theorem dX0_isRest_41 : decode cX0_isRest 41 = .ok (.iconst 1, 1) := dk_4 (dk_at dksX0_isRest_1 18 rfl rfl)
theorem dX0_isRest_42 : decode cX0_isRest 42 = .ok (.ireturn, 1) := dk_172 (dk_at dksX0_isRest_1 19 rfl rfl)
abbrev cX0_barge : ByteArray := prog_1_method_42_code
def yX0_barge : MethodName := ⟨RX0, "barge", "()I"⟩
def dkwX0_barge_0 : List UInt8 := [42, 182, 1, 29, 153, 0, 13, 42, 180, 0, 69, 182, 1, 75, 167, 0, 4, 2, 172]
abbrev dktX0_barge_0 : List UInt8 := dkwX0_barge_0 ++ []
theorem dksX0_barge_0 : cX0_barge.data.toList.drop 0 = dktX0_barge_0 := by decide +kernel
theorem dX0_barge_0 : decode cX0_barge 0 = .ok (.aload_n 0, 1) := dk_42 (dk_at dksX0_barge_0 0 rfl rfl)
theorem dX0_barge_1 : decode cX0_barge 1 = .ok (.invokevirtual 285, 3) := dk_182 1 29 (dk_at dksX0_barge_0 1 rfl rfl)
theorem dX0_barge_4 : decode cX0_barge 4 = .ok (.ifCond .eq 13, 3) := dk_153 0 13 (dk_at dksX0_barge_0 4 rfl rfl)
theorem dX0_barge_7 : decode cX0_barge 7 = .ok (.aload_n 0, 1) := dk_42 (dk_at dksX0_barge_0 7 rfl rfl)
theorem dX0_barge_8 : decode cX0_barge 8 = .ok (.getfield 69, 3) := dk_180 0 69 (dk_at dksX0_barge_0 8 rfl rfl)
theorem dX0_barge_11 : decode cX0_barge 11 = .ok (.invokevirtual 331, 3) := dk_182 1 75 (dk_at dksX0_barge_0 11 rfl rfl)
theorem dX0_barge_14 : decode cX0_barge 14 = .ok (.goto 4, 3) := dk_167 0 4 (dk_at dksX0_barge_0 14 rfl rfl)
theorem dX0_barge_17 : decode cX0_barge 17 = .ok (.iconst (-1), 1) := dk_2 (dk_at dksX0_barge_0 17 rfl rfl)
theorem dX0_barge_18 : decode cX0_barge 18 = .ok (.ireturn, 1) := dk_172 (dk_at dksX0_barge_0 18 rfl rfl)
abbrev cX0_cuts : ByteArray := prog_1_method_43_code
def yX0_cuts : MethodName := ⟨RX0, "cuts", "()I"⟩
def dkwX0_cuts_3 : List UInt8 := [180, 0, 73, 182, 1, 75, 61, 29, 60, 132, 3, 1, 167, 255, 195, 27, 172]
abbrev dktX0_cuts_3 : List UInt8 := dkwX0_cuts_3 ++ []
def dkwX0_cuts_2 : List UInt8 := [180, 0, 69, 29, 182, 1, 78, 79, 42, 180, 0, 73, 182, 1, 75, 28, 161, 0, 6, 167, 0, 13, 42]
abbrev dktX0_cuts_2 : List UInt8 := dkwX0_cuts_2 ++ dktX0_cuts_3
def dkwX0_cuts_1 : List UInt8 := [182, 0, 169, 4, 100, 162, 0, 57, 42, 180, 0, 73, 42, 180, 0, 69, 182, 1, 36, 180, 0, 238, 29, 42]
abbrev dktX0_cuts_1 : List UInt8 := dkwX0_cuts_1 ++ dktX0_cuts_2
def dkwX0_cuts_0 : List UInt8 := [42, 182, 1, 29, 154, 0, 5, 2, 172, 2, 60, 42, 180, 0, 69, 182, 1, 75, 61, 4, 62, 29, 42]
abbrev dktX0_cuts_0 : List UInt8 := dkwX0_cuts_0 ++ dktX0_cuts_1
theorem dksX0_cuts_0 : cX0_cuts.data.toList.drop 0 = dktX0_cuts_0 := by decide +kernel
theorem dksX0_cuts_1 : cX0_cuts.data.toList.drop 23 = dktX0_cuts_1 := dk_seg dksX0_cuts_0 23 rfl rfl
theorem dksX0_cuts_2 : cX0_cuts.data.toList.drop 47 = dktX0_cuts_2 := dk_seg dksX0_cuts_1 24 rfl rfl
theorem dksX0_cuts_3 : cX0_cuts.data.toList.drop 70 = dktX0_cuts_3 := dk_seg dksX0_cuts_2 23 rfl rfl
theorem dX0_cuts_0 : decode cX0_cuts 0 = .ok (.aload_n 0, 1) := dk_42 (dk_at dksX0_cuts_0 0 rfl rfl)
theorem dX0_cuts_1 : decode cX0_cuts 1 = .ok (.invokevirtual 285, 3) := dk_182 1 29 (dk_at dksX0_cuts_0 1 rfl rfl)
theorem dX0_cuts_4 : decode cX0_cuts 4 = .ok (.ifCond .ne 5, 3) := dk_154 0 5 (dk_at dksX0_cuts_0 4 rfl rfl)
theorem dX0_cuts_7 : decode cX0_cuts 7 = .ok (.iconst (-1), 1) := dk_2 (dk_at dksX0_cuts_0 7 rfl rfl)
theorem dX0_cuts_8 : decode cX0_cuts 8 = .ok (.ireturn, 1) := dk_172 (dk_at dksX0_cuts_0 8 rfl rfl)
theorem dX0_cuts_9 : decode cX0_cuts 9 = .ok (.iconst (-1), 1) := dk_2 (dk_at dksX0_cuts_0 9 rfl rfl)
theorem dX0_cuts_10 : decode cX0_cuts 10 = .ok (.istore_n 1, 1) := dk_60 (dk_at dksX0_cuts_0 10 rfl rfl)
theorem dX0_cuts_11 : decode cX0_cuts 11 = .ok (.aload_n 0, 1) := dk_42 (dk_at dksX0_cuts_0 11 rfl rfl)
theorem dX0_cuts_12 : decode cX0_cuts 12 = .ok (.getfield 69, 3) := dk_180 0 69 (dk_at dksX0_cuts_0 12 rfl rfl)
theorem dX0_cuts_15 : decode cX0_cuts 15 = .ok (.invokevirtual 331, 3) := dk_182 1 75 (dk_at dksX0_cuts_0 15 rfl rfl)
theorem dX0_cuts_18 : decode cX0_cuts 18 = .ok (.istore_n 2, 1) := dk_61 (dk_at dksX0_cuts_0 18 rfl rfl)
theorem dX0_cuts_19 : decode cX0_cuts 19 = .ok (.iconst 1, 1) := dk_4 (dk_at dksX0_cuts_0 19 rfl rfl)
theorem dX0_cuts_20 : decode cX0_cuts 20 = .ok (.istore_n 3, 1) := dk_62 (dk_at dksX0_cuts_0 20 rfl rfl)
theorem dX0_cuts_21 : decode cX0_cuts 21 = .ok (.iload_n 3, 1) := dk_29 (dk_at dksX0_cuts_0 21 rfl rfl)
theorem dX0_cuts_22 : decode cX0_cuts 22 = .ok (.aload_n 0, 1) := dk_42 (dk_at dksX0_cuts_0 22 rfl rfl)
theorem dX0_cuts_23 : decode cX0_cuts 23 = .ok (.invokevirtual 169, 3) := dk_182 0 169 (dk_at dksX0_cuts_1 0 rfl rfl)
theorem dX0_cuts_26 : decode cX0_cuts 26 = .ok (.iconst 1, 1) := dk_4 (dk_at dksX0_cuts_1 3 rfl rfl)
theorem dX0_cuts_27 : decode cX0_cuts 27 = .ok (.isub, 1) := dk_100 (dk_at dksX0_cuts_1 4 rfl rfl)
theorem dX0_cuts_28 : decode cX0_cuts 28 = .ok (.if_icmp .ge 57, 3) := dk_162 0 57 (dk_at dksX0_cuts_1 5 rfl rfl)
theorem dX0_cuts_31 : decode cX0_cuts 31 = .ok (.aload_n 0, 1) := dk_42 (dk_at dksX0_cuts_1 8 rfl rfl)
theorem dX0_cuts_32 : decode cX0_cuts 32 = .ok (.getfield 73, 3) := dk_180 0 73 (dk_at dksX0_cuts_1 9 rfl rfl)
theorem dX0_cuts_35 : decode cX0_cuts 35 = .ok (.aload_n 0, 1) := dk_42 (dk_at dksX0_cuts_1 12 rfl rfl)
theorem dX0_cuts_36 : decode cX0_cuts 36 = .ok (.getfield 69, 3) := dk_180 0 69 (dk_at dksX0_cuts_1 13 rfl rfl)
theorem dX0_cuts_39 : decode cX0_cuts 39 = .ok (.invokevirtual 292, 3) := dk_182 1 36 (dk_at dksX0_cuts_1 16 rfl rfl)
theorem dX0_cuts_42 : decode cX0_cuts 42 = .ok (.getfield 238, 3) := dk_180 0 238 (dk_at dksX0_cuts_1 19 rfl rfl)
theorem dX0_cuts_45 : decode cX0_cuts 45 = .ok (.iload_n 3, 1) := dk_29 (dk_at dksX0_cuts_1 22 rfl rfl)
theorem dX0_cuts_46 : decode cX0_cuts 46 = .ok (.aload_n 0, 1) := dk_42 (dk_at dksX0_cuts_1 23 rfl rfl)
theorem dX0_cuts_47 : decode cX0_cuts 47 = .ok (.getfield 69, 3) := dk_180 0 69 (dk_at dksX0_cuts_2 0 rfl rfl)
theorem dX0_cuts_50 : decode cX0_cuts 50 = .ok (.iload_n 3, 1) := dk_29 (dk_at dksX0_cuts_2 3 rfl rfl)
theorem dX0_cuts_51 : decode cX0_cuts 51 = .ok (.invokevirtual 334, 3) := dk_182 1 78 (dk_at dksX0_cuts_2 4 rfl rfl)
theorem dX0_cuts_54 : decode cX0_cuts 54 = .ok (.iastore, 1) := dk_79 (dk_at dksX0_cuts_2 7 rfl rfl)
theorem dX0_cuts_55 : decode cX0_cuts 55 = .ok (.aload_n 0, 1) := dk_42 (dk_at dksX0_cuts_2 8 rfl rfl)
theorem dX0_cuts_56 : decode cX0_cuts 56 = .ok (.getfield 73, 3) := dk_180 0 73 (dk_at dksX0_cuts_2 9 rfl rfl)
theorem dX0_cuts_59 : decode cX0_cuts 59 = .ok (.invokevirtual 331, 3) := dk_182 1 75 (dk_at dksX0_cuts_2 12 rfl rfl)
theorem dX0_cuts_62 : decode cX0_cuts 62 = .ok (.iload_n 2, 1) := dk_28 (dk_at dksX0_cuts_2 15 rfl rfl)
theorem dX0_cuts_63 : decode cX0_cuts 63 = .ok (.if_icmp .lt 6, 3) := dk_161 0 6 (dk_at dksX0_cuts_2 16 rfl rfl)
theorem dX0_cuts_66 : decode cX0_cuts 66 = .ok (.goto 13, 3) := dk_167 0 13 (dk_at dksX0_cuts_2 19 rfl rfl)
theorem dX0_cuts_69 : decode cX0_cuts 69 = .ok (.aload_n 0, 1) := dk_42 (dk_at dksX0_cuts_2 22 rfl rfl)
theorem dX0_cuts_70 : decode cX0_cuts 70 = .ok (.getfield 73, 3) := dk_180 0 73 (dk_at dksX0_cuts_3 0 rfl rfl)
theorem dX0_cuts_73 : decode cX0_cuts 73 = .ok (.invokevirtual 331, 3) := dk_182 1 75 (dk_at dksX0_cuts_3 3 rfl rfl)
theorem dX0_cuts_76 : decode cX0_cuts 76 = .ok (.istore_n 2, 1) := dk_61 (dk_at dksX0_cuts_3 6 rfl rfl)
theorem dX0_cuts_77 : decode cX0_cuts 77 = .ok (.iload_n 3, 1) := dk_29 (dk_at dksX0_cuts_3 7 rfl rfl)
theorem dX0_cuts_78 : decode cX0_cuts 78 = .ok (.istore_n 1, 1) := dk_60 (dk_at dksX0_cuts_3 8 rfl rfl)
theorem dX0_cuts_79 : decode cX0_cuts 79 = .ok (.iinc 3 1, 3) := dk_132 3 1 (dk_at dksX0_cuts_3 9 rfl rfl)
theorem dX0_cuts_82 : decode cX0_cuts 82 = .ok (.goto (-61), 3) := dk_167 255 195 (dk_at dksX0_cuts_3 12 rfl rfl)
theorem dX0_cuts_85 : decode cX0_cuts 85 = .ok (.iload_n 1, 1) := dk_27 (dk_at dksX0_cuts_3 15 rfl rfl)
theorem dX0_cuts_86 : decode cX0_cuts 86 = .ok (.ireturn, 1) := dk_172 (dk_at dksX0_cuts_3 16 rfl rfl)
abbrev cX0_dream : ByteArray := prog_1_method_48_code
def yX0_dream : MethodName := ⟨RX0, "dream", "(I)I"⟩
def dkwX0_dream_1 : List UInt8 := [182, 1, 101, 61, 27, 2, 160, 0, 7, 28, 167, 0, 9, 42, 180, 0, 89, 27, 46, 172]
abbrev dktX0_dream_1 : List UInt8 := dkwX0_dream_1 ++ []
def dkwX0_dream_0 : List UInt8 := [42, 182, 1, 29, 153, 0, 16, 27, 2, 159, 0, 13, 42, 27, 182, 0, 171, 154, 0, 5, 2, 172, 42]
abbrev dktX0_dream_0 : List UInt8 := dkwX0_dream_0 ++ dktX0_dream_1
theorem dksX0_dream_0 : cX0_dream.data.toList.drop 0 = dktX0_dream_0 := by decide +kernel
theorem dksX0_dream_1 : cX0_dream.data.toList.drop 23 = dktX0_dream_1 := dk_seg dksX0_dream_0 23 rfl rfl
theorem dX0_dream_0 : decode cX0_dream 0 = .ok (.aload_n 0, 1) := dk_42 (dk_at dksX0_dream_0 0 rfl rfl)
theorem dX0_dream_1 : decode cX0_dream 1 = .ok (.invokevirtual 285, 3) := dk_182 1 29 (dk_at dksX0_dream_0 1 rfl rfl)
theorem dX0_dream_4 : decode cX0_dream 4 = .ok (.ifCond .eq 16, 3) := dk_153 0 16 (dk_at dksX0_dream_0 4 rfl rfl)
theorem dX0_dream_7 : decode cX0_dream 7 = .ok (.iload_n 1, 1) := dk_27 (dk_at dksX0_dream_0 7 rfl rfl)
theorem dX0_dream_8 : decode cX0_dream 8 = .ok (.iconst (-1), 1) := dk_2 (dk_at dksX0_dream_0 8 rfl rfl)
theorem dX0_dream_9 : decode cX0_dream 9 = .ok (.if_icmp .eq 13, 3) := dk_159 0 13 (dk_at dksX0_dream_0 9 rfl rfl)
theorem dX0_dream_12 : decode cX0_dream 12 = .ok (.aload_n 0, 1) := dk_42 (dk_at dksX0_dream_0 12 rfl rfl)
theorem dX0_dream_13 : decode cX0_dream 13 = .ok (.iload_n 1, 1) := dk_27 (dk_at dksX0_dream_0 13 rfl rfl)
theorem dX0_dream_14 : decode cX0_dream 14 = .ok (.invokevirtual 171, 3) := dk_182 0 171 (dk_at dksX0_dream_0 14 rfl rfl)
theorem dX0_dream_17 : decode cX0_dream 17 = .ok (.ifCond .ne 5, 3) := dk_154 0 5 (dk_at dksX0_dream_0 17 rfl rfl)
theorem dX0_dream_20 : decode cX0_dream 20 = .ok (.iconst (-1), 1) := dk_2 (dk_at dksX0_dream_0 20 rfl rfl)
theorem dX0_dream_21 : decode cX0_dream 21 = .ok (.ireturn, 1) := dk_172 (dk_at dksX0_dream_0 21 rfl rfl)
theorem dX0_dream_22 : decode cX0_dream 22 = .ok (.aload_n 0, 1) := dk_42 (dk_at dksX0_dream_0 22 rfl rfl)
theorem dX0_dream_23 : decode cX0_dream 23 = .ok (.invokevirtual 357, 3) := dk_182 1 101 (dk_at dksX0_dream_1 0 rfl rfl)
theorem dX0_dream_26 : decode cX0_dream 26 = .ok (.istore_n 2, 1) := dk_61 (dk_at dksX0_dream_1 3 rfl rfl)
theorem dX0_dream_27 : decode cX0_dream 27 = .ok (.iload_n 1, 1) := dk_27 (dk_at dksX0_dream_1 4 rfl rfl)
theorem dX0_dream_28 : decode cX0_dream 28 = .ok (.iconst (-1), 1) := dk_2 (dk_at dksX0_dream_1 5 rfl rfl)
theorem dX0_dream_29 : decode cX0_dream 29 = .ok (.if_icmp .ne 7, 3) := dk_160 0 7 (dk_at dksX0_dream_1 6 rfl rfl)
theorem dX0_dream_32 : decode cX0_dream 32 = .ok (.iload_n 2, 1) := dk_28 (dk_at dksX0_dream_1 9 rfl rfl)
theorem dX0_dream_33 : decode cX0_dream 33 = .ok (.goto 9, 3) := dk_167 0 9 (dk_at dksX0_dream_1 10 rfl rfl)
theorem dX0_dream_36 : decode cX0_dream 36 = .ok (.aload_n 0, 1) := dk_42 (dk_at dksX0_dream_1 13 rfl rfl)
theorem dX0_dream_37 : decode cX0_dream 37 = .ok (.getfield 89, 3) := dk_180 0 89 (dk_at dksX0_dream_1 14 rfl rfl)
theorem dX0_dream_40 : decode cX0_dream 40 = .ok (.iload_n 1, 1) := dk_27 (dk_at dksX0_dream_1 17 rfl rfl)
theorem dX0_dream_41 : decode cX0_dream 41 = .ok (.iaload, 1) := dk_46 (dk_at dksX0_dream_1 18 rfl rfl)
theorem dX0_dream_42 : decode cX0_dream 42 = .ok (.ireturn, 1) := dk_172 (dk_at dksX0_dream_1 19 rfl rfl)
abbrev cX0_dreams : ByteArray := prog_1_method_47_code
def yX0_dreams : MethodName := ⟨RX0, "dreams", "()I"⟩
def dkwX0_dreams_10 : List UInt8 := [132, 5, 1, 167, 255, 194, 42, 180, 0, 89, 28, 21, 5, 79, 132, 2, 1, 167, 255, 128, 27, 172]
abbrev dktX0_dreams_10 : List UInt8 := dkwX0_dreams_10 ++ []
def dkwX0_dreams_9 : List UInt8 := [180, 0, 86, 28, 50, 42, 180, 0, 89, 28, 4, 100, 46, 50, 21, 5, 46, 96, 21, 4, 159, 0, 9]
abbrev dktX0_dreams_9 : List UInt8 := dkwX0_dreams_9 ++ dktX0_dreams_10
def dkwX0_dreams_8 : List UInt8 := [153, 0, 45, 42, 28, 4, 100, 29, 42, 180, 0, 89, 28, 4, 100, 46, 21, 5, 182, 1, 88, 42]
abbrev dktX0_dreams_8 : List UInt8 := dkwX0_dreams_8 ++ dktX0_dreams_9
def dkwX0_dreams_7 : List UInt8 := [46, 182, 1, 97, 54, 4, 3, 54, 5, 42, 42, 180, 0, 89, 28, 4, 100, 46, 21, 5, 182, 1, 91]
abbrev dktX0_dreams_7 : List UInt8 := dkwX0_dreams_7 ++ dktX0_dreams_8
def dkwX0_dreams_6 : List UInt8 := [167, 0, 11, 42, 180, 0, 89, 28, 5, 100, 46, 62, 42, 28, 4, 100, 29, 42, 180, 0, 89, 28, 4, 100]
abbrev dktX0_dreams_6 : List UInt8 := dkwX0_dreams_6 ++ dktX0_dreams_7
def dkwX0_dreams_5 : List UInt8 := [167, 255, 213, 4, 61, 28, 42, 182, 0, 169, 162, 0, 126, 28, 4, 160, 0, 12, 42, 180, 0, 89, 3, 46]
abbrev dktX0_dreams_5 : List UInt8 := dkwX0_dreams_5 ++ dktX0_dreams_6
def dkwX0_dreams_4 : List UInt8 := [163, 0, 6, 167, 0, 18, 42, 3, 28, 28, 182, 1, 97, 60, 42, 180, 0, 89, 3, 28, 79, 132, 2, 1]
abbrev dktX0_dreams_4 : List UInt8 := dkwX0_dreams_4 ++ dktX0_dreams_5
def dkwX0_dreams_3 : List UInt8 := [2, 60, 3, 61, 28, 42, 180, 0, 31, 180, 0, 175, 162, 0, 38, 42, 3, 28, 28, 182, 1, 97, 27]
abbrev dktX0_dreams_3 : List UInt8 := dkwX0_dreams_3 ++ dktX0_dreams_4
def dkwX0_dreams_2 : List UInt8 := [28, 29, 182, 1, 97, 79, 132, 3, 1, 167, 255, 225, 132, 2, 1, 167, 255, 206, 132, 1, 255, 167, 255, 194]
abbrev dktX0_dreams_2 : List UInt8 := dkwX0_dreams_2 ++ dktX0_dreams_3
def dkwX0_dreams_1 : List UInt8 := [3, 62, 29, 42, 180, 0, 31, 180, 0, 175, 162, 0, 26, 42, 180, 0, 86, 27, 50, 28, 50, 29, 42, 27]
abbrev dktX0_dreams_1 : List UInt8 := dkwX0_dreams_1 ++ dktX0_dreams_2
def dkwX0_dreams_0 : List UInt8 := [42, 182, 0, 169, 4, 100, 60, 27, 158, 0, 64, 3, 61, 28, 42, 180, 0, 31, 180, 0, 175, 162, 0, 45]
abbrev dktX0_dreams_0 : List UInt8 := dkwX0_dreams_0 ++ dktX0_dreams_1
theorem dksX0_dreams_0 : cX0_dreams.data.toList.drop 0 = dktX0_dreams_0 := by decide +kernel
theorem dksX0_dreams_1 : cX0_dreams.data.toList.drop 24 = dktX0_dreams_1 := dk_seg dksX0_dreams_0 24 rfl rfl
theorem dksX0_dreams_2 : cX0_dreams.data.toList.drop 48 = dktX0_dreams_2 := dk_seg dksX0_dreams_1 24 rfl rfl
theorem dksX0_dreams_3 : cX0_dreams.data.toList.drop 72 = dktX0_dreams_3 := dk_seg dksX0_dreams_2 24 rfl rfl
theorem dksX0_dreams_4 : cX0_dreams.data.toList.drop 95 = dktX0_dreams_4 := dk_seg dksX0_dreams_3 23 rfl rfl
theorem dksX0_dreams_5 : cX0_dreams.data.toList.drop 119 = dktX0_dreams_5 := dk_seg dksX0_dreams_4 24 rfl rfl
theorem dksX0_dreams_6 : cX0_dreams.data.toList.drop 143 = dktX0_dreams_6 := dk_seg dksX0_dreams_5 24 rfl rfl
theorem dksX0_dreams_7 : cX0_dreams.data.toList.drop 167 = dktX0_dreams_7 := dk_seg dksX0_dreams_6 24 rfl rfl
theorem dksX0_dreams_8 : cX0_dreams.data.toList.drop 190 = dktX0_dreams_8 := dk_seg dksX0_dreams_7 23 rfl rfl
theorem dksX0_dreams_9 : cX0_dreams.data.toList.drop 212 = dktX0_dreams_9 := dk_seg dksX0_dreams_8 22 rfl rfl
theorem dksX0_dreams_10 : cX0_dreams.data.toList.drop 235 = dktX0_dreams_10 := dk_seg dksX0_dreams_9 23 rfl rfl
theorem dX0_dreams_0 : decode cX0_dreams 0 = .ok (.aload_n 0, 1) := dk_42 (dk_at dksX0_dreams_0 0 rfl rfl)
theorem dX0_dreams_1 : decode cX0_dreams 1 = .ok (.invokevirtual 169, 3) := dk_182 0 169 (dk_at dksX0_dreams_0 1 rfl rfl)
theorem dX0_dreams_4 : decode cX0_dreams 4 = .ok (.iconst 1, 1) := dk_4 (dk_at dksX0_dreams_0 4 rfl rfl)
theorem dX0_dreams_5 : decode cX0_dreams 5 = .ok (.isub, 1) := dk_100 (dk_at dksX0_dreams_0 5 rfl rfl)
theorem dX0_dreams_6 : decode cX0_dreams 6 = .ok (.istore_n 1, 1) := dk_60 (dk_at dksX0_dreams_0 6 rfl rfl)
theorem dX0_dreams_7 : decode cX0_dreams 7 = .ok (.iload_n 1, 1) := dk_27 (dk_at dksX0_dreams_0 7 rfl rfl)
theorem dX0_dreams_8 : decode cX0_dreams 8 = .ok (.ifCond .le 64, 3) := dk_158 0 64 (dk_at dksX0_dreams_0 8 rfl rfl)
theorem dX0_dreams_11 : decode cX0_dreams 11 = .ok (.iconst 0, 1) := dk_3 (dk_at dksX0_dreams_0 11 rfl rfl)
theorem dX0_dreams_12 : decode cX0_dreams 12 = .ok (.istore_n 2, 1) := dk_61 (dk_at dksX0_dreams_0 12 rfl rfl)
theorem dX0_dreams_13 : decode cX0_dreams 13 = .ok (.iload_n 2, 1) := dk_28 (dk_at dksX0_dreams_0 13 rfl rfl)
theorem dX0_dreams_14 : decode cX0_dreams 14 = .ok (.aload_n 0, 1) := dk_42 (dk_at dksX0_dreams_0 14 rfl rfl)
theorem dX0_dreams_15 : decode cX0_dreams 15 = .ok (.getfield 31, 3) := dk_180 0 31 (dk_at dksX0_dreams_0 15 rfl rfl)
theorem dX0_dreams_18 : decode cX0_dreams 18 = .ok (.getfield 175, 3) := dk_180 0 175 (dk_at dksX0_dreams_0 18 rfl rfl)
theorem dX0_dreams_21 : decode cX0_dreams 21 = .ok (.if_icmp .ge 45, 3) := dk_162 0 45 (dk_at dksX0_dreams_0 21 rfl rfl)
theorem dX0_dreams_24 : decode cX0_dreams 24 = .ok (.iconst 0, 1) := dk_3 (dk_at dksX0_dreams_1 0 rfl rfl)
theorem dX0_dreams_25 : decode cX0_dreams 25 = .ok (.istore_n 3, 1) := dk_62 (dk_at dksX0_dreams_1 1 rfl rfl)
theorem dX0_dreams_26 : decode cX0_dreams 26 = .ok (.iload_n 3, 1) := dk_29 (dk_at dksX0_dreams_1 2 rfl rfl)
theorem dX0_dreams_27 : decode cX0_dreams 27 = .ok (.aload_n 0, 1) := dk_42 (dk_at dksX0_dreams_1 3 rfl rfl)
theorem dX0_dreams_28 : decode cX0_dreams 28 = .ok (.getfield 31, 3) := dk_180 0 31 (dk_at dksX0_dreams_1 4 rfl rfl)
theorem dX0_dreams_31 : decode cX0_dreams 31 = .ok (.getfield 175, 3) := dk_180 0 175 (dk_at dksX0_dreams_1 7 rfl rfl)
theorem dX0_dreams_34 : decode cX0_dreams 34 = .ok (.if_icmp .ge 26, 3) := dk_162 0 26 (dk_at dksX0_dreams_1 10 rfl rfl)
theorem dX0_dreams_37 : decode cX0_dreams 37 = .ok (.aload_n 0, 1) := dk_42 (dk_at dksX0_dreams_1 13 rfl rfl)
theorem dX0_dreams_38 : decode cX0_dreams 38 = .ok (.getfield 86, 3) := dk_180 0 86 (dk_at dksX0_dreams_1 14 rfl rfl)
theorem dX0_dreams_41 : decode cX0_dreams 41 = .ok (.iload_n 1, 1) := dk_27 (dk_at dksX0_dreams_1 17 rfl rfl)
theorem dX0_dreams_42 : decode cX0_dreams 42 = .ok (.aaload, 1) := dk_50 (dk_at dksX0_dreams_1 18 rfl rfl)
theorem dX0_dreams_43 : decode cX0_dreams 43 = .ok (.iload_n 2, 1) := dk_28 (dk_at dksX0_dreams_1 19 rfl rfl)
theorem dX0_dreams_44 : decode cX0_dreams 44 = .ok (.aaload, 1) := dk_50 (dk_at dksX0_dreams_1 20 rfl rfl)
theorem dX0_dreams_45 : decode cX0_dreams 45 = .ok (.iload_n 3, 1) := dk_29 (dk_at dksX0_dreams_1 21 rfl rfl)
theorem dX0_dreams_46 : decode cX0_dreams 46 = .ok (.aload_n 0, 1) := dk_42 (dk_at dksX0_dreams_1 22 rfl rfl)
theorem dX0_dreams_47 : decode cX0_dreams 47 = .ok (.iload_n 1, 1) := dk_27 (dk_at dksX0_dreams_1 23 rfl rfl)
theorem dX0_dreams_48 : decode cX0_dreams 48 = .ok (.iload_n 2, 1) := dk_28 (dk_at dksX0_dreams_2 0 rfl rfl)
theorem dX0_dreams_49 : decode cX0_dreams 49 = .ok (.iload_n 3, 1) := dk_29 (dk_at dksX0_dreams_2 1 rfl rfl)
theorem dX0_dreams_50 : decode cX0_dreams 50 = .ok (.invokevirtual 353, 3) := dk_182 1 97 (dk_at dksX0_dreams_2 2 rfl rfl)
theorem dX0_dreams_53 : decode cX0_dreams 53 = .ok (.iastore, 1) := dk_79 (dk_at dksX0_dreams_2 5 rfl rfl)
theorem dX0_dreams_54 : decode cX0_dreams 54 = .ok (.iinc 3 1, 3) := dk_132 3 1 (dk_at dksX0_dreams_2 6 rfl rfl)
theorem dX0_dreams_57 : decode cX0_dreams 57 = .ok (.goto (-31), 3) := dk_167 255 225 (dk_at dksX0_dreams_2 9 rfl rfl)
theorem dX0_dreams_60 : decode cX0_dreams 60 = .ok (.iinc 2 1, 3) := dk_132 2 1 (dk_at dksX0_dreams_2 12 rfl rfl)
theorem dX0_dreams_63 : decode cX0_dreams 63 = .ok (.goto (-50), 3) := dk_167 255 206 (dk_at dksX0_dreams_2 15 rfl rfl)
theorem dX0_dreams_66 : decode cX0_dreams 66 = .ok (.iinc 1 (-1), 3) := dk_132 1 255 (dk_at dksX0_dreams_2 18 rfl rfl)
theorem dX0_dreams_69 : decode cX0_dreams 69 = .ok (.goto (-62), 3) := dk_167 255 194 (dk_at dksX0_dreams_2 21 rfl rfl)
theorem dX0_dreams_72 : decode cX0_dreams 72 = .ok (.iconst (-1), 1) := dk_2 (dk_at dksX0_dreams_3 0 rfl rfl)
theorem dX0_dreams_73 : decode cX0_dreams 73 = .ok (.istore_n 1, 1) := dk_60 (dk_at dksX0_dreams_3 1 rfl rfl)
theorem dX0_dreams_74 : decode cX0_dreams 74 = .ok (.iconst 0, 1) := dk_3 (dk_at dksX0_dreams_3 2 rfl rfl)
theorem dX0_dreams_75 : decode cX0_dreams 75 = .ok (.istore_n 2, 1) := dk_61 (dk_at dksX0_dreams_3 3 rfl rfl)
theorem dX0_dreams_76 : decode cX0_dreams 76 = .ok (.iload_n 2, 1) := dk_28 (dk_at dksX0_dreams_3 4 rfl rfl)
theorem dX0_dreams_77 : decode cX0_dreams 77 = .ok (.aload_n 0, 1) := dk_42 (dk_at dksX0_dreams_3 5 rfl rfl)
theorem dX0_dreams_78 : decode cX0_dreams 78 = .ok (.getfield 31, 3) := dk_180 0 31 (dk_at dksX0_dreams_3 6 rfl rfl)
theorem dX0_dreams_81 : decode cX0_dreams 81 = .ok (.getfield 175, 3) := dk_180 0 175 (dk_at dksX0_dreams_3 9 rfl rfl)
theorem dX0_dreams_84 : decode cX0_dreams 84 = .ok (.if_icmp .ge 38, 3) := dk_162 0 38 (dk_at dksX0_dreams_3 12 rfl rfl)
theorem dX0_dreams_87 : decode cX0_dreams 87 = .ok (.aload_n 0, 1) := dk_42 (dk_at dksX0_dreams_3 15 rfl rfl)
theorem dX0_dreams_88 : decode cX0_dreams 88 = .ok (.iconst 0, 1) := dk_3 (dk_at dksX0_dreams_3 16 rfl rfl)
theorem dX0_dreams_89 : decode cX0_dreams 89 = .ok (.iload_n 2, 1) := dk_28 (dk_at dksX0_dreams_3 17 rfl rfl)
theorem dX0_dreams_90 : decode cX0_dreams 90 = .ok (.iload_n 2, 1) := dk_28 (dk_at dksX0_dreams_3 18 rfl rfl)
theorem dX0_dreams_91 : decode cX0_dreams 91 = .ok (.invokevirtual 353, 3) := dk_182 1 97 (dk_at dksX0_dreams_3 19 rfl rfl)
theorem dX0_dreams_94 : decode cX0_dreams 94 = .ok (.iload_n 1, 1) := dk_27 (dk_at dksX0_dreams_3 22 rfl rfl)
theorem dX0_dreams_95 : decode cX0_dreams 95 = .ok (.if_icmp .gt 6, 3) := dk_163 0 6 (dk_at dksX0_dreams_4 0 rfl rfl)
theorem dX0_dreams_98 : decode cX0_dreams 98 = .ok (.goto 18, 3) := dk_167 0 18 (dk_at dksX0_dreams_4 3 rfl rfl)
theorem dX0_dreams_101 : decode cX0_dreams 101 = .ok (.aload_n 0, 1) := dk_42 (dk_at dksX0_dreams_4 6 rfl rfl)
theorem dX0_dreams_102 : decode cX0_dreams 102 = .ok (.iconst 0, 1) := dk_3 (dk_at dksX0_dreams_4 7 rfl rfl)
theorem dX0_dreams_103 : decode cX0_dreams 103 = .ok (.iload_n 2, 1) := dk_28 (dk_at dksX0_dreams_4 8 rfl rfl)
theorem dX0_dreams_104 : decode cX0_dreams 104 = .ok (.iload_n 2, 1) := dk_28 (dk_at dksX0_dreams_4 9 rfl rfl)
theorem dX0_dreams_105 : decode cX0_dreams 105 = .ok (.invokevirtual 353, 3) := dk_182 1 97 (dk_at dksX0_dreams_4 10 rfl rfl)
theorem dX0_dreams_108 : decode cX0_dreams 108 = .ok (.istore_n 1, 1) := dk_60 (dk_at dksX0_dreams_4 13 rfl rfl)
theorem dX0_dreams_109 : decode cX0_dreams 109 = .ok (.aload_n 0, 1) := dk_42 (dk_at dksX0_dreams_4 14 rfl rfl)
theorem dX0_dreams_110 : decode cX0_dreams 110 = .ok (.getfield 89, 3) := dk_180 0 89 (dk_at dksX0_dreams_4 15 rfl rfl)
theorem dX0_dreams_113 : decode cX0_dreams 113 = .ok (.iconst 0, 1) := dk_3 (dk_at dksX0_dreams_4 18 rfl rfl)
theorem dX0_dreams_114 : decode cX0_dreams 114 = .ok (.iload_n 2, 1) := dk_28 (dk_at dksX0_dreams_4 19 rfl rfl)
theorem dX0_dreams_115 : decode cX0_dreams 115 = .ok (.iastore, 1) := dk_79 (dk_at dksX0_dreams_4 20 rfl rfl)
theorem dX0_dreams_116 : decode cX0_dreams 116 = .ok (.iinc 2 1, 3) := dk_132 2 1 (dk_at dksX0_dreams_4 21 rfl rfl)
theorem dX0_dreams_119 : decode cX0_dreams 119 = .ok (.goto (-43), 3) := dk_167 255 213 (dk_at dksX0_dreams_5 0 rfl rfl)
theorem dX0_dreams_122 : decode cX0_dreams 122 = .ok (.iconst 1, 1) := dk_4 (dk_at dksX0_dreams_5 3 rfl rfl)
theorem dX0_dreams_123 : decode cX0_dreams 123 = .ok (.istore_n 2, 1) := dk_61 (dk_at dksX0_dreams_5 4 rfl rfl)
theorem dX0_dreams_124 : decode cX0_dreams 124 = .ok (.iload_n 2, 1) := dk_28 (dk_at dksX0_dreams_5 5 rfl rfl)
theorem dX0_dreams_125 : decode cX0_dreams 125 = .ok (.aload_n 0, 1) := dk_42 (dk_at dksX0_dreams_5 6 rfl rfl)
theorem dX0_dreams_126 : decode cX0_dreams 126 = .ok (.invokevirtual 169, 3) := dk_182 0 169 (dk_at dksX0_dreams_5 7 rfl rfl)
theorem dX0_dreams_129 : decode cX0_dreams 129 = .ok (.if_icmp .ge 126, 3) := dk_162 0 126 (dk_at dksX0_dreams_5 10 rfl rfl)
theorem dX0_dreams_132 : decode cX0_dreams 132 = .ok (.iload_n 2, 1) := dk_28 (dk_at dksX0_dreams_5 13 rfl rfl)
theorem dX0_dreams_133 : decode cX0_dreams 133 = .ok (.iconst 1, 1) := dk_4 (dk_at dksX0_dreams_5 14 rfl rfl)
theorem dX0_dreams_134 : decode cX0_dreams 134 = .ok (.if_icmp .ne 12, 3) := dk_160 0 12 (dk_at dksX0_dreams_5 15 rfl rfl)
theorem dX0_dreams_137 : decode cX0_dreams 137 = .ok (.aload_n 0, 1) := dk_42 (dk_at dksX0_dreams_5 18 rfl rfl)
theorem dX0_dreams_138 : decode cX0_dreams 138 = .ok (.getfield 89, 3) := dk_180 0 89 (dk_at dksX0_dreams_5 19 rfl rfl)
theorem dX0_dreams_141 : decode cX0_dreams 141 = .ok (.iconst 0, 1) := dk_3 (dk_at dksX0_dreams_5 22 rfl rfl)
theorem dX0_dreams_142 : decode cX0_dreams 142 = .ok (.iaload, 1) := dk_46 (dk_at dksX0_dreams_5 23 rfl rfl)
theorem dX0_dreams_143 : decode cX0_dreams 143 = .ok (.goto 11, 3) := dk_167 0 11 (dk_at dksX0_dreams_6 0 rfl rfl)
theorem dX0_dreams_146 : decode cX0_dreams 146 = .ok (.aload_n 0, 1) := dk_42 (dk_at dksX0_dreams_6 3 rfl rfl)
theorem dX0_dreams_147 : decode cX0_dreams 147 = .ok (.getfield 89, 3) := dk_180 0 89 (dk_at dksX0_dreams_6 4 rfl rfl)
theorem dX0_dreams_150 : decode cX0_dreams 150 = .ok (.iload_n 2, 1) := dk_28 (dk_at dksX0_dreams_6 7 rfl rfl)
theorem dX0_dreams_151 : decode cX0_dreams 151 = .ok (.iconst 2, 1) := dk_5 (dk_at dksX0_dreams_6 8 rfl rfl)
theorem dX0_dreams_152 : decode cX0_dreams 152 = .ok (.isub, 1) := dk_100 (dk_at dksX0_dreams_6 9 rfl rfl)
theorem dX0_dreams_153 : decode cX0_dreams 153 = .ok (.iaload, 1) := dk_46 (dk_at dksX0_dreams_6 10 rfl rfl)
theorem dX0_dreams_154 : decode cX0_dreams 154 = .ok (.istore_n 3, 1) := dk_62 (dk_at dksX0_dreams_6 11 rfl rfl)
theorem dX0_dreams_155 : decode cX0_dreams 155 = .ok (.aload_n 0, 1) := dk_42 (dk_at dksX0_dreams_6 12 rfl rfl)
theorem dX0_dreams_156 : decode cX0_dreams 156 = .ok (.iload_n 2, 1) := dk_28 (dk_at dksX0_dreams_6 13 rfl rfl)
theorem dX0_dreams_157 : decode cX0_dreams 157 = .ok (.iconst 1, 1) := dk_4 (dk_at dksX0_dreams_6 14 rfl rfl)
theorem dX0_dreams_158 : decode cX0_dreams 158 = .ok (.isub, 1) := dk_100 (dk_at dksX0_dreams_6 15 rfl rfl)
theorem dX0_dreams_159 : decode cX0_dreams 159 = .ok (.iload_n 3, 1) := dk_29 (dk_at dksX0_dreams_6 16 rfl rfl)
theorem dX0_dreams_160 : decode cX0_dreams 160 = .ok (.aload_n 0, 1) := dk_42 (dk_at dksX0_dreams_6 17 rfl rfl)
theorem dX0_dreams_161 : decode cX0_dreams 161 = .ok (.getfield 89, 3) := dk_180 0 89 (dk_at dksX0_dreams_6 18 rfl rfl)
theorem dX0_dreams_164 : decode cX0_dreams 164 = .ok (.iload_n 2, 1) := dk_28 (dk_at dksX0_dreams_6 21 rfl rfl)
theorem dX0_dreams_165 : decode cX0_dreams 165 = .ok (.iconst 1, 1) := dk_4 (dk_at dksX0_dreams_6 22 rfl rfl)
theorem dX0_dreams_166 : decode cX0_dreams 166 = .ok (.isub, 1) := dk_100 (dk_at dksX0_dreams_6 23 rfl rfl)
theorem dX0_dreams_167 : decode cX0_dreams 167 = .ok (.iaload, 1) := dk_46 (dk_at dksX0_dreams_7 0 rfl rfl)
theorem dX0_dreams_168 : decode cX0_dreams 168 = .ok (.invokevirtual 353, 3) := dk_182 1 97 (dk_at dksX0_dreams_7 1 rfl rfl)
theorem dX0_dreams_171 : decode cX0_dreams 171 = .ok (.istore 4, 2) := dk_54 4 (dk_at dksX0_dreams_7 4 rfl rfl)
theorem dX0_dreams_173 : decode cX0_dreams 173 = .ok (.iconst 0, 1) := dk_3 (dk_at dksX0_dreams_7 6 rfl rfl)
theorem dX0_dreams_174 : decode cX0_dreams 174 = .ok (.istore 5, 2) := dk_54 5 (dk_at dksX0_dreams_7 7 rfl rfl)
theorem dX0_dreams_176 : decode cX0_dreams 176 = .ok (.aload_n 0, 1) := dk_42 (dk_at dksX0_dreams_7 9 rfl rfl)
theorem dX0_dreams_177 : decode cX0_dreams 177 = .ok (.aload_n 0, 1) := dk_42 (dk_at dksX0_dreams_7 10 rfl rfl)
theorem dX0_dreams_178 : decode cX0_dreams 178 = .ok (.getfield 89, 3) := dk_180 0 89 (dk_at dksX0_dreams_7 11 rfl rfl)
theorem dX0_dreams_181 : decode cX0_dreams 181 = .ok (.iload_n 2, 1) := dk_28 (dk_at dksX0_dreams_7 14 rfl rfl)
theorem dX0_dreams_182 : decode cX0_dreams 182 = .ok (.iconst 1, 1) := dk_4 (dk_at dksX0_dreams_7 15 rfl rfl)
theorem dX0_dreams_183 : decode cX0_dreams 183 = .ok (.isub, 1) := dk_100 (dk_at dksX0_dreams_7 16 rfl rfl)
theorem dX0_dreams_184 : decode cX0_dreams 184 = .ok (.iaload, 1) := dk_46 (dk_at dksX0_dreams_7 17 rfl rfl)
theorem dX0_dreams_185 : decode cX0_dreams 185 = .ok (.iload 5, 2) := dk_21 5 (dk_at dksX0_dreams_7 18 rfl rfl)
theorem dX0_dreams_187 : decode cX0_dreams 187 = .ok (.invokevirtual 347, 3) := dk_182 1 91 (dk_at dksX0_dreams_7 20 rfl rfl)
theorem dX0_dreams_190 : decode cX0_dreams 190 = .ok (.ifCond .eq 45, 3) := dk_153 0 45 (dk_at dksX0_dreams_8 0 rfl rfl)
theorem dX0_dreams_193 : decode cX0_dreams 193 = .ok (.aload_n 0, 1) := dk_42 (dk_at dksX0_dreams_8 3 rfl rfl)
theorem dX0_dreams_194 : decode cX0_dreams 194 = .ok (.iload_n 2, 1) := dk_28 (dk_at dksX0_dreams_8 4 rfl rfl)
theorem dX0_dreams_195 : decode cX0_dreams 195 = .ok (.iconst 1, 1) := dk_4 (dk_at dksX0_dreams_8 5 rfl rfl)
theorem dX0_dreams_196 : decode cX0_dreams 196 = .ok (.isub, 1) := dk_100 (dk_at dksX0_dreams_8 6 rfl rfl)
theorem dX0_dreams_197 : decode cX0_dreams 197 = .ok (.iload_n 3, 1) := dk_29 (dk_at dksX0_dreams_8 7 rfl rfl)
theorem dX0_dreams_198 : decode cX0_dreams 198 = .ok (.aload_n 0, 1) := dk_42 (dk_at dksX0_dreams_8 8 rfl rfl)
theorem dX0_dreams_199 : decode cX0_dreams 199 = .ok (.getfield 89, 3) := dk_180 0 89 (dk_at dksX0_dreams_8 9 rfl rfl)
theorem dX0_dreams_202 : decode cX0_dreams 202 = .ok (.iload_n 2, 1) := dk_28 (dk_at dksX0_dreams_8 12 rfl rfl)
theorem dX0_dreams_203 : decode cX0_dreams 203 = .ok (.iconst 1, 1) := dk_4 (dk_at dksX0_dreams_8 13 rfl rfl)
theorem dX0_dreams_204 : decode cX0_dreams 204 = .ok (.isub, 1) := dk_100 (dk_at dksX0_dreams_8 14 rfl rfl)
theorem dX0_dreams_205 : decode cX0_dreams 205 = .ok (.iaload, 1) := dk_46 (dk_at dksX0_dreams_8 15 rfl rfl)
theorem dX0_dreams_206 : decode cX0_dreams 206 = .ok (.iload 5, 2) := dk_21 5 (dk_at dksX0_dreams_8 16 rfl rfl)
theorem dX0_dreams_208 : decode cX0_dreams 208 = .ok (.invokevirtual 344, 3) := dk_182 1 88 (dk_at dksX0_dreams_8 18 rfl rfl)
theorem dX0_dreams_211 : decode cX0_dreams 211 = .ok (.aload_n 0, 1) := dk_42 (dk_at dksX0_dreams_8 21 rfl rfl)
theorem dX0_dreams_212 : decode cX0_dreams 212 = .ok (.getfield 86, 3) := dk_180 0 86 (dk_at dksX0_dreams_9 0 rfl rfl)
theorem dX0_dreams_215 : decode cX0_dreams 215 = .ok (.iload_n 2, 1) := dk_28 (dk_at dksX0_dreams_9 3 rfl rfl)
theorem dX0_dreams_216 : decode cX0_dreams 216 = .ok (.aaload, 1) := dk_50 (dk_at dksX0_dreams_9 4 rfl rfl)
theorem dX0_dreams_217 : decode cX0_dreams 217 = .ok (.aload_n 0, 1) := dk_42 (dk_at dksX0_dreams_9 5 rfl rfl)
theorem dX0_dreams_218 : decode cX0_dreams 218 = .ok (.getfield 89, 3) := dk_180 0 89 (dk_at dksX0_dreams_9 6 rfl rfl)
theorem dX0_dreams_221 : decode cX0_dreams 221 = .ok (.iload_n 2, 1) := dk_28 (dk_at dksX0_dreams_9 9 rfl rfl)
theorem dX0_dreams_222 : decode cX0_dreams 222 = .ok (.iconst 1, 1) := dk_4 (dk_at dksX0_dreams_9 10 rfl rfl)
theorem dX0_dreams_223 : decode cX0_dreams 223 = .ok (.isub, 1) := dk_100 (dk_at dksX0_dreams_9 11 rfl rfl)
theorem dX0_dreams_224 : decode cX0_dreams 224 = .ok (.iaload, 1) := dk_46 (dk_at dksX0_dreams_9 12 rfl rfl)
theorem dX0_dreams_225 : decode cX0_dreams 225 = .ok (.aaload, 1) := dk_50 (dk_at dksX0_dreams_9 13 rfl rfl)
theorem dX0_dreams_226 : decode cX0_dreams 226 = .ok (.iload 5, 2) := dk_21 5 (dk_at dksX0_dreams_9 14 rfl rfl)
theorem dX0_dreams_228 : decode cX0_dreams 228 = .ok (.iaload, 1) := dk_46 (dk_at dksX0_dreams_9 16 rfl rfl)
theorem dX0_dreams_229 : decode cX0_dreams 229 = .ok (.iadd, 1) := dk_96 (dk_at dksX0_dreams_9 17 rfl rfl)
theorem dX0_dreams_230 : decode cX0_dreams 230 = .ok (.iload 4, 2) := dk_21 4 (dk_at dksX0_dreams_9 18 rfl rfl)
theorem dX0_dreams_232 : decode cX0_dreams 232 = .ok (.if_icmp .eq 9, 3) := dk_159 0 9 (dk_at dksX0_dreams_9 20 rfl rfl)
theorem dX0_dreams_235 : decode cX0_dreams 235 = .ok (.iinc 5 1, 3) := dk_132 5 1 (dk_at dksX0_dreams_10 0 rfl rfl)
theorem dX0_dreams_238 : decode cX0_dreams 238 = .ok (.goto (-62), 3) := dk_167 255 194 (dk_at dksX0_dreams_10 3 rfl rfl)
theorem dX0_dreams_241 : decode cX0_dreams 241 = .ok (.aload_n 0, 1) := dk_42 (dk_at dksX0_dreams_10 6 rfl rfl)
theorem dX0_dreams_242 : decode cX0_dreams 242 = .ok (.getfield 89, 3) := dk_180 0 89 (dk_at dksX0_dreams_10 7 rfl rfl)
theorem dX0_dreams_245 : decode cX0_dreams 245 = .ok (.iload_n 2, 1) := dk_28 (dk_at dksX0_dreams_10 10 rfl rfl)
theorem dX0_dreams_246 : decode cX0_dreams 246 = .ok (.iload 5, 2) := dk_21 5 (dk_at dksX0_dreams_10 11 rfl rfl)
theorem dX0_dreams_248 : decode cX0_dreams 248 = .ok (.iastore, 1) := dk_79 (dk_at dksX0_dreams_10 13 rfl rfl)
theorem dX0_dreams_249 : decode cX0_dreams 249 = .ok (.iinc 2 1, 3) := dk_132 2 1 (dk_at dksX0_dreams_10 14 rfl rfl)
theorem dX0_dreams_252 : decode cX0_dreams 252 = .ok (.goto (-128), 3) := dk_167 255 128 (dk_at dksX0_dreams_10 17 rfl rfl)
theorem dX0_dreams_255 : decode cX0_dreams 255 = .ok (.iload_n 1, 1) := dk_27 (dk_at dksX0_dreams_10 20 rfl rfl)
theorem dX0_dreams_256 : decode cX0_dreams 256 = .ok (.ireturn, 1) := dk_172 (dk_at dksX0_dreams_10 21 rfl rfl)
abbrev cX0_mostFrom : ByteArray := prog_1_method_46_code
def yX0_mostFrom : MethodName := ⟨RX0, "mostFrom", "(III)I"⟩
def dkwX0_mostFrom_3 : List UInt8 := [96, 184, 1, 94, 54, 4, 132, 5, 1, 167, 255, 201, 21, 4, 172]
abbrev dktX0_mostFrom_3 : List UInt8 := dkwX0_mostFrom_3 ++ []
def dkwX0_mostFrom_2 : List UInt8 := [21, 4, 42, 27, 28, 29, 21, 5, 182, 1, 88, 42, 180, 0, 86, 27, 4, 96, 50, 29, 50, 21, 5, 46]
abbrev dktX0_mostFrom_2 : List UInt8 := dkwX0_mostFrom_2 ++ dktX0_mostFrom_3
def dkwX0_mostFrom_1 : List UInt8 := [54, 5, 21, 5, 42, 180, 0, 31, 180, 0, 175, 162, 0, 49, 42, 29, 21, 5, 182, 1, 91, 153, 0, 33]
abbrev dktX0_mostFrom_1 : List UInt8 := dkwX0_mostFrom_1 ++ dktX0_mostFrom_2
def dkwX0_mostFrom_0 : List UInt8 := [27, 42, 182, 0, 169, 4, 100, 160, 0, 12, 42, 27, 28, 29, 29, 182, 1, 88, 172, 2, 54, 4, 3]
abbrev dktX0_mostFrom_0 : List UInt8 := dkwX0_mostFrom_0 ++ dktX0_mostFrom_1
theorem dksX0_mostFrom_0 : cX0_mostFrom.data.toList.drop 0 = dktX0_mostFrom_0 := by decide +kernel
theorem dksX0_mostFrom_1 : cX0_mostFrom.data.toList.drop 23 = dktX0_mostFrom_1 := dk_seg dksX0_mostFrom_0 23 rfl rfl
theorem dksX0_mostFrom_2 : cX0_mostFrom.data.toList.drop 47 = dktX0_mostFrom_2 := dk_seg dksX0_mostFrom_1 24 rfl rfl
theorem dksX0_mostFrom_3 : cX0_mostFrom.data.toList.drop 71 = dktX0_mostFrom_3 := dk_seg dksX0_mostFrom_2 24 rfl rfl
theorem dX0_mostFrom_0 : decode cX0_mostFrom 0 = .ok (.iload_n 1, 1) := dk_27 (dk_at dksX0_mostFrom_0 0 rfl rfl)
theorem dX0_mostFrom_1 : decode cX0_mostFrom 1 = .ok (.aload_n 0, 1) := dk_42 (dk_at dksX0_mostFrom_0 1 rfl rfl)
theorem dX0_mostFrom_2 : decode cX0_mostFrom 2 = .ok (.invokevirtual 169, 3) := dk_182 0 169 (dk_at dksX0_mostFrom_0 2 rfl rfl)
theorem dX0_mostFrom_5 : decode cX0_mostFrom 5 = .ok (.iconst 1, 1) := dk_4 (dk_at dksX0_mostFrom_0 5 rfl rfl)
theorem dX0_mostFrom_6 : decode cX0_mostFrom 6 = .ok (.isub, 1) := dk_100 (dk_at dksX0_mostFrom_0 6 rfl rfl)
theorem dX0_mostFrom_7 : decode cX0_mostFrom 7 = .ok (.if_icmp .ne 12, 3) := dk_160 0 12 (dk_at dksX0_mostFrom_0 7 rfl rfl)
theorem dX0_mostFrom_10 : decode cX0_mostFrom 10 = .ok (.aload_n 0, 1) := dk_42 (dk_at dksX0_mostFrom_0 10 rfl rfl)
theorem dX0_mostFrom_11 : decode cX0_mostFrom 11 = .ok (.iload_n 1, 1) := dk_27 (dk_at dksX0_mostFrom_0 11 rfl rfl)
theorem dX0_mostFrom_12 : decode cX0_mostFrom 12 = .ok (.iload_n 2, 1) := dk_28 (dk_at dksX0_mostFrom_0 12 rfl rfl)
theorem dX0_mostFrom_13 : decode cX0_mostFrom 13 = .ok (.iload_n 3, 1) := dk_29 (dk_at dksX0_mostFrom_0 13 rfl rfl)
theorem dX0_mostFrom_14 : decode cX0_mostFrom 14 = .ok (.iload_n 3, 1) := dk_29 (dk_at dksX0_mostFrom_0 14 rfl rfl)
theorem dX0_mostFrom_15 : decode cX0_mostFrom 15 = .ok (.invokevirtual 344, 3) := dk_182 1 88 (dk_at dksX0_mostFrom_0 15 rfl rfl)
theorem dX0_mostFrom_18 : decode cX0_mostFrom 18 = .ok (.ireturn, 1) := dk_172 (dk_at dksX0_mostFrom_0 18 rfl rfl)
theorem dX0_mostFrom_19 : decode cX0_mostFrom 19 = .ok (.iconst (-1), 1) := dk_2 (dk_at dksX0_mostFrom_0 19 rfl rfl)
theorem dX0_mostFrom_20 : decode cX0_mostFrom 20 = .ok (.istore 4, 2) := dk_54 4 (dk_at dksX0_mostFrom_0 20 rfl rfl)
theorem dX0_mostFrom_22 : decode cX0_mostFrom 22 = .ok (.iconst 0, 1) := dk_3 (dk_at dksX0_mostFrom_0 22 rfl rfl)
theorem dX0_mostFrom_23 : decode cX0_mostFrom 23 = .ok (.istore 5, 2) := dk_54 5 (dk_at dksX0_mostFrom_1 0 rfl rfl)
theorem dX0_mostFrom_25 : decode cX0_mostFrom 25 = .ok (.iload 5, 2) := dk_21 5 (dk_at dksX0_mostFrom_1 2 rfl rfl)
theorem dX0_mostFrom_27 : decode cX0_mostFrom 27 = .ok (.aload_n 0, 1) := dk_42 (dk_at dksX0_mostFrom_1 4 rfl rfl)
theorem dX0_mostFrom_28 : decode cX0_mostFrom 28 = .ok (.getfield 31, 3) := dk_180 0 31 (dk_at dksX0_mostFrom_1 5 rfl rfl)
theorem dX0_mostFrom_31 : decode cX0_mostFrom 31 = .ok (.getfield 175, 3) := dk_180 0 175 (dk_at dksX0_mostFrom_1 8 rfl rfl)
theorem dX0_mostFrom_34 : decode cX0_mostFrom 34 = .ok (.if_icmp .ge 49, 3) := dk_162 0 49 (dk_at dksX0_mostFrom_1 11 rfl rfl)
theorem dX0_mostFrom_37 : decode cX0_mostFrom 37 = .ok (.aload_n 0, 1) := dk_42 (dk_at dksX0_mostFrom_1 14 rfl rfl)
theorem dX0_mostFrom_38 : decode cX0_mostFrom 38 = .ok (.iload_n 3, 1) := dk_29 (dk_at dksX0_mostFrom_1 15 rfl rfl)
theorem dX0_mostFrom_39 : decode cX0_mostFrom 39 = .ok (.iload 5, 2) := dk_21 5 (dk_at dksX0_mostFrom_1 16 rfl rfl)
theorem dX0_mostFrom_41 : decode cX0_mostFrom 41 = .ok (.invokevirtual 347, 3) := dk_182 1 91 (dk_at dksX0_mostFrom_1 18 rfl rfl)
theorem dX0_mostFrom_44 : decode cX0_mostFrom 44 = .ok (.ifCond .eq 33, 3) := dk_153 0 33 (dk_at dksX0_mostFrom_1 21 rfl rfl)
theorem dX0_mostFrom_47 : decode cX0_mostFrom 47 = .ok (.iload 4, 2) := dk_21 4 (dk_at dksX0_mostFrom_2 0 rfl rfl)
theorem dX0_mostFrom_49 : decode cX0_mostFrom 49 = .ok (.aload_n 0, 1) := dk_42 (dk_at dksX0_mostFrom_2 2 rfl rfl)
theorem dX0_mostFrom_50 : decode cX0_mostFrom 50 = .ok (.iload_n 1, 1) := dk_27 (dk_at dksX0_mostFrom_2 3 rfl rfl)
theorem dX0_mostFrom_51 : decode cX0_mostFrom 51 = .ok (.iload_n 2, 1) := dk_28 (dk_at dksX0_mostFrom_2 4 rfl rfl)
theorem dX0_mostFrom_52 : decode cX0_mostFrom 52 = .ok (.iload_n 3, 1) := dk_29 (dk_at dksX0_mostFrom_2 5 rfl rfl)
theorem dX0_mostFrom_53 : decode cX0_mostFrom 53 = .ok (.iload 5, 2) := dk_21 5 (dk_at dksX0_mostFrom_2 6 rfl rfl)
theorem dX0_mostFrom_55 : decode cX0_mostFrom 55 = .ok (.invokevirtual 344, 3) := dk_182 1 88 (dk_at dksX0_mostFrom_2 8 rfl rfl)
theorem dX0_mostFrom_58 : decode cX0_mostFrom 58 = .ok (.aload_n 0, 1) := dk_42 (dk_at dksX0_mostFrom_2 11 rfl rfl)
theorem dX0_mostFrom_59 : decode cX0_mostFrom 59 = .ok (.getfield 86, 3) := dk_180 0 86 (dk_at dksX0_mostFrom_2 12 rfl rfl)
theorem dX0_mostFrom_62 : decode cX0_mostFrom 62 = .ok (.iload_n 1, 1) := dk_27 (dk_at dksX0_mostFrom_2 15 rfl rfl)
theorem dX0_mostFrom_63 : decode cX0_mostFrom 63 = .ok (.iconst 1, 1) := dk_4 (dk_at dksX0_mostFrom_2 16 rfl rfl)
theorem dX0_mostFrom_64 : decode cX0_mostFrom 64 = .ok (.iadd, 1) := dk_96 (dk_at dksX0_mostFrom_2 17 rfl rfl)
theorem dX0_mostFrom_65 : decode cX0_mostFrom 65 = .ok (.aaload, 1) := dk_50 (dk_at dksX0_mostFrom_2 18 rfl rfl)
theorem dX0_mostFrom_66 : decode cX0_mostFrom 66 = .ok (.iload_n 3, 1) := dk_29 (dk_at dksX0_mostFrom_2 19 rfl rfl)
theorem dX0_mostFrom_67 : decode cX0_mostFrom 67 = .ok (.aaload, 1) := dk_50 (dk_at dksX0_mostFrom_2 20 rfl rfl)
theorem dX0_mostFrom_68 : decode cX0_mostFrom 68 = .ok (.iload 5, 2) := dk_21 5 (dk_at dksX0_mostFrom_2 21 rfl rfl)
theorem dX0_mostFrom_70 : decode cX0_mostFrom 70 = .ok (.iaload, 1) := dk_46 (dk_at dksX0_mostFrom_2 23 rfl rfl)
theorem dX0_mostFrom_71 : decode cX0_mostFrom 71 = .ok (.iadd, 1) := dk_96 (dk_at dksX0_mostFrom_3 0 rfl rfl)
theorem dX0_mostFrom_72 : decode cX0_mostFrom 72 = .ok (.invokestatic 350, 3) := dk_184 1 94 (dk_at dksX0_mostFrom_3 1 rfl rfl)
theorem dX0_mostFrom_75 : decode cX0_mostFrom 75 = .ok (.istore 4, 2) := dk_54 4 (dk_at dksX0_mostFrom_3 4 rfl rfl)
theorem dX0_mostFrom_77 : decode cX0_mostFrom 77 = .ok (.iinc 5 1, 3) := dk_132 5 1 (dk_at dksX0_mostFrom_3 6 rfl rfl)
theorem dX0_mostFrom_80 : decode cX0_mostFrom 80 = .ok (.goto (-55), 3) := dk_167 255 201 (dk_at dksX0_mostFrom_3 9 rfl rfl)
theorem dX0_mostFrom_83 : decode cX0_mostFrom 83 = .ok (.iload 4, 2) := dk_21 4 (dk_at dksX0_mostFrom_3 12 rfl rfl)
theorem dX0_mostFrom_85 : decode cX0_mostFrom 85 = .ok (.ireturn, 1) := dk_172 (dk_at dksX0_mostFrom_3 14 rfl rfl)
abbrev cX0_paidBy : ByteArray := prog_1_method_45_code
def yX0_paidBy : MethodName := ⟨RX0, "paidBy", "(IIII)I"⟩
def dkwX0_paidBy_1 : List UInt8 := [182, 0, 247, 167, 0, 4, 3, 172]
abbrev dktX0_paidBy_1 : List UInt8 := dkwX0_paidBy_1 ++ []
def dkwX0_paidBy_0 : List UInt8 := [42, 27, 28, 29, 21, 4, 42, 180, 0, 69, 180, 0, 209, 182, 1, 84, 153, 0, 14, 42, 180, 0, 69, 27]
abbrev dktX0_paidBy_0 : List UInt8 := dkwX0_paidBy_0 ++ dktX0_paidBy_1
theorem dksX0_paidBy_0 : cX0_paidBy.data.toList.drop 0 = dktX0_paidBy_0 := by decide +kernel
theorem dksX0_paidBy_1 : cX0_paidBy.data.toList.drop 24 = dktX0_paidBy_1 := dk_seg dksX0_paidBy_0 24 rfl rfl
theorem dX0_paidBy_0 : decode cX0_paidBy 0 = .ok (.aload_n 0, 1) := dk_42 (dk_at dksX0_paidBy_0 0 rfl rfl)
theorem dX0_paidBy_1 : decode cX0_paidBy 1 = .ok (.iload_n 1, 1) := dk_27 (dk_at dksX0_paidBy_0 1 rfl rfl)
theorem dX0_paidBy_2 : decode cX0_paidBy 2 = .ok (.iload_n 2, 1) := dk_28 (dk_at dksX0_paidBy_0 2 rfl rfl)
theorem dX0_paidBy_3 : decode cX0_paidBy 3 = .ok (.iload_n 3, 1) := dk_29 (dk_at dksX0_paidBy_0 3 rfl rfl)
theorem dX0_paidBy_4 : decode cX0_paidBy 4 = .ok (.iload 4, 2) := dk_21 4 (dk_at dksX0_paidBy_0 4 rfl rfl)
theorem dX0_paidBy_6 : decode cX0_paidBy 6 = .ok (.aload_n 0, 1) := dk_42 (dk_at dksX0_paidBy_0 6 rfl rfl)
theorem dX0_paidBy_7 : decode cX0_paidBy 7 = .ok (.getfield 69, 3) := dk_180 0 69 (dk_at dksX0_paidBy_0 7 rfl rfl)
theorem dX0_paidBy_10 : decode cX0_paidBy 10 = .ok (.getfield 209, 3) := dk_180 0 209 (dk_at dksX0_paidBy_0 10 rfl rfl)
theorem dX0_paidBy_13 : decode cX0_paidBy 13 = .ok (.invokevirtual 340, 3) := dk_182 1 84 (dk_at dksX0_paidBy_0 13 rfl rfl)
theorem dX0_paidBy_16 : decode cX0_paidBy 16 = .ok (.ifCond .eq 14, 3) := dk_153 0 14 (dk_at dksX0_paidBy_0 16 rfl rfl)
theorem dX0_paidBy_19 : decode cX0_paidBy 19 = .ok (.aload_n 0, 1) := dk_42 (dk_at dksX0_paidBy_0 19 rfl rfl)
theorem dX0_paidBy_20 : decode cX0_paidBy 20 = .ok (.getfield 69, 3) := dk_180 0 69 (dk_at dksX0_paidBy_0 20 rfl rfl)
theorem dX0_paidBy_23 : decode cX0_paidBy 23 = .ok (.iload_n 1, 1) := dk_27 (dk_at dksX0_paidBy_0 23 rfl rfl)
theorem dX0_paidBy_24 : decode cX0_paidBy 24 = .ok (.invokevirtual 247, 3) := dk_182 0 247 (dk_at dksX0_paidBy_1 0 rfl rfl)
theorem dX0_paidBy_27 : decode cX0_paidBy 27 = .ok (.goto 4, 3) := dk_167 0 4 (dk_at dksX0_paidBy_1 3 rfl rfl)
theorem dX0_paidBy_30 : decode cX0_paidBy 30 = .ok (.iconst 0, 1) := dk_3 (dk_at dksX0_paidBy_1 6 rfl rfl)
theorem dX0_paidBy_31 : decode cX0_paidBy 31 = .ok (.ireturn, 1) := dk_172 (dk_at dksX0_paidBy_1 7 rfl rfl)
abbrev cX0_areNear : ByteArray := prog_1_method_44_code
def yX0_areNear : MethodName := ⟨RX0, "areNear", "(II)Z"⟩
def dkwX0_areNear_0 : List UInt8 := [27, 28, 100, 184, 0, 188, 42, 180, 0, 31, 180, 1, 81, 163, 0, 7, 4, 167, 0, 4, 3, 172]
abbrev dktX0_areNear_0 : List UInt8 := dkwX0_areNear_0 ++ []
theorem dksX0_areNear_0 : cX0_areNear.data.toList.drop 0 = dktX0_areNear_0 := by decide +kernel
theorem dX0_areNear_0 : decode cX0_areNear 0 = .ok (.iload_n 1, 1) := dk_27 (dk_at dksX0_areNear_0 0 rfl rfl)
theorem dX0_areNear_1 : decode cX0_areNear 1 = .ok (.iload_n 2, 1) := dk_28 (dk_at dksX0_areNear_0 1 rfl rfl)
theorem dX0_areNear_2 : decode cX0_areNear 2 = .ok (.isub, 1) := dk_100 (dk_at dksX0_areNear_0 2 rfl rfl)
theorem dX0_areNear_3 : decode cX0_areNear 3 = .ok (.invokestatic 188, 3) := dk_184 0 188 (dk_at dksX0_areNear_0 3 rfl rfl)
theorem dX0_areNear_6 : decode cX0_areNear 6 = .ok (.aload_n 0, 1) := dk_42 (dk_at dksX0_areNear_0 6 rfl rfl)
theorem dX0_areNear_7 : decode cX0_areNear 7 = .ok (.getfield 31, 3) := dk_180 0 31 (dk_at dksX0_areNear_0 7 rfl rfl)
theorem dX0_areNear_10 : decode cX0_areNear 10 = .ok (.getfield 337, 3) := dk_180 1 81 (dk_at dksX0_areNear_0 10 rfl rfl)
theorem dX0_areNear_13 : decode cX0_areNear 13 = .ok (.if_icmp .gt 7, 3) := dk_163 0 7 (dk_at dksX0_areNear_0 13 rfl rfl)
theorem dX0_areNear_16 : decode cX0_areNear 16 = .ok (.iconst 1, 1) := dk_4 (dk_at dksX0_areNear_0 16 rfl rfl)
theorem dX0_areNear_17 : decode cX0_areNear 17 = .ok (.goto 4, 3) := dk_167 0 4 (dk_at dksX0_areNear_0 17 rfl rfl)
theorem dX0_areNear_20 : decode cX0_areNear 20 = .ok (.iconst 0, 1) := dk_3 (dk_at dksX0_areNear_0 20 rfl rfl)
theorem dX0_areNear_21 : decode cX0_areNear 21 = .ok (.ireturn, 1) := dk_172 (dk_at dksX0_areNear_0 21 rfl rfl)
abbrev cX0_see : ByteArray := prog_1_method_51_code
def yX0_see : MethodName := ⟨RX0, "see", "()I"⟩
def dkwX0_see_6 : List UInt8 := [42, 6, 29, 104, 5, 96, 182, 1, 104, 79, 132, 3, 1, 167, 255, 202, 42, 180, 0, 151, 172]
abbrev dktX0_see_6 : List UInt8 := dkwX0_see_6 ++ []
def dkwX0_see_5 : List UInt8 := [182, 1, 104, 79, 42, 180, 0, 95, 29, 42, 6, 29, 104, 4, 96, 182, 1, 104, 79, 42, 180, 0, 98, 29]
abbrev dktX0_see_5 : List UInt8 := dkwX0_see_5 ++ dktX0_see_6
def dkwX0_see_4 : List UInt8 := [6, 108, 181, 0, 151, 3, 62, 29, 42, 180, 0, 151, 162, 0, 52, 42, 180, 0, 92, 29, 42, 6, 29, 104]
abbrev dktX0_see_4 : List UInt8 := dkwX0_see_4 ++ dktX0_see_5
def dkwX0_see_3 : List UInt8 := [4, 167, 0, 4, 3, 61, 132, 3, 3, 167, 255, 207, 28, 154, 0, 9, 42, 4, 182, 0, 118, 172, 42, 27]
abbrev dktX0_see_3 : List UInt8 := dkwX0_see_3 ++ dktX0_see_4
def dkwX0_see_2 : List UInt8 := [163, 0, 28, 42, 42, 29, 4, 96, 182, 1, 104, 42, 29, 5, 96, 182, 1, 104, 182, 0, 250, 153, 0, 7]
abbrev dktX0_see_2 : List UInt8 := dkwX0_see_2 ++ dktX0_see_3
def dkwX0_see_1 : List UInt8 := [167, 0, 4, 3, 61, 3, 62, 29, 27, 162, 0, 50, 28, 153, 0, 46, 42, 29, 182, 1, 104, 16, 30]
abbrev dktX0_see_1 : List UInt8 := dkwX0_see_1 ++ dktX0_see_2
def dkwX0_see_0 : List UInt8 := [42, 182, 0, 129, 60, 27, 158, 0, 19, 27, 6, 112, 154, 0, 13, 27, 16, 48, 163, 0, 7, 4]
abbrev dktX0_see_0 : List UInt8 := dkwX0_see_0 ++ dktX0_see_1
theorem dksX0_see_0 : cX0_see.data.toList.drop 0 = dktX0_see_0 := by decide +kernel
theorem dksX0_see_1 : cX0_see.data.toList.drop 22 = dktX0_see_1 := dk_seg dksX0_see_0 22 rfl rfl
theorem dksX0_see_2 : cX0_see.data.toList.drop 45 = dktX0_see_2 := dk_seg dksX0_see_1 23 rfl rfl
theorem dksX0_see_3 : cX0_see.data.toList.drop 69 = dktX0_see_3 := dk_seg dksX0_see_2 24 rfl rfl
theorem dksX0_see_4 : cX0_see.data.toList.drop 93 = dktX0_see_4 := dk_seg dksX0_see_3 24 rfl rfl
theorem dksX0_see_5 : cX0_see.data.toList.drop 117 = dktX0_see_5 := dk_seg dksX0_see_4 24 rfl rfl
theorem dksX0_see_6 : cX0_see.data.toList.drop 141 = dktX0_see_6 := dk_seg dksX0_see_5 24 rfl rfl
theorem dX0_see_0 : decode cX0_see 0 = .ok (.aload_n 0, 1) := dk_42 (dk_at dksX0_see_0 0 rfl rfl)
theorem dX0_see_1 : decode cX0_see 1 = .ok (.invokevirtual 129, 3) := dk_182 0 129 (dk_at dksX0_see_0 1 rfl rfl)
theorem dX0_see_4 : decode cX0_see 4 = .ok (.istore_n 1, 1) := dk_60 (dk_at dksX0_see_0 4 rfl rfl)
theorem dX0_see_5 : decode cX0_see 5 = .ok (.iload_n 1, 1) := dk_27 (dk_at dksX0_see_0 5 rfl rfl)
theorem dX0_see_6 : decode cX0_see 6 = .ok (.ifCond .le 19, 3) := dk_158 0 19 (dk_at dksX0_see_0 6 rfl rfl)
theorem dX0_see_9 : decode cX0_see 9 = .ok (.iload_n 1, 1) := dk_27 (dk_at dksX0_see_0 9 rfl rfl)
theorem dX0_see_10 : decode cX0_see 10 = .ok (.iconst 3, 1) := dk_6 (dk_at dksX0_see_0 10 rfl rfl)
theorem dX0_see_11 : decode cX0_see 11 = .ok (.irem, 1) := dk_112 (dk_at dksX0_see_0 11 rfl rfl)
theorem dX0_see_12 : decode cX0_see 12 = .ok (.ifCond .ne 13, 3) := dk_154 0 13 (dk_at dksX0_see_0 12 rfl rfl)
theorem dX0_see_15 : decode cX0_see 15 = .ok (.iload_n 1, 1) := dk_27 (dk_at dksX0_see_0 15 rfl rfl)
theorem dX0_see_16 : decode cX0_see 16 = .ok (.bipush 48, 2) := dk_16 48 (dk_at dksX0_see_0 16 rfl rfl)
theorem dX0_see_18 : decode cX0_see 18 = .ok (.if_icmp .gt 7, 3) := dk_163 0 7 (dk_at dksX0_see_0 18 rfl rfl)
theorem dX0_see_21 : decode cX0_see 21 = .ok (.iconst 1, 1) := dk_4 (dk_at dksX0_see_0 21 rfl rfl)
theorem dX0_see_22 : decode cX0_see 22 = .ok (.goto 4, 3) := dk_167 0 4 (dk_at dksX0_see_1 0 rfl rfl)
theorem dX0_see_25 : decode cX0_see 25 = .ok (.iconst 0, 1) := dk_3 (dk_at dksX0_see_1 3 rfl rfl)
theorem dX0_see_26 : decode cX0_see 26 = .ok (.istore_n 2, 1) := dk_61 (dk_at dksX0_see_1 4 rfl rfl)
theorem dX0_see_27 : decode cX0_see 27 = .ok (.iconst 0, 1) := dk_3 (dk_at dksX0_see_1 5 rfl rfl)
theorem dX0_see_28 : decode cX0_see 28 = .ok (.istore_n 3, 1) := dk_62 (dk_at dksX0_see_1 6 rfl rfl)
theorem dX0_see_29 : decode cX0_see 29 = .ok (.iload_n 3, 1) := dk_29 (dk_at dksX0_see_1 7 rfl rfl)
theorem dX0_see_30 : decode cX0_see 30 = .ok (.iload_n 1, 1) := dk_27 (dk_at dksX0_see_1 8 rfl rfl)
theorem dX0_see_31 : decode cX0_see 31 = .ok (.if_icmp .ge 50, 3) := dk_162 0 50 (dk_at dksX0_see_1 9 rfl rfl)
theorem dX0_see_34 : decode cX0_see 34 = .ok (.iload_n 2, 1) := dk_28 (dk_at dksX0_see_1 12 rfl rfl)
theorem dX0_see_35 : decode cX0_see 35 = .ok (.ifCond .eq 46, 3) := dk_153 0 46 (dk_at dksX0_see_1 13 rfl rfl)
theorem dX0_see_38 : decode cX0_see 38 = .ok (.aload_n 0, 1) := dk_42 (dk_at dksX0_see_1 16 rfl rfl)
theorem dX0_see_39 : decode cX0_see 39 = .ok (.iload_n 3, 1) := dk_29 (dk_at dksX0_see_1 17 rfl rfl)
theorem dX0_see_40 : decode cX0_see 40 = .ok (.invokevirtual 360, 3) := dk_182 1 104 (dk_at dksX0_see_1 18 rfl rfl)
theorem dX0_see_43 : decode cX0_see 43 = .ok (.bipush 30, 2) := dk_16 30 (dk_at dksX0_see_1 21 rfl rfl)
theorem dX0_see_45 : decode cX0_see 45 = .ok (.if_icmp .gt 28, 3) := dk_163 0 28 (dk_at dksX0_see_2 0 rfl rfl)
theorem dX0_see_48 : decode cX0_see 48 = .ok (.aload_n 0, 1) := dk_42 (dk_at dksX0_see_2 3 rfl rfl)
theorem dX0_see_49 : decode cX0_see 49 = .ok (.aload_n 0, 1) := dk_42 (dk_at dksX0_see_2 4 rfl rfl)
theorem dX0_see_50 : decode cX0_see 50 = .ok (.iload_n 3, 1) := dk_29 (dk_at dksX0_see_2 5 rfl rfl)
theorem dX0_see_51 : decode cX0_see 51 = .ok (.iconst 1, 1) := dk_4 (dk_at dksX0_see_2 6 rfl rfl)
theorem dX0_see_52 : decode cX0_see 52 = .ok (.iadd, 1) := dk_96 (dk_at dksX0_see_2 7 rfl rfl)
theorem dX0_see_53 : decode cX0_see 53 = .ok (.invokevirtual 360, 3) := dk_182 1 104 (dk_at dksX0_see_2 8 rfl rfl)
theorem dX0_see_56 : decode cX0_see 56 = .ok (.aload_n 0, 1) := dk_42 (dk_at dksX0_see_2 11 rfl rfl)
theorem dX0_see_57 : decode cX0_see 57 = .ok (.iload_n 3, 1) := dk_29 (dk_at dksX0_see_2 12 rfl rfl)
theorem dX0_see_58 : decode cX0_see 58 = .ok (.iconst 2, 1) := dk_5 (dk_at dksX0_see_2 13 rfl rfl)
theorem dX0_see_59 : decode cX0_see 59 = .ok (.iadd, 1) := dk_96 (dk_at dksX0_see_2 14 rfl rfl)
theorem dX0_see_60 : decode cX0_see 60 = .ok (.invokevirtual 360, 3) := dk_182 1 104 (dk_at dksX0_see_2 15 rfl rfl)
theorem dX0_see_63 : decode cX0_see 63 = .ok (.invokevirtual 250, 3) := dk_182 0 250 (dk_at dksX0_see_2 18 rfl rfl)
theorem dX0_see_66 : decode cX0_see 66 = .ok (.ifCond .eq 7, 3) := dk_153 0 7 (dk_at dksX0_see_2 21 rfl rfl)
theorem dX0_see_69 : decode cX0_see 69 = .ok (.iconst 1, 1) := dk_4 (dk_at dksX0_see_3 0 rfl rfl)
theorem dX0_see_70 : decode cX0_see 70 = .ok (.goto 4, 3) := dk_167 0 4 (dk_at dksX0_see_3 1 rfl rfl)
theorem dX0_see_73 : decode cX0_see 73 = .ok (.iconst 0, 1) := dk_3 (dk_at dksX0_see_3 4 rfl rfl)
theorem dX0_see_74 : decode cX0_see 74 = .ok (.istore_n 2, 1) := dk_61 (dk_at dksX0_see_3 5 rfl rfl)
theorem dX0_see_75 : decode cX0_see 75 = .ok (.iinc 3 3, 3) := dk_132 3 3 (dk_at dksX0_see_3 6 rfl rfl)
theorem dX0_see_78 : decode cX0_see 78 = .ok (.goto (-49), 3) := dk_167 255 207 (dk_at dksX0_see_3 9 rfl rfl)
theorem dX0_see_81 : decode cX0_see 81 = .ok (.iload_n 2, 1) := dk_28 (dk_at dksX0_see_3 12 rfl rfl)
theorem dX0_see_82 : decode cX0_see 82 = .ok (.ifCond .ne 9, 3) := dk_154 0 9 (dk_at dksX0_see_3 13 rfl rfl)
theorem dX0_see_85 : decode cX0_see 85 = .ok (.aload_n 0, 1) := dk_42 (dk_at dksX0_see_3 16 rfl rfl)
theorem dX0_see_86 : decode cX0_see 86 = .ok (.iconst 1, 1) := dk_4 (dk_at dksX0_see_3 17 rfl rfl)
theorem dX0_see_87 : decode cX0_see 87 = .ok (.invokevirtual 118, 3) := dk_182 0 118 (dk_at dksX0_see_3 18 rfl rfl)
theorem dX0_see_90 : decode cX0_see 90 = .ok (.ireturn, 1) := dk_172 (dk_at dksX0_see_3 21 rfl rfl)
theorem dX0_see_91 : decode cX0_see 91 = .ok (.aload_n 0, 1) := dk_42 (dk_at dksX0_see_3 22 rfl rfl)
theorem dX0_see_92 : decode cX0_see 92 = .ok (.iload_n 1, 1) := dk_27 (dk_at dksX0_see_3 23 rfl rfl)
theorem dX0_see_93 : decode cX0_see 93 = .ok (.iconst 3, 1) := dk_6 (dk_at dksX0_see_4 0 rfl rfl)
theorem dX0_see_94 : decode cX0_see 94 = .ok (.idiv, 1) := dk_108 (dk_at dksX0_see_4 1 rfl rfl)
theorem dX0_see_95 : decode cX0_see 95 = .ok (.putfield 151, 3) := dk_181 0 151 (dk_at dksX0_see_4 2 rfl rfl)
theorem dX0_see_98 : decode cX0_see 98 = .ok (.iconst 0, 1) := dk_3 (dk_at dksX0_see_4 5 rfl rfl)
theorem dX0_see_99 : decode cX0_see 99 = .ok (.istore_n 3, 1) := dk_62 (dk_at dksX0_see_4 6 rfl rfl)
theorem dX0_see_100 : decode cX0_see 100 = .ok (.iload_n 3, 1) := dk_29 (dk_at dksX0_see_4 7 rfl rfl)
theorem dX0_see_101 : decode cX0_see 101 = .ok (.aload_n 0, 1) := dk_42 (dk_at dksX0_see_4 8 rfl rfl)
theorem dX0_see_102 : decode cX0_see 102 = .ok (.getfield 151, 3) := dk_180 0 151 (dk_at dksX0_see_4 9 rfl rfl)
theorem dX0_see_105 : decode cX0_see 105 = .ok (.if_icmp .ge 52, 3) := dk_162 0 52 (dk_at dksX0_see_4 12 rfl rfl)
theorem dX0_see_108 : decode cX0_see 108 = .ok (.aload_n 0, 1) := dk_42 (dk_at dksX0_see_4 15 rfl rfl)
theorem dX0_see_109 : decode cX0_see 109 = .ok (.getfield 92, 3) := dk_180 0 92 (dk_at dksX0_see_4 16 rfl rfl)
theorem dX0_see_112 : decode cX0_see 112 = .ok (.iload_n 3, 1) := dk_29 (dk_at dksX0_see_4 19 rfl rfl)
theorem dX0_see_113 : decode cX0_see 113 = .ok (.aload_n 0, 1) := dk_42 (dk_at dksX0_see_4 20 rfl rfl)
theorem dX0_see_114 : decode cX0_see 114 = .ok (.iconst 3, 1) := dk_6 (dk_at dksX0_see_4 21 rfl rfl)
theorem dX0_see_115 : decode cX0_see 115 = .ok (.iload_n 3, 1) := dk_29 (dk_at dksX0_see_4 22 rfl rfl)
theorem dX0_see_116 : decode cX0_see 116 = .ok (.imul, 1) := dk_104 (dk_at dksX0_see_4 23 rfl rfl)
theorem dX0_see_117 : decode cX0_see 117 = .ok (.invokevirtual 360, 3) := dk_182 1 104 (dk_at dksX0_see_5 0 rfl rfl)
theorem dX0_see_120 : decode cX0_see 120 = .ok (.iastore, 1) := dk_79 (dk_at dksX0_see_5 3 rfl rfl)
theorem dX0_see_121 : decode cX0_see 121 = .ok (.aload_n 0, 1) := dk_42 (dk_at dksX0_see_5 4 rfl rfl)
theorem dX0_see_122 : decode cX0_see 122 = .ok (.getfield 95, 3) := dk_180 0 95 (dk_at dksX0_see_5 5 rfl rfl)
theorem dX0_see_125 : decode cX0_see 125 = .ok (.iload_n 3, 1) := dk_29 (dk_at dksX0_see_5 8 rfl rfl)
theorem dX0_see_126 : decode cX0_see 126 = .ok (.aload_n 0, 1) := dk_42 (dk_at dksX0_see_5 9 rfl rfl)
theorem dX0_see_127 : decode cX0_see 127 = .ok (.iconst 3, 1) := dk_6 (dk_at dksX0_see_5 10 rfl rfl)
theorem dX0_see_128 : decode cX0_see 128 = .ok (.iload_n 3, 1) := dk_29 (dk_at dksX0_see_5 11 rfl rfl)
theorem dX0_see_129 : decode cX0_see 129 = .ok (.imul, 1) := dk_104 (dk_at dksX0_see_5 12 rfl rfl)
theorem dX0_see_130 : decode cX0_see 130 = .ok (.iconst 1, 1) := dk_4 (dk_at dksX0_see_5 13 rfl rfl)
theorem dX0_see_131 : decode cX0_see 131 = .ok (.iadd, 1) := dk_96 (dk_at dksX0_see_5 14 rfl rfl)
theorem dX0_see_132 : decode cX0_see 132 = .ok (.invokevirtual 360, 3) := dk_182 1 104 (dk_at dksX0_see_5 15 rfl rfl)
theorem dX0_see_135 : decode cX0_see 135 = .ok (.iastore, 1) := dk_79 (dk_at dksX0_see_5 18 rfl rfl)
theorem dX0_see_136 : decode cX0_see 136 = .ok (.aload_n 0, 1) := dk_42 (dk_at dksX0_see_5 19 rfl rfl)
theorem dX0_see_137 : decode cX0_see 137 = .ok (.getfield 98, 3) := dk_180 0 98 (dk_at dksX0_see_5 20 rfl rfl)
theorem dX0_see_140 : decode cX0_see 140 = .ok (.iload_n 3, 1) := dk_29 (dk_at dksX0_see_5 23 rfl rfl)
theorem dX0_see_141 : decode cX0_see 141 = .ok (.aload_n 0, 1) := dk_42 (dk_at dksX0_see_6 0 rfl rfl)
theorem dX0_see_142 : decode cX0_see 142 = .ok (.iconst 3, 1) := dk_6 (dk_at dksX0_see_6 1 rfl rfl)
theorem dX0_see_143 : decode cX0_see 143 = .ok (.iload_n 3, 1) := dk_29 (dk_at dksX0_see_6 2 rfl rfl)
theorem dX0_see_144 : decode cX0_see 144 = .ok (.imul, 1) := dk_104 (dk_at dksX0_see_6 3 rfl rfl)
theorem dX0_see_145 : decode cX0_see 145 = .ok (.iconst 2, 1) := dk_5 (dk_at dksX0_see_6 4 rfl rfl)
theorem dX0_see_146 : decode cX0_see 146 = .ok (.iadd, 1) := dk_96 (dk_at dksX0_see_6 5 rfl rfl)
theorem dX0_see_147 : decode cX0_see 147 = .ok (.invokevirtual 360, 3) := dk_182 1 104 (dk_at dksX0_see_6 6 rfl rfl)
theorem dX0_see_150 : decode cX0_see 150 = .ok (.iastore, 1) := dk_79 (dk_at dksX0_see_6 9 rfl rfl)
theorem dX0_see_151 : decode cX0_see 151 = .ok (.iinc 3 1, 3) := dk_132 3 1 (dk_at dksX0_see_6 10 rfl rfl)
theorem dX0_see_154 : decode cX0_see 154 = .ok (.goto (-54), 3) := dk_167 255 202 (dk_at dksX0_see_6 13 rfl rfl)
theorem dX0_see_157 : decode cX0_see 157 = .ok (.aload_n 0, 1) := dk_42 (dk_at dksX0_see_6 16 rfl rfl)
theorem dX0_see_158 : decode cX0_see 158 = .ok (.getfield 151, 3) := dk_180 0 151 (dk_at dksX0_see_6 17 rfl rfl)
theorem dX0_see_161 : decode cX0_see 161 = .ok (.ireturn, 1) := dk_172 (dk_at dksX0_see_6 20 rfl rfl)
abbrev cX0_byteAt : ByteArray := prog_1_method_49_code
def yX0_byteAt : MethodName := ⟨RX0, "byteAt", "(I)I"⟩
def dkwX0_byteAt_0 : List UInt8 := [42, 180, 0, 35, 27, 51, 17, 0, 255, 126, 172]
abbrev dktX0_byteAt_0 : List UInt8 := dkwX0_byteAt_0 ++ []
theorem dksX0_byteAt_0 : cX0_byteAt.data.toList.drop 0 = dktX0_byteAt_0 := by decide +kernel
theorem dX0_byteAt_0 : decode cX0_byteAt 0 = .ok (.aload_n 0, 1) := dk_42 (dk_at dksX0_byteAt_0 0 rfl rfl)
theorem dX0_byteAt_1 : decode cX0_byteAt 1 = .ok (.getfield 35, 3) := dk_180 0 35 (dk_at dksX0_byteAt_0 1 rfl rfl)
theorem dX0_byteAt_4 : decode cX0_byteAt 4 = .ok (.iload_n 1, 1) := dk_27 (dk_at dksX0_byteAt_0 4 rfl rfl)
theorem dX0_byteAt_5 : decode cX0_byteAt 5 = .ok (.baload, 1) := dk_51 (dk_at dksX0_byteAt_0 5 rfl rfl)
theorem dX0_byteAt_6 : decode cX0_byteAt 6 = .ok (.sipush 255, 3) := dk_17 0 255 (dk_at dksX0_byteAt_0 6 rfl rfl)
theorem dX0_byteAt_9 : decode cX0_byteAt 9 = .ok (.iand, 1) := dk_126 (dk_at dksX0_byteAt_0 9 rfl rfl)
theorem dX0_byteAt_10 : decode cX0_byteAt 10 = .ok (.ireturn, 1) := dk_172 (dk_at dksX0_byteAt_0 10 rfl rfl)
abbrev cX0_ran : ByteArray := prog_1_method_53_code
def yX0_ran : MethodName := ⟨RX0, "ran", "(I)I"⟩
def dkwX0_ran_2 : List UInt8 := [132, 3, 1, 167, 255, 223, 28, 172]
abbrev dktX0_ran_2 : List UInt8 := dkwX0_ran_2 ++ []
def dkwX0_ran_1 : List UInt8 := [162, 0, 28, 28, 42, 27, 29, 182, 1, 107, 153, 0, 9, 4, 29, 120, 167, 0, 4, 3, 128, 61]
abbrev dktX0_ran_1 : List UInt8 := dkwX0_ran_1 ++ dktX0_ran_2
def dkwX0_ran_0 : List UInt8 := [42, 27, 182, 0, 171, 154, 0, 5, 2, 172, 3, 61, 3, 62, 29, 42, 180, 0, 31, 180, 0, 175]
abbrev dktX0_ran_0 : List UInt8 := dkwX0_ran_0 ++ dktX0_ran_1
theorem dksX0_ran_0 : cX0_ran.data.toList.drop 0 = dktX0_ran_0 := by decide +kernel
theorem dksX0_ran_1 : cX0_ran.data.toList.drop 22 = dktX0_ran_1 := dk_seg dksX0_ran_0 22 rfl rfl
theorem dksX0_ran_2 : cX0_ran.data.toList.drop 44 = dktX0_ran_2 := dk_seg dksX0_ran_1 22 rfl rfl
theorem dX0_ran_0 : decode cX0_ran 0 = .ok (.aload_n 0, 1) := dk_42 (dk_at dksX0_ran_0 0 rfl rfl)
theorem dX0_ran_1 : decode cX0_ran 1 = .ok (.iload_n 1, 1) := dk_27 (dk_at dksX0_ran_0 1 rfl rfl)
theorem dX0_ran_2 : decode cX0_ran 2 = .ok (.invokevirtual 171, 3) := dk_182 0 171 (dk_at dksX0_ran_0 2 rfl rfl)
theorem dX0_ran_5 : decode cX0_ran 5 = .ok (.ifCond .ne 5, 3) := dk_154 0 5 (dk_at dksX0_ran_0 5 rfl rfl)
theorem dX0_ran_8 : decode cX0_ran 8 = .ok (.iconst (-1), 1) := dk_2 (dk_at dksX0_ran_0 8 rfl rfl)
theorem dX0_ran_9 : decode cX0_ran 9 = .ok (.ireturn, 1) := dk_172 (dk_at dksX0_ran_0 9 rfl rfl)
theorem dX0_ran_10 : decode cX0_ran 10 = .ok (.iconst 0, 1) := dk_3 (dk_at dksX0_ran_0 10 rfl rfl)
theorem dX0_ran_11 : decode cX0_ran 11 = .ok (.istore_n 2, 1) := dk_61 (dk_at dksX0_ran_0 11 rfl rfl)
theorem dX0_ran_12 : decode cX0_ran 12 = .ok (.iconst 0, 1) := dk_3 (dk_at dksX0_ran_0 12 rfl rfl)
theorem dX0_ran_13 : decode cX0_ran 13 = .ok (.istore_n 3, 1) := dk_62 (dk_at dksX0_ran_0 13 rfl rfl)
theorem dX0_ran_14 : decode cX0_ran 14 = .ok (.iload_n 3, 1) := dk_29 (dk_at dksX0_ran_0 14 rfl rfl)
theorem dX0_ran_15 : decode cX0_ran 15 = .ok (.aload_n 0, 1) := dk_42 (dk_at dksX0_ran_0 15 rfl rfl)
theorem dX0_ran_16 : decode cX0_ran 16 = .ok (.getfield 31, 3) := dk_180 0 31 (dk_at dksX0_ran_0 16 rfl rfl)
theorem dX0_ran_19 : decode cX0_ran 19 = .ok (.getfield 175, 3) := dk_180 0 175 (dk_at dksX0_ran_0 19 rfl rfl)
theorem dX0_ran_22 : decode cX0_ran 22 = .ok (.if_icmp .ge 28, 3) := dk_162 0 28 (dk_at dksX0_ran_1 0 rfl rfl)
theorem dX0_ran_25 : decode cX0_ran 25 = .ok (.iload_n 2, 1) := dk_28 (dk_at dksX0_ran_1 3 rfl rfl)
theorem dX0_ran_26 : decode cX0_ran 26 = .ok (.aload_n 0, 1) := dk_42 (dk_at dksX0_ran_1 4 rfl rfl)
theorem dX0_ran_27 : decode cX0_ran 27 = .ok (.iload_n 1, 1) := dk_27 (dk_at dksX0_ran_1 5 rfl rfl)
theorem dX0_ran_28 : decode cX0_ran 28 = .ok (.iload_n 3, 1) := dk_29 (dk_at dksX0_ran_1 6 rfl rfl)
theorem dX0_ran_29 : decode cX0_ran 29 = .ok (.invokevirtual 363, 3) := dk_182 1 107 (dk_at dksX0_ran_1 7 rfl rfl)
theorem dX0_ran_32 : decode cX0_ran 32 = .ok (.ifCond .eq 9, 3) := dk_153 0 9 (dk_at dksX0_ran_1 10 rfl rfl)
theorem dX0_ran_35 : decode cX0_ran 35 = .ok (.iconst 1, 1) := dk_4 (dk_at dksX0_ran_1 13 rfl rfl)
theorem dX0_ran_36 : decode cX0_ran 36 = .ok (.iload_n 3, 1) := dk_29 (dk_at dksX0_ran_1 14 rfl rfl)
theorem dX0_ran_37 : decode cX0_ran 37 = .ok (.ishl, 1) := dk_120 (dk_at dksX0_ran_1 15 rfl rfl)
theorem dX0_ran_38 : decode cX0_ran 38 = .ok (.goto 4, 3) := dk_167 0 4 (dk_at dksX0_ran_1 16 rfl rfl)
theorem dX0_ran_41 : decode cX0_ran 41 = .ok (.iconst 0, 1) := dk_3 (dk_at dksX0_ran_1 19 rfl rfl)
theorem dX0_ran_42 : decode cX0_ran 42 = .ok (.ior, 1) := dk_128 (dk_at dksX0_ran_1 20 rfl rfl)
theorem dX0_ran_43 : decode cX0_ran 43 = .ok (.istore_n 2, 1) := dk_61 (dk_at dksX0_ran_1 21 rfl rfl)
theorem dX0_ran_44 : decode cX0_ran 44 = .ok (.iinc 3 1, 3) := dk_132 3 1 (dk_at dksX0_ran_2 0 rfl rfl)
theorem dX0_ran_47 : decode cX0_ran 47 = .ok (.goto (-33), 3) := dk_167 255 223 (dk_at dksX0_ran_2 3 rfl rfl)
theorem dX0_ran_50 : decode cX0_ran 50 = .ok (.iload_n 2, 1) := dk_28 (dk_at dksX0_ran_2 6 rfl rfl)
theorem dX0_ran_51 : decode cX0_ran 51 = .ok (.ireturn, 1) := dk_172 (dk_at dksX0_ran_2 7 rfl rfl)
abbrev cX0_canRun : ByteArray := prog_1_method_52_code
def yX0_canRun : MethodName := ⟨RX0, "canRun", "(II)Z"⟩
def dkwX0_canRun_6 : List UInt8 := [167, 0, 4, 3, 172]
abbrev dktX0_canRun_6 : List UInt8 := dkwX0_canRun_6 ++ []
def dkwX0_canRun_5 : List UInt8 := [180, 0, 73, 182, 1, 44, 87, 132, 4, 1, 167, 255, 152, 29, 42, 180, 0, 151, 160, 0, 7, 4]
abbrev dktX0_canRun_5 : List UInt8 := dkwX0_canRun_5 ++ dktX0_canRun_6
def dkwX0_canRun_4 : List UInt8 := [180, 0, 98, 21, 5, 46, 160, 0, 7, 4, 167, 0, 4, 3, 96, 62, 132, 5, 1, 167, 255, 199, 42]
abbrev dktX0_canRun_4 : List UInt8 := dkwX0_canRun_4 ++ dktX0_canRun_5
def dkwX0_canRun_3 : List UInt8 := [21, 5, 46, 21, 4, 160, 0, 32, 42, 180, 0, 73, 180, 0, 238, 42, 180, 0, 95, 21, 5, 46, 46, 42]
abbrev dktX0_canRun_3 : List UInt8 := dkwX0_canRun_3 ++ dktX0_canRun_4
def dkwX0_canRun_2 : List UInt8 := [180, 0, 238, 27, 46, 79, 3, 54, 5, 21, 5, 42, 180, 0, 151, 162, 0, 54, 29, 42, 180, 0, 92]
abbrev dktX0_canRun_2 : List UInt8 := dkwX0_canRun_2 ++ dktX0_canRun_3
def dkwX0_canRun_1 : List UInt8 := [21, 4, 3, 16, 30, 182, 1, 33, 153, 0, 98, 42, 180, 0, 101, 28, 50, 21, 4, 42, 180, 0, 73]
abbrev dktX0_canRun_1 : List UInt8 := dkwX0_canRun_1 ++ dktX0_canRun_2
def dkwX0_canRun_0 : List UInt8 := [42, 180, 0, 73, 42, 180, 0, 69, 182, 1, 36, 180, 0, 238, 27, 28, 79, 3, 62, 3, 54, 4, 42]
abbrev dktX0_canRun_0 : List UInt8 := dkwX0_canRun_0 ++ dktX0_canRun_1
theorem dksX0_canRun_0 : cX0_canRun.data.toList.drop 0 = dktX0_canRun_0 := by decide +kernel
theorem dksX0_canRun_1 : cX0_canRun.data.toList.drop 23 = dktX0_canRun_1 := dk_seg dksX0_canRun_0 23 rfl rfl
theorem dksX0_canRun_2 : cX0_canRun.data.toList.drop 46 = dktX0_canRun_2 := dk_seg dksX0_canRun_1 23 rfl rfl
theorem dksX0_canRun_3 : cX0_canRun.data.toList.drop 69 = dktX0_canRun_3 := dk_seg dksX0_canRun_2 23 rfl rfl
theorem dksX0_canRun_4 : cX0_canRun.data.toList.drop 93 = dktX0_canRun_4 := dk_seg dksX0_canRun_3 24 rfl rfl
theorem dksX0_canRun_5 : cX0_canRun.data.toList.drop 116 = dktX0_canRun_5 := dk_seg dksX0_canRun_4 23 rfl rfl
theorem dksX0_canRun_6 : cX0_canRun.data.toList.drop 138 = dktX0_canRun_6 := dk_seg dksX0_canRun_5 22 rfl rfl
theorem dX0_canRun_0 : decode cX0_canRun 0 = .ok (.aload_n 0, 1) := dk_42 (dk_at dksX0_canRun_0 0 rfl rfl)
theorem dX0_canRun_1 : decode cX0_canRun 1 = .ok (.getfield 73, 3) := dk_180 0 73 (dk_at dksX0_canRun_0 1 rfl rfl)
theorem dX0_canRun_4 : decode cX0_canRun 4 = .ok (.aload_n 0, 1) := dk_42 (dk_at dksX0_canRun_0 4 rfl rfl)
theorem dX0_canRun_5 : decode cX0_canRun 5 = .ok (.getfield 69, 3) := dk_180 0 69 (dk_at dksX0_canRun_0 5 rfl rfl)
theorem dX0_canRun_8 : decode cX0_canRun 8 = .ok (.invokevirtual 292, 3) := dk_182 1 36 (dk_at dksX0_canRun_0 8 rfl rfl)
theorem dX0_canRun_11 : decode cX0_canRun 11 = .ok (.getfield 238, 3) := dk_180 0 238 (dk_at dksX0_canRun_0 11 rfl rfl)
theorem dX0_canRun_14 : decode cX0_canRun 14 = .ok (.iload_n 1, 1) := dk_27 (dk_at dksX0_canRun_0 14 rfl rfl)
theorem dX0_canRun_15 : decode cX0_canRun 15 = .ok (.iload_n 2, 1) := dk_28 (dk_at dksX0_canRun_0 15 rfl rfl)
theorem dX0_canRun_16 : decode cX0_canRun 16 = .ok (.iastore, 1) := dk_79 (dk_at dksX0_canRun_0 16 rfl rfl)
theorem dX0_canRun_17 : decode cX0_canRun 17 = .ok (.iconst 0, 1) := dk_3 (dk_at dksX0_canRun_0 17 rfl rfl)
theorem dX0_canRun_18 : decode cX0_canRun 18 = .ok (.istore_n 3, 1) := dk_62 (dk_at dksX0_canRun_0 18 rfl rfl)
theorem dX0_canRun_19 : decode cX0_canRun 19 = .ok (.iconst 0, 1) := dk_3 (dk_at dksX0_canRun_0 19 rfl rfl)
theorem dX0_canRun_20 : decode cX0_canRun 20 = .ok (.istore 4, 2) := dk_54 4 (dk_at dksX0_canRun_0 20 rfl rfl)
theorem dX0_canRun_22 : decode cX0_canRun 22 = .ok (.aload_n 0, 1) := dk_42 (dk_at dksX0_canRun_0 22 rfl rfl)
theorem dX0_canRun_23 : decode cX0_canRun 23 = .ok (.iload 4, 2) := dk_21 4 (dk_at dksX0_canRun_1 0 rfl rfl)
theorem dX0_canRun_25 : decode cX0_canRun 25 = .ok (.iconst 0, 1) := dk_3 (dk_at dksX0_canRun_1 2 rfl rfl)
theorem dX0_canRun_26 : decode cX0_canRun 26 = .ok (.bipush 30, 2) := dk_16 30 (dk_at dksX0_canRun_1 3 rfl rfl)
theorem dX0_canRun_28 : decode cX0_canRun 28 = .ok (.invokevirtual 289, 3) := dk_182 1 33 (dk_at dksX0_canRun_1 5 rfl rfl)
theorem dX0_canRun_31 : decode cX0_canRun 31 = .ok (.ifCond .eq 98, 3) := dk_153 0 98 (dk_at dksX0_canRun_1 8 rfl rfl)
theorem dX0_canRun_34 : decode cX0_canRun 34 = .ok (.aload_n 0, 1) := dk_42 (dk_at dksX0_canRun_1 11 rfl rfl)
theorem dX0_canRun_35 : decode cX0_canRun 35 = .ok (.getfield 101, 3) := dk_180 0 101 (dk_at dksX0_canRun_1 12 rfl rfl)
theorem dX0_canRun_38 : decode cX0_canRun 38 = .ok (.iload_n 2, 1) := dk_28 (dk_at dksX0_canRun_1 15 rfl rfl)
theorem dX0_canRun_39 : decode cX0_canRun 39 = .ok (.aaload, 1) := dk_50 (dk_at dksX0_canRun_1 16 rfl rfl)
theorem dX0_canRun_40 : decode cX0_canRun 40 = .ok (.iload 4, 2) := dk_21 4 (dk_at dksX0_canRun_1 17 rfl rfl)
theorem dX0_canRun_42 : decode cX0_canRun 42 = .ok (.aload_n 0, 1) := dk_42 (dk_at dksX0_canRun_1 19 rfl rfl)
theorem dX0_canRun_43 : decode cX0_canRun 43 = .ok (.getfield 73, 3) := dk_180 0 73 (dk_at dksX0_canRun_1 20 rfl rfl)
theorem dX0_canRun_46 : decode cX0_canRun 46 = .ok (.getfield 238, 3) := dk_180 0 238 (dk_at dksX0_canRun_2 0 rfl rfl)
theorem dX0_canRun_49 : decode cX0_canRun 49 = .ok (.iload_n 1, 1) := dk_27 (dk_at dksX0_canRun_2 3 rfl rfl)
theorem dX0_canRun_50 : decode cX0_canRun 50 = .ok (.iaload, 1) := dk_46 (dk_at dksX0_canRun_2 4 rfl rfl)
theorem dX0_canRun_51 : decode cX0_canRun 51 = .ok (.iastore, 1) := dk_79 (dk_at dksX0_canRun_2 5 rfl rfl)
theorem dX0_canRun_52 : decode cX0_canRun 52 = .ok (.iconst 0, 1) := dk_3 (dk_at dksX0_canRun_2 6 rfl rfl)
theorem dX0_canRun_53 : decode cX0_canRun 53 = .ok (.istore 5, 2) := dk_54 5 (dk_at dksX0_canRun_2 7 rfl rfl)
theorem dX0_canRun_55 : decode cX0_canRun 55 = .ok (.iload 5, 2) := dk_21 5 (dk_at dksX0_canRun_2 9 rfl rfl)
theorem dX0_canRun_57 : decode cX0_canRun 57 = .ok (.aload_n 0, 1) := dk_42 (dk_at dksX0_canRun_2 11 rfl rfl)
theorem dX0_canRun_58 : decode cX0_canRun 58 = .ok (.getfield 151, 3) := dk_180 0 151 (dk_at dksX0_canRun_2 12 rfl rfl)
theorem dX0_canRun_61 : decode cX0_canRun 61 = .ok (.if_icmp .ge 54, 3) := dk_162 0 54 (dk_at dksX0_canRun_2 15 rfl rfl)
theorem dX0_canRun_64 : decode cX0_canRun 64 = .ok (.iload_n 3, 1) := dk_29 (dk_at dksX0_canRun_2 18 rfl rfl)
theorem dX0_canRun_65 : decode cX0_canRun 65 = .ok (.aload_n 0, 1) := dk_42 (dk_at dksX0_canRun_2 19 rfl rfl)
theorem dX0_canRun_66 : decode cX0_canRun 66 = .ok (.getfield 92, 3) := dk_180 0 92 (dk_at dksX0_canRun_2 20 rfl rfl)
theorem dX0_canRun_69 : decode cX0_canRun 69 = .ok (.iload 5, 2) := dk_21 5 (dk_at dksX0_canRun_3 0 rfl rfl)
theorem dX0_canRun_71 : decode cX0_canRun 71 = .ok (.iaload, 1) := dk_46 (dk_at dksX0_canRun_3 2 rfl rfl)
theorem dX0_canRun_72 : decode cX0_canRun 72 = .ok (.iload 4, 2) := dk_21 4 (dk_at dksX0_canRun_3 3 rfl rfl)
theorem dX0_canRun_74 : decode cX0_canRun 74 = .ok (.if_icmp .ne 32, 3) := dk_160 0 32 (dk_at dksX0_canRun_3 5 rfl rfl)
theorem dX0_canRun_77 : decode cX0_canRun 77 = .ok (.aload_n 0, 1) := dk_42 (dk_at dksX0_canRun_3 8 rfl rfl)
theorem dX0_canRun_78 : decode cX0_canRun 78 = .ok (.getfield 73, 3) := dk_180 0 73 (dk_at dksX0_canRun_3 9 rfl rfl)
theorem dX0_canRun_81 : decode cX0_canRun 81 = .ok (.getfield 238, 3) := dk_180 0 238 (dk_at dksX0_canRun_3 12 rfl rfl)
theorem dX0_canRun_84 : decode cX0_canRun 84 = .ok (.aload_n 0, 1) := dk_42 (dk_at dksX0_canRun_3 15 rfl rfl)
theorem dX0_canRun_85 : decode cX0_canRun 85 = .ok (.getfield 95, 3) := dk_180 0 95 (dk_at dksX0_canRun_3 16 rfl rfl)
theorem dX0_canRun_88 : decode cX0_canRun 88 = .ok (.iload 5, 2) := dk_21 5 (dk_at dksX0_canRun_3 19 rfl rfl)
theorem dX0_canRun_90 : decode cX0_canRun 90 = .ok (.iaload, 1) := dk_46 (dk_at dksX0_canRun_3 21 rfl rfl)
theorem dX0_canRun_91 : decode cX0_canRun 91 = .ok (.iaload, 1) := dk_46 (dk_at dksX0_canRun_3 22 rfl rfl)
theorem dX0_canRun_92 : decode cX0_canRun 92 = .ok (.aload_n 0, 1) := dk_42 (dk_at dksX0_canRun_3 23 rfl rfl)
theorem dX0_canRun_93 : decode cX0_canRun 93 = .ok (.getfield 98, 3) := dk_180 0 98 (dk_at dksX0_canRun_4 0 rfl rfl)
theorem dX0_canRun_96 : decode cX0_canRun 96 = .ok (.iload 5, 2) := dk_21 5 (dk_at dksX0_canRun_4 3 rfl rfl)
theorem dX0_canRun_98 : decode cX0_canRun 98 = .ok (.iaload, 1) := dk_46 (dk_at dksX0_canRun_4 5 rfl rfl)
theorem dX0_canRun_99 : decode cX0_canRun 99 = .ok (.if_icmp .ne 7, 3) := dk_160 0 7 (dk_at dksX0_canRun_4 6 rfl rfl)
theorem dX0_canRun_102 : decode cX0_canRun 102 = .ok (.iconst 1, 1) := dk_4 (dk_at dksX0_canRun_4 9 rfl rfl)
theorem dX0_canRun_103 : decode cX0_canRun 103 = .ok (.goto 4, 3) := dk_167 0 4 (dk_at dksX0_canRun_4 10 rfl rfl)
theorem dX0_canRun_106 : decode cX0_canRun 106 = .ok (.iconst 0, 1) := dk_3 (dk_at dksX0_canRun_4 13 rfl rfl)
theorem dX0_canRun_107 : decode cX0_canRun 107 = .ok (.iadd, 1) := dk_96 (dk_at dksX0_canRun_4 14 rfl rfl)
theorem dX0_canRun_108 : decode cX0_canRun 108 = .ok (.istore_n 3, 1) := dk_62 (dk_at dksX0_canRun_4 15 rfl rfl)
theorem dX0_canRun_109 : decode cX0_canRun 109 = .ok (.iinc 5 1, 3) := dk_132 5 1 (dk_at dksX0_canRun_4 16 rfl rfl)
theorem dX0_canRun_112 : decode cX0_canRun 112 = .ok (.goto (-57), 3) := dk_167 255 199 (dk_at dksX0_canRun_4 19 rfl rfl)
theorem dX0_canRun_115 : decode cX0_canRun 115 = .ok (.aload_n 0, 1) := dk_42 (dk_at dksX0_canRun_4 22 rfl rfl)
theorem dX0_canRun_116 : decode cX0_canRun 116 = .ok (.getfield 73, 3) := dk_180 0 73 (dk_at dksX0_canRun_5 0 rfl rfl)
theorem dX0_canRun_119 : decode cX0_canRun 119 = .ok (.invokevirtual 300, 3) := dk_182 1 44 (dk_at dksX0_canRun_5 3 rfl rfl)
theorem dX0_canRun_122 : decode cX0_canRun 122 = .ok (.pop, 1) := dk_87 (dk_at dksX0_canRun_5 6 rfl rfl)
theorem dX0_canRun_123 : decode cX0_canRun 123 = .ok (.iinc 4 1, 3) := dk_132 4 1 (dk_at dksX0_canRun_5 7 rfl rfl)
theorem dX0_canRun_126 : decode cX0_canRun 126 = .ok (.goto (-104), 3) := dk_167 255 152 (dk_at dksX0_canRun_5 10 rfl rfl)
theorem dX0_canRun_129 : decode cX0_canRun 129 = .ok (.iload_n 3, 1) := dk_29 (dk_at dksX0_canRun_5 13 rfl rfl)
theorem dX0_canRun_130 : decode cX0_canRun 130 = .ok (.aload_n 0, 1) := dk_42 (dk_at dksX0_canRun_5 14 rfl rfl)
theorem dX0_canRun_131 : decode cX0_canRun 131 = .ok (.getfield 151, 3) := dk_180 0 151 (dk_at dksX0_canRun_5 15 rfl rfl)
theorem dX0_canRun_134 : decode cX0_canRun 134 = .ok (.if_icmp .ne 7, 3) := dk_160 0 7 (dk_at dksX0_canRun_5 18 rfl rfl)
theorem dX0_canRun_137 : decode cX0_canRun 137 = .ok (.iconst 1, 1) := dk_4 (dk_at dksX0_canRun_5 21 rfl rfl)
theorem dX0_canRun_138 : decode cX0_canRun 138 = .ok (.goto 4, 3) := dk_167 0 4 (dk_at dksX0_canRun_6 0 rfl rfl)
theorem dX0_canRun_141 : decode cX0_canRun 141 = .ok (.iconst 0, 1) := dk_3 (dk_at dksX0_canRun_6 3 rfl rfl)
theorem dX0_canRun_142 : decode cX0_canRun 142 = .ok (.ireturn, 1) := dk_172 (dk_at dksX0_canRun_6 4 rfl rfl)
abbrev cX0_tells : ByteArray := prog_1_method_54_code
def yX0_tells : MethodName := ⟨RX0, "tells", "(II)I"⟩
def dkwX0_tells_8 : List UInt8 := [167, 0, 5, 21, 5, 172]
abbrev dktX0_tells_8 : List UInt8 := dkwX0_tells_8 ++ []
def dkwX0_tells_7 : List UInt8 := [54, 5, 21, 6, 54, 4, 132, 6, 1, 167, 255, 115, 21, 4, 2, 159, 0, 7, 28, 154, 0, 8, 21, 4]
abbrev dktX0_tells_7 : List UInt8 := dkwX0_tells_7 ++ dktX0_tells_8
def dkwX0_tells_6 : List UInt8 := [184, 1, 94, 54, 7, 132, 8, 1, 167, 255, 157, 21, 7, 21, 5, 161, 0, 6, 167, 0, 11, 21, 7]
abbrev dktX0_tells_6 : List UInt8 := dkwX0_tells_6 ++ dktX0_tells_7
def dkwX0_tells_5 : List UInt8 := [21, 6, 46, 160, 0, 7, 4, 167, 0, 4, 3, 96, 54, 9, 132, 10, 1, 167, 255, 190, 21, 7, 21, 9]
abbrev dktX0_tells_5 : List UInt8 := dkwX0_tells_5 ++ dktX0_tells_6
def dkwX0_tells_4 : List UInt8 := [184, 1, 62, 153, 0, 30, 42, 180, 0, 101, 21, 8, 50, 21, 6, 46, 42, 180, 0, 101, 21, 10, 50]
abbrev dktX0_tells_4 : List UInt8 := dkwX0_tells_4 ++ dktX0_tells_5
def dkwX0_tells_3 : List UInt8 := [180, 0, 31, 180, 0, 175, 162, 0, 60, 21, 9, 29, 21, 8, 184, 1, 62, 153, 0, 39, 29, 21, 10]
abbrev dktX0_tells_3 : List UInt8 := dkwX0_tells_3 ++ dktX0_tells_4
def dkwX0_tells_2 : List UInt8 := [54, 8, 21, 8, 42, 180, 0, 31, 180, 0, 175, 162, 0, 93, 3, 54, 9, 3, 54, 10, 21, 10, 42]
abbrev dktX0_tells_2 : List UInt8 := dkwX0_tells_2 ++ dktX0_tells_3
def dkwX0_tells_1 : List UInt8 := [19, 1, 113, 54, 5, 4, 54, 6, 42, 21, 6, 4, 16, 30, 182, 1, 33, 153, 0, 135, 3, 54, 7, 3]
abbrev dktX0_tells_1 : List UInt8 := dkwX0_tells_1 ++ dktX0_tells_2
def dkwX0_tells_0 : List UInt8 := [42, 27, 182, 1, 110, 62, 29, 158, 0, 12, 28, 3, 4, 184, 0, 176, 154, 0, 5, 2, 172, 2, 54, 4]
abbrev dktX0_tells_0 : List UInt8 := dkwX0_tells_0 ++ dktX0_tells_1
theorem dksX0_tells_0 : cX0_tells.data.toList.drop 0 = dktX0_tells_0 := by decide +kernel
theorem dksX0_tells_1 : cX0_tells.data.toList.drop 24 = dktX0_tells_1 := dk_seg dksX0_tells_0 24 rfl rfl
theorem dksX0_tells_2 : cX0_tells.data.toList.drop 48 = dktX0_tells_2 := dk_seg dksX0_tells_1 24 rfl rfl
theorem dksX0_tells_3 : cX0_tells.data.toList.drop 71 = dktX0_tells_3 := dk_seg dksX0_tells_2 23 rfl rfl
theorem dksX0_tells_4 : cX0_tells.data.toList.drop 94 = dktX0_tells_4 := dk_seg dksX0_tells_3 23 rfl rfl
theorem dksX0_tells_5 : cX0_tells.data.toList.drop 117 = dktX0_tells_5 := dk_seg dksX0_tells_4 23 rfl rfl
theorem dksX0_tells_6 : cX0_tells.data.toList.drop 141 = dktX0_tells_6 := dk_seg dksX0_tells_5 24 rfl rfl
theorem dksX0_tells_7 : cX0_tells.data.toList.drop 164 = dktX0_tells_7 := dk_seg dksX0_tells_6 23 rfl rfl
theorem dksX0_tells_8 : cX0_tells.data.toList.drop 188 = dktX0_tells_8 := dk_seg dksX0_tells_7 24 rfl rfl
theorem dX0_tells_0 : decode cX0_tells 0 = .ok (.aload_n 0, 1) := dk_42 (dk_at dksX0_tells_0 0 rfl rfl)
theorem dX0_tells_1 : decode cX0_tells 1 = .ok (.iload_n 1, 1) := dk_27 (dk_at dksX0_tells_0 1 rfl rfl)
theorem dX0_tells_2 : decode cX0_tells 2 = .ok (.invokevirtual 366, 3) := dk_182 1 110 (dk_at dksX0_tells_0 2 rfl rfl)
theorem dX0_tells_5 : decode cX0_tells 5 = .ok (.istore_n 3, 1) := dk_62 (dk_at dksX0_tells_0 5 rfl rfl)
theorem dX0_tells_6 : decode cX0_tells 6 = .ok (.iload_n 3, 1) := dk_29 (dk_at dksX0_tells_0 6 rfl rfl)
theorem dX0_tells_7 : decode cX0_tells 7 = .ok (.ifCond .le 12, 3) := dk_158 0 12 (dk_at dksX0_tells_0 7 rfl rfl)
theorem dX0_tells_10 : decode cX0_tells 10 = .ok (.iload_n 2, 1) := dk_28 (dk_at dksX0_tells_0 10 rfl rfl)
theorem dX0_tells_11 : decode cX0_tells 11 = .ok (.iconst 0, 1) := dk_3 (dk_at dksX0_tells_0 11 rfl rfl)
theorem dX0_tells_12 : decode cX0_tells 12 = .ok (.iconst 1, 1) := dk_4 (dk_at dksX0_tells_0 12 rfl rfl)
theorem dX0_tells_13 : decode cX0_tells 13 = .ok (.invokestatic 176, 3) := dk_184 0 176 (dk_at dksX0_tells_0 13 rfl rfl)
theorem dX0_tells_16 : decode cX0_tells 16 = .ok (.ifCond .ne 5, 3) := dk_154 0 5 (dk_at dksX0_tells_0 16 rfl rfl)
theorem dX0_tells_19 : decode cX0_tells 19 = .ok (.iconst (-1), 1) := dk_2 (dk_at dksX0_tells_0 19 rfl rfl)
theorem dX0_tells_20 : decode cX0_tells 20 = .ok (.ireturn, 1) := dk_172 (dk_at dksX0_tells_0 20 rfl rfl)
theorem dX0_tells_21 : decode cX0_tells 21 = .ok (.iconst (-1), 1) := dk_2 (dk_at dksX0_tells_0 21 rfl rfl)
theorem dX0_tells_22 : decode cX0_tells 22 = .ok (.istore 4, 2) := dk_54 4 (dk_at dksX0_tells_0 22 rfl rfl)
theorem dX0_tells_24 : decode cX0_tells 24 = .ok (.ldc_w 369, 3) := dk_19 1 113 (dk_at dksX0_tells_1 0 rfl rfl)
theorem dX0_tells_27 : decode cX0_tells 27 = .ok (.istore 5, 2) := dk_54 5 (dk_at dksX0_tells_1 3 rfl rfl)
theorem dX0_tells_29 : decode cX0_tells 29 = .ok (.iconst 1, 1) := dk_4 (dk_at dksX0_tells_1 5 rfl rfl)
theorem dX0_tells_30 : decode cX0_tells 30 = .ok (.istore 6, 2) := dk_54 6 (dk_at dksX0_tells_1 6 rfl rfl)
theorem dX0_tells_32 : decode cX0_tells 32 = .ok (.aload_n 0, 1) := dk_42 (dk_at dksX0_tells_1 8 rfl rfl)
theorem dX0_tells_33 : decode cX0_tells 33 = .ok (.iload 6, 2) := dk_21 6 (dk_at dksX0_tells_1 9 rfl rfl)
theorem dX0_tells_35 : decode cX0_tells 35 = .ok (.iconst 1, 1) := dk_4 (dk_at dksX0_tells_1 11 rfl rfl)
theorem dX0_tells_36 : decode cX0_tells 36 = .ok (.bipush 30, 2) := dk_16 30 (dk_at dksX0_tells_1 12 rfl rfl)
theorem dX0_tells_38 : decode cX0_tells 38 = .ok (.invokevirtual 289, 3) := dk_182 1 33 (dk_at dksX0_tells_1 14 rfl rfl)
theorem dX0_tells_41 : decode cX0_tells 41 = .ok (.ifCond .eq 135, 3) := dk_153 0 135 (dk_at dksX0_tells_1 17 rfl rfl)
theorem dX0_tells_44 : decode cX0_tells 44 = .ok (.iconst 0, 1) := dk_3 (dk_at dksX0_tells_1 20 rfl rfl)
theorem dX0_tells_45 : decode cX0_tells 45 = .ok (.istore 7, 2) := dk_54 7 (dk_at dksX0_tells_1 21 rfl rfl)
theorem dX0_tells_47 : decode cX0_tells 47 = .ok (.iconst 0, 1) := dk_3 (dk_at dksX0_tells_1 23 rfl rfl)
theorem dX0_tells_48 : decode cX0_tells 48 = .ok (.istore 8, 2) := dk_54 8 (dk_at dksX0_tells_2 0 rfl rfl)
theorem dX0_tells_50 : decode cX0_tells 50 = .ok (.iload 8, 2) := dk_21 8 (dk_at dksX0_tells_2 2 rfl rfl)
theorem dX0_tells_52 : decode cX0_tells 52 = .ok (.aload_n 0, 1) := dk_42 (dk_at dksX0_tells_2 4 rfl rfl)
theorem dX0_tells_53 : decode cX0_tells 53 = .ok (.getfield 31, 3) := dk_180 0 31 (dk_at dksX0_tells_2 5 rfl rfl)
theorem dX0_tells_56 : decode cX0_tells 56 = .ok (.getfield 175, 3) := dk_180 0 175 (dk_at dksX0_tells_2 8 rfl rfl)
theorem dX0_tells_59 : decode cX0_tells 59 = .ok (.if_icmp .ge 93, 3) := dk_162 0 93 (dk_at dksX0_tells_2 11 rfl rfl)
theorem dX0_tells_62 : decode cX0_tells 62 = .ok (.iconst 0, 1) := dk_3 (dk_at dksX0_tells_2 14 rfl rfl)
theorem dX0_tells_63 : decode cX0_tells 63 = .ok (.istore 9, 2) := dk_54 9 (dk_at dksX0_tells_2 15 rfl rfl)
theorem dX0_tells_65 : decode cX0_tells 65 = .ok (.iconst 0, 1) := dk_3 (dk_at dksX0_tells_2 17 rfl rfl)
theorem dX0_tells_66 : decode cX0_tells 66 = .ok (.istore 10, 2) := dk_54 10 (dk_at dksX0_tells_2 18 rfl rfl)
theorem dX0_tells_68 : decode cX0_tells 68 = .ok (.iload 10, 2) := dk_21 10 (dk_at dksX0_tells_2 20 rfl rfl)
theorem dX0_tells_70 : decode cX0_tells 70 = .ok (.aload_n 0, 1) := dk_42 (dk_at dksX0_tells_2 22 rfl rfl)
theorem dX0_tells_71 : decode cX0_tells 71 = .ok (.getfield 31, 3) := dk_180 0 31 (dk_at dksX0_tells_3 0 rfl rfl)
theorem dX0_tells_74 : decode cX0_tells 74 = .ok (.getfield 175, 3) := dk_180 0 175 (dk_at dksX0_tells_3 3 rfl rfl)
theorem dX0_tells_77 : decode cX0_tells 77 = .ok (.if_icmp .ge 60, 3) := dk_162 0 60 (dk_at dksX0_tells_3 6 rfl rfl)
theorem dX0_tells_80 : decode cX0_tells 80 = .ok (.iload 9, 2) := dk_21 9 (dk_at dksX0_tells_3 9 rfl rfl)
theorem dX0_tells_82 : decode cX0_tells 82 = .ok (.iload_n 3, 1) := dk_29 (dk_at dksX0_tells_3 11 rfl rfl)
theorem dX0_tells_83 : decode cX0_tells 83 = .ok (.iload 8, 2) := dk_21 8 (dk_at dksX0_tells_3 12 rfl rfl)
theorem dX0_tells_85 : decode cX0_tells 85 = .ok (.invokestatic 318, 3) := dk_184 1 62 (dk_at dksX0_tells_3 14 rfl rfl)
theorem dX0_tells_88 : decode cX0_tells 88 = .ok (.ifCond .eq 39, 3) := dk_153 0 39 (dk_at dksX0_tells_3 17 rfl rfl)
theorem dX0_tells_91 : decode cX0_tells 91 = .ok (.iload_n 3, 1) := dk_29 (dk_at dksX0_tells_3 20 rfl rfl)
theorem dX0_tells_92 : decode cX0_tells 92 = .ok (.iload 10, 2) := dk_21 10 (dk_at dksX0_tells_3 21 rfl rfl)
theorem dX0_tells_94 : decode cX0_tells 94 = .ok (.invokestatic 318, 3) := dk_184 1 62 (dk_at dksX0_tells_4 0 rfl rfl)
theorem dX0_tells_97 : decode cX0_tells 97 = .ok (.ifCond .eq 30, 3) := dk_153 0 30 (dk_at dksX0_tells_4 3 rfl rfl)
theorem dX0_tells_100 : decode cX0_tells 100 = .ok (.aload_n 0, 1) := dk_42 (dk_at dksX0_tells_4 6 rfl rfl)
theorem dX0_tells_101 : decode cX0_tells 101 = .ok (.getfield 101, 3) := dk_180 0 101 (dk_at dksX0_tells_4 7 rfl rfl)
theorem dX0_tells_104 : decode cX0_tells 104 = .ok (.iload 8, 2) := dk_21 8 (dk_at dksX0_tells_4 10 rfl rfl)
theorem dX0_tells_106 : decode cX0_tells 106 = .ok (.aaload, 1) := dk_50 (dk_at dksX0_tells_4 12 rfl rfl)
theorem dX0_tells_107 : decode cX0_tells 107 = .ok (.iload 6, 2) := dk_21 6 (dk_at dksX0_tells_4 13 rfl rfl)
theorem dX0_tells_109 : decode cX0_tells 109 = .ok (.iaload, 1) := dk_46 (dk_at dksX0_tells_4 15 rfl rfl)
theorem dX0_tells_110 : decode cX0_tells 110 = .ok (.aload_n 0, 1) := dk_42 (dk_at dksX0_tells_4 16 rfl rfl)
theorem dX0_tells_111 : decode cX0_tells 111 = .ok (.getfield 101, 3) := dk_180 0 101 (dk_at dksX0_tells_4 17 rfl rfl)
theorem dX0_tells_114 : decode cX0_tells 114 = .ok (.iload 10, 2) := dk_21 10 (dk_at dksX0_tells_4 20 rfl rfl)
theorem dX0_tells_116 : decode cX0_tells 116 = .ok (.aaload, 1) := dk_50 (dk_at dksX0_tells_4 22 rfl rfl)
theorem dX0_tells_117 : decode cX0_tells 117 = .ok (.iload 6, 2) := dk_21 6 (dk_at dksX0_tells_5 0 rfl rfl)
theorem dX0_tells_119 : decode cX0_tells 119 = .ok (.iaload, 1) := dk_46 (dk_at dksX0_tells_5 2 rfl rfl)
theorem dX0_tells_120 : decode cX0_tells 120 = .ok (.if_icmp .ne 7, 3) := dk_160 0 7 (dk_at dksX0_tells_5 3 rfl rfl)
theorem dX0_tells_123 : decode cX0_tells 123 = .ok (.iconst 1, 1) := dk_4 (dk_at dksX0_tells_5 6 rfl rfl)
theorem dX0_tells_124 : decode cX0_tells 124 = .ok (.goto 4, 3) := dk_167 0 4 (dk_at dksX0_tells_5 7 rfl rfl)
theorem dX0_tells_127 : decode cX0_tells 127 = .ok (.iconst 0, 1) := dk_3 (dk_at dksX0_tells_5 10 rfl rfl)
theorem dX0_tells_128 : decode cX0_tells 128 = .ok (.iadd, 1) := dk_96 (dk_at dksX0_tells_5 11 rfl rfl)
theorem dX0_tells_129 : decode cX0_tells 129 = .ok (.istore 9, 2) := dk_54 9 (dk_at dksX0_tells_5 12 rfl rfl)
theorem dX0_tells_131 : decode cX0_tells 131 = .ok (.iinc 10 1, 3) := dk_132 10 1 (dk_at dksX0_tells_5 14 rfl rfl)
theorem dX0_tells_134 : decode cX0_tells 134 = .ok (.goto (-66), 3) := dk_167 255 190 (dk_at dksX0_tells_5 17 rfl rfl)
theorem dX0_tells_137 : decode cX0_tells 137 = .ok (.iload 7, 2) := dk_21 7 (dk_at dksX0_tells_5 20 rfl rfl)
theorem dX0_tells_139 : decode cX0_tells 139 = .ok (.iload 9, 2) := dk_21 9 (dk_at dksX0_tells_5 22 rfl rfl)
theorem dX0_tells_141 : decode cX0_tells 141 = .ok (.invokestatic 350, 3) := dk_184 1 94 (dk_at dksX0_tells_6 0 rfl rfl)
theorem dX0_tells_144 : decode cX0_tells 144 = .ok (.istore 7, 2) := dk_54 7 (dk_at dksX0_tells_6 3 rfl rfl)
theorem dX0_tells_146 : decode cX0_tells 146 = .ok (.iinc 8 1, 3) := dk_132 8 1 (dk_at dksX0_tells_6 5 rfl rfl)
theorem dX0_tells_149 : decode cX0_tells 149 = .ok (.goto (-99), 3) := dk_167 255 157 (dk_at dksX0_tells_6 8 rfl rfl)
theorem dX0_tells_152 : decode cX0_tells 152 = .ok (.iload 7, 2) := dk_21 7 (dk_at dksX0_tells_6 11 rfl rfl)
theorem dX0_tells_154 : decode cX0_tells 154 = .ok (.iload 5, 2) := dk_21 5 (dk_at dksX0_tells_6 13 rfl rfl)
theorem dX0_tells_156 : decode cX0_tells 156 = .ok (.if_icmp .lt 6, 3) := dk_161 0 6 (dk_at dksX0_tells_6 15 rfl rfl)
theorem dX0_tells_159 : decode cX0_tells 159 = .ok (.goto 11, 3) := dk_167 0 11 (dk_at dksX0_tells_6 18 rfl rfl)
theorem dX0_tells_162 : decode cX0_tells 162 = .ok (.iload 7, 2) := dk_21 7 (dk_at dksX0_tells_6 21 rfl rfl)
theorem dX0_tells_164 : decode cX0_tells 164 = .ok (.istore 5, 2) := dk_54 5 (dk_at dksX0_tells_7 0 rfl rfl)
theorem dX0_tells_166 : decode cX0_tells 166 = .ok (.iload 6, 2) := dk_21 6 (dk_at dksX0_tells_7 2 rfl rfl)
theorem dX0_tells_168 : decode cX0_tells 168 = .ok (.istore 4, 2) := dk_54 4 (dk_at dksX0_tells_7 4 rfl rfl)
theorem dX0_tells_170 : decode cX0_tells 170 = .ok (.iinc 6 1, 3) := dk_132 6 1 (dk_at dksX0_tells_7 6 rfl rfl)
theorem dX0_tells_173 : decode cX0_tells 173 = .ok (.goto (-141), 3) := dk_167 255 115 (dk_at dksX0_tells_7 9 rfl rfl)
theorem dX0_tells_176 : decode cX0_tells 176 = .ok (.iload 4, 2) := dk_21 4 (dk_at dksX0_tells_7 12 rfl rfl)
theorem dX0_tells_178 : decode cX0_tells 178 = .ok (.iconst (-1), 1) := dk_2 (dk_at dksX0_tells_7 14 rfl rfl)
theorem dX0_tells_179 : decode cX0_tells 179 = .ok (.if_icmp .eq 7, 3) := dk_159 0 7 (dk_at dksX0_tells_7 15 rfl rfl)
theorem dX0_tells_182 : decode cX0_tells 182 = .ok (.iload_n 2, 1) := dk_28 (dk_at dksX0_tells_7 18 rfl rfl)
theorem dX0_tells_183 : decode cX0_tells 183 = .ok (.ifCond .ne 8, 3) := dk_154 0 8 (dk_at dksX0_tells_7 19 rfl rfl)
theorem dX0_tells_186 : decode cX0_tells 186 = .ok (.iload 4, 2) := dk_21 4 (dk_at dksX0_tells_7 22 rfl rfl)
theorem dX0_tells_188 : decode cX0_tells 188 = .ok (.goto 5, 3) := dk_167 0 5 (dk_at dksX0_tells_8 0 rfl rfl)
theorem dX0_tells_191 : decode cX0_tells 191 = .ok (.iload 5, 2) := dk_21 5 (dk_at dksX0_tells_8 3 rfl rfl)
theorem dX0_tells_193 : decode cX0_tells 193 = .ok (.ireturn, 1) := dk_172 (dk_at dksX0_tells_8 5 rfl rfl)
abbrev cX0_undo : ByteArray := prog_1_method_56_code
def yX0_undo : MethodName := ⟨RX0, "undo", "()Z"⟩
def dkwX0_undo_2 : List UInt8 := [87, 4, 172]
abbrev dktX0_undo_2 : List UInt8 := dkwX0_undo_2 ++ []
def dkwX0_undo_1 : List UInt8 := [180, 0, 148, 4, 100, 181, 0, 148, 42, 180, 0, 69, 42, 180, 0, 104, 42, 180, 0, 148, 50, 182, 1, 36]
abbrev dktX0_undo_1 : List UInt8 := dkwX0_undo_1 ++ dktX0_undo_2
def dkwX0_undo_0 : List UInt8 := [42, 180, 0, 148, 154, 0, 17, 42, 7, 182, 0, 118, 155, 0, 7, 4, 167, 0, 4, 3, 172, 42, 89]
abbrev dktX0_undo_0 : List UInt8 := dkwX0_undo_0 ++ dktX0_undo_1
theorem dksX0_undo_0 : cX0_undo.data.toList.drop 0 = dktX0_undo_0 := by decide +kernel
theorem dksX0_undo_1 : cX0_undo.data.toList.drop 23 = dktX0_undo_1 := dk_seg dksX0_undo_0 23 rfl rfl
theorem dksX0_undo_2 : cX0_undo.data.toList.drop 47 = dktX0_undo_2 := dk_seg dksX0_undo_1 24 rfl rfl
theorem dX0_undo_0 : decode cX0_undo 0 = .ok (.aload_n 0, 1) := dk_42 (dk_at dksX0_undo_0 0 rfl rfl)
theorem dX0_undo_1 : decode cX0_undo 1 = .ok (.getfield 148, 3) := dk_180 0 148 (dk_at dksX0_undo_0 1 rfl rfl)
theorem dX0_undo_4 : decode cX0_undo 4 = .ok (.ifCond .ne 17, 3) := dk_154 0 17 (dk_at dksX0_undo_0 4 rfl rfl)
theorem dX0_undo_7 : decode cX0_undo 7 = .ok (.aload_n 0, 1) := dk_42 (dk_at dksX0_undo_0 7 rfl rfl)
theorem dX0_undo_8 : decode cX0_undo 8 = .ok (.iconst 4, 1) := dk_7 (dk_at dksX0_undo_0 8 rfl rfl)
theorem dX0_undo_9 : decode cX0_undo 9 = .ok (.invokevirtual 118, 3) := dk_182 0 118 (dk_at dksX0_undo_0 9 rfl rfl)
theorem dX0_undo_12 : decode cX0_undo 12 = .ok (.ifCond .lt 7, 3) := dk_155 0 7 (dk_at dksX0_undo_0 12 rfl rfl)
theorem dX0_undo_15 : decode cX0_undo 15 = .ok (.iconst 1, 1) := dk_4 (dk_at dksX0_undo_0 15 rfl rfl)
theorem dX0_undo_16 : decode cX0_undo 16 = .ok (.goto 4, 3) := dk_167 0 4 (dk_at dksX0_undo_0 16 rfl rfl)
theorem dX0_undo_19 : decode cX0_undo 19 = .ok (.iconst 0, 1) := dk_3 (dk_at dksX0_undo_0 19 rfl rfl)
theorem dX0_undo_20 : decode cX0_undo 20 = .ok (.ireturn, 1) := dk_172 (dk_at dksX0_undo_0 20 rfl rfl)
theorem dX0_undo_21 : decode cX0_undo 21 = .ok (.aload_n 0, 1) := dk_42 (dk_at dksX0_undo_0 21 rfl rfl)
theorem dX0_undo_22 : decode cX0_undo 22 = .ok (.dup, 1) := dk_89 (dk_at dksX0_undo_0 22 rfl rfl)
theorem dX0_undo_23 : decode cX0_undo 23 = .ok (.getfield 148, 3) := dk_180 0 148 (dk_at dksX0_undo_1 0 rfl rfl)
theorem dX0_undo_26 : decode cX0_undo 26 = .ok (.iconst 1, 1) := dk_4 (dk_at dksX0_undo_1 3 rfl rfl)
theorem dX0_undo_27 : decode cX0_undo 27 = .ok (.isub, 1) := dk_100 (dk_at dksX0_undo_1 4 rfl rfl)
theorem dX0_undo_28 : decode cX0_undo 28 = .ok (.putfield 148, 3) := dk_181 0 148 (dk_at dksX0_undo_1 5 rfl rfl)
theorem dX0_undo_31 : decode cX0_undo 31 = .ok (.aload_n 0, 1) := dk_42 (dk_at dksX0_undo_1 8 rfl rfl)
theorem dX0_undo_32 : decode cX0_undo 32 = .ok (.getfield 69, 3) := dk_180 0 69 (dk_at dksX0_undo_1 9 rfl rfl)
theorem dX0_undo_35 : decode cX0_undo 35 = .ok (.aload_n 0, 1) := dk_42 (dk_at dksX0_undo_1 12 rfl rfl)
theorem dX0_undo_36 : decode cX0_undo 36 = .ok (.getfield 104, 3) := dk_180 0 104 (dk_at dksX0_undo_1 13 rfl rfl)
theorem dX0_undo_39 : decode cX0_undo 39 = .ok (.aload_n 0, 1) := dk_42 (dk_at dksX0_undo_1 16 rfl rfl)
theorem dX0_undo_40 : decode cX0_undo 40 = .ok (.getfield 148, 3) := dk_180 0 148 (dk_at dksX0_undo_1 17 rfl rfl)
theorem dX0_undo_43 : decode cX0_undo 43 = .ok (.aaload, 1) := dk_50 (dk_at dksX0_undo_1 20 rfl rfl)
theorem dX0_undo_44 : decode cX0_undo 44 = .ok (.invokevirtual 292, 3) := dk_182 1 36 (dk_at dksX0_undo_1 21 rfl rfl)
theorem dX0_undo_47 : decode cX0_undo 47 = .ok (.pop, 1) := dk_87 (dk_at dksX0_undo_2 0 rfl rfl)
theorem dX0_undo_48 : decode cX0_undo 48 = .ok (.iconst 1, 1) := dk_4 (dk_at dksX0_undo_2 1 rfl rfl)
theorem dX0_undo_49 : decode cX0_undo 49 = .ok (.ireturn, 1) := dk_172 (dk_at dksX0_undo_2 2 rfl rfl)
abbrev cX0_plant : ByteArray := prog_1_method_57_code
def yX0_plant : MethodName := ⟨RX0, "plant", "(II)I"⟩
def dkwX0_plant_2 : List UInt8 := [46, 4, 96, 79, 42, 180, 0, 69, 180, 0, 222, 27, 50, 28, 46, 172]
abbrev dktX0_plant_2 : List UInt8 := dkwX0_plant_2 ++ []
def dkwX0_plant_1 : List UInt8 := [160, 0, 9, 42, 5, 182, 0, 118, 172, 42, 182, 1, 114, 42, 180, 0, 69, 180, 0, 222, 27, 50, 28, 92]
abbrev dktX0_plant_1 : List UInt8 := dkwX0_plant_1 ++ dktX0_plant_2
def dkwX0_plant_0 : List UInt8 := [42, 27, 28, 182, 0, 250, 153, 0, 19, 42, 180, 0, 69, 180, 0, 222, 27, 50, 28, 46, 16, 9]
abbrev dktX0_plant_0 : List UInt8 := dkwX0_plant_0 ++ dktX0_plant_1
theorem dksX0_plant_0 : cX0_plant.data.toList.drop 0 = dktX0_plant_0 := by decide +kernel
theorem dksX0_plant_1 : cX0_plant.data.toList.drop 22 = dktX0_plant_1 := dk_seg dksX0_plant_0 22 rfl rfl
theorem dksX0_plant_2 : cX0_plant.data.toList.drop 46 = dktX0_plant_2 := dk_seg dksX0_plant_1 24 rfl rfl
theorem dX0_plant_0 : decode cX0_plant 0 = .ok (.aload_n 0, 1) := dk_42 (dk_at dksX0_plant_0 0 rfl rfl)
theorem dX0_plant_1 : decode cX0_plant 1 = .ok (.iload_n 1, 1) := dk_27 (dk_at dksX0_plant_0 1 rfl rfl)
theorem dX0_plant_2 : decode cX0_plant 2 = .ok (.iload_n 2, 1) := dk_28 (dk_at dksX0_plant_0 2 rfl rfl)
theorem dX0_plant_3 : decode cX0_plant 3 = .ok (.invokevirtual 250, 3) := dk_182 0 250 (dk_at dksX0_plant_0 3 rfl rfl)
theorem dX0_plant_6 : decode cX0_plant 6 = .ok (.ifCond .eq 19, 3) := dk_153 0 19 (dk_at dksX0_plant_0 6 rfl rfl)
theorem dX0_plant_9 : decode cX0_plant 9 = .ok (.aload_n 0, 1) := dk_42 (dk_at dksX0_plant_0 9 rfl rfl)
theorem dX0_plant_10 : decode cX0_plant 10 = .ok (.getfield 69, 3) := dk_180 0 69 (dk_at dksX0_plant_0 10 rfl rfl)
theorem dX0_plant_13 : decode cX0_plant 13 = .ok (.getfield 222, 3) := dk_180 0 222 (dk_at dksX0_plant_0 13 rfl rfl)
theorem dX0_plant_16 : decode cX0_plant 16 = .ok (.iload_n 1, 1) := dk_27 (dk_at dksX0_plant_0 16 rfl rfl)
theorem dX0_plant_17 : decode cX0_plant 17 = .ok (.aaload, 1) := dk_50 (dk_at dksX0_plant_0 17 rfl rfl)
theorem dX0_plant_18 : decode cX0_plant 18 = .ok (.iload_n 2, 1) := dk_28 (dk_at dksX0_plant_0 18 rfl rfl)
theorem dX0_plant_19 : decode cX0_plant 19 = .ok (.iaload, 1) := dk_46 (dk_at dksX0_plant_0 19 rfl rfl)
theorem dX0_plant_20 : decode cX0_plant 20 = .ok (.bipush 9, 2) := dk_16 9 (dk_at dksX0_plant_0 20 rfl rfl)
theorem dX0_plant_22 : decode cX0_plant 22 = .ok (.if_icmp .ne 9, 3) := dk_160 0 9 (dk_at dksX0_plant_1 0 rfl rfl)
theorem dX0_plant_25 : decode cX0_plant 25 = .ok (.aload_n 0, 1) := dk_42 (dk_at dksX0_plant_1 3 rfl rfl)
theorem dX0_plant_26 : decode cX0_plant 26 = .ok (.iconst 2, 1) := dk_5 (dk_at dksX0_plant_1 4 rfl rfl)
theorem dX0_plant_27 : decode cX0_plant 27 = .ok (.invokevirtual 118, 3) := dk_182 0 118 (dk_at dksX0_plant_1 5 rfl rfl)
theorem dX0_plant_30 : decode cX0_plant 30 = .ok (.ireturn, 1) := dk_172 (dk_at dksX0_plant_1 8 rfl rfl)
theorem dX0_plant_31 : decode cX0_plant 31 = .ok (.aload_n 0, 1) := dk_42 (dk_at dksX0_plant_1 9 rfl rfl)
theorem dX0_plant_32 : decode cX0_plant 32 = .ok (.invokevirtual 370, 3) := dk_182 1 114 (dk_at dksX0_plant_1 10 rfl rfl)
theorem dX0_plant_35 : decode cX0_plant 35 = .ok (.aload_n 0, 1) := dk_42 (dk_at dksX0_plant_1 13 rfl rfl)
theorem dX0_plant_36 : decode cX0_plant 36 = .ok (.getfield 69, 3) := dk_180 0 69 (dk_at dksX0_plant_1 14 rfl rfl)
theorem dX0_plant_39 : decode cX0_plant 39 = .ok (.getfield 222, 3) := dk_180 0 222 (dk_at dksX0_plant_1 17 rfl rfl)
theorem dX0_plant_42 : decode cX0_plant 42 = .ok (.iload_n 1, 1) := dk_27 (dk_at dksX0_plant_1 20 rfl rfl)
theorem dX0_plant_43 : decode cX0_plant 43 = .ok (.aaload, 1) := dk_50 (dk_at dksX0_plant_1 21 rfl rfl)
theorem dX0_plant_44 : decode cX0_plant 44 = .ok (.iload_n 2, 1) := dk_28 (dk_at dksX0_plant_1 22 rfl rfl)
theorem dX0_plant_45 : decode cX0_plant 45 = .ok (.dup2, 1) := dk_92 (dk_at dksX0_plant_1 23 rfl rfl)
theorem dX0_plant_46 : decode cX0_plant 46 = .ok (.iaload, 1) := dk_46 (dk_at dksX0_plant_2 0 rfl rfl)
theorem dX0_plant_47 : decode cX0_plant 47 = .ok (.iconst 1, 1) := dk_4 (dk_at dksX0_plant_2 1 rfl rfl)
theorem dX0_plant_48 : decode cX0_plant 48 = .ok (.iadd, 1) := dk_96 (dk_at dksX0_plant_2 2 rfl rfl)
theorem dX0_plant_49 : decode cX0_plant 49 = .ok (.iastore, 1) := dk_79 (dk_at dksX0_plant_2 3 rfl rfl)
theorem dX0_plant_50 : decode cX0_plant 50 = .ok (.aload_n 0, 1) := dk_42 (dk_at dksX0_plant_2 4 rfl rfl)
theorem dX0_plant_51 : decode cX0_plant 51 = .ok (.getfield 69, 3) := dk_180 0 69 (dk_at dksX0_plant_2 5 rfl rfl)
theorem dX0_plant_54 : decode cX0_plant 54 = .ok (.getfield 222, 3) := dk_180 0 222 (dk_at dksX0_plant_2 8 rfl rfl)
theorem dX0_plant_57 : decode cX0_plant 57 = .ok (.iload_n 1, 1) := dk_27 (dk_at dksX0_plant_2 11 rfl rfl)
theorem dX0_plant_58 : decode cX0_plant 58 = .ok (.aaload, 1) := dk_50 (dk_at dksX0_plant_2 12 rfl rfl)
theorem dX0_plant_59 : decode cX0_plant 59 = .ok (.iload_n 2, 1) := dk_28 (dk_at dksX0_plant_2 13 rfl rfl)
theorem dX0_plant_60 : decode cX0_plant 60 = .ok (.iaload, 1) := dk_46 (dk_at dksX0_plant_2 14 rfl rfl)
theorem dX0_plant_61 : decode cX0_plant 61 = .ok (.ireturn, 1) := dk_172 (dk_at dksX0_plant_2 15 rfl rfl)
abbrev cX0_keeps : ByteArray := prog_1_method_55_code
def yX0_keeps : MethodName := ⟨RX0, "keeps", "()V"⟩
def dkwX0_keeps_3 : List UInt8 := [180, 0, 69, 182, 1, 36, 87, 42, 89, 180, 0, 148, 4, 96, 181, 0, 148, 177]
abbrev dktX0_keeps_3 : List UInt8 := dkwX0_keeps_3 ++ []
def dkwX0_keeps_2 : List UInt8 := [16, 19, 43, 83, 42, 89, 180, 0, 148, 4, 100, 181, 0, 148, 42, 180, 0, 104, 42, 180, 0, 148, 50, 42]
abbrev dktX0_keeps_2 : List UInt8 := dkwX0_keeps_2 ++ dktX0_keeps_3
def dkwX0_keeps_1 : List UInt8 := [42, 180, 0, 104, 28, 4, 100, 42, 180, 0, 104, 28, 50, 83, 132, 2, 1, 167, 255, 233, 42, 180, 0, 104]
abbrev dktX0_keeps_1 : List UInt8 := dkwX0_keeps_1 ++ dktX0_keeps_2
def dkwX0_keeps_0 : List UInt8 := [42, 180, 0, 148, 16, 20, 160, 0, 56, 42, 180, 0, 104, 3, 50, 76, 4, 61, 28, 16, 20, 162, 0, 23]
abbrev dktX0_keeps_0 : List UInt8 := dkwX0_keeps_0 ++ dktX0_keeps_1
theorem dksX0_keeps_0 : cX0_keeps.data.toList.drop 0 = dktX0_keeps_0 := by decide +kernel
theorem dksX0_keeps_1 : cX0_keeps.data.toList.drop 24 = dktX0_keeps_1 := dk_seg dksX0_keeps_0 24 rfl rfl
theorem dksX0_keeps_2 : cX0_keeps.data.toList.drop 48 = dktX0_keeps_2 := dk_seg dksX0_keeps_1 24 rfl rfl
theorem dksX0_keeps_3 : cX0_keeps.data.toList.drop 72 = dktX0_keeps_3 := dk_seg dksX0_keeps_2 24 rfl rfl
theorem dX0_keeps_0 : decode cX0_keeps 0 = .ok (.aload_n 0, 1) := dk_42 (dk_at dksX0_keeps_0 0 rfl rfl)
theorem dX0_keeps_1 : decode cX0_keeps 1 = .ok (.getfield 148, 3) := dk_180 0 148 (dk_at dksX0_keeps_0 1 rfl rfl)
theorem dX0_keeps_4 : decode cX0_keeps 4 = .ok (.bipush 20, 2) := dk_16 20 (dk_at dksX0_keeps_0 4 rfl rfl)
theorem dX0_keeps_6 : decode cX0_keeps 6 = .ok (.if_icmp .ne 56, 3) := dk_160 0 56 (dk_at dksX0_keeps_0 6 rfl rfl)
theorem dX0_keeps_9 : decode cX0_keeps 9 = .ok (.aload_n 0, 1) := dk_42 (dk_at dksX0_keeps_0 9 rfl rfl)
theorem dX0_keeps_10 : decode cX0_keeps 10 = .ok (.getfield 104, 3) := dk_180 0 104 (dk_at dksX0_keeps_0 10 rfl rfl)
theorem dX0_keeps_13 : decode cX0_keeps 13 = .ok (.iconst 0, 1) := dk_3 (dk_at dksX0_keeps_0 13 rfl rfl)
theorem dX0_keeps_14 : decode cX0_keeps 14 = .ok (.aaload, 1) := dk_50 (dk_at dksX0_keeps_0 14 rfl rfl)
theorem dX0_keeps_15 : decode cX0_keeps 15 = .ok (.astore_n 1, 1) := dk_76 (dk_at dksX0_keeps_0 15 rfl rfl)
theorem dX0_keeps_16 : decode cX0_keeps 16 = .ok (.iconst 1, 1) := dk_4 (dk_at dksX0_keeps_0 16 rfl rfl)
theorem dX0_keeps_17 : decode cX0_keeps 17 = .ok (.istore_n 2, 1) := dk_61 (dk_at dksX0_keeps_0 17 rfl rfl)
theorem dX0_keeps_18 : decode cX0_keeps 18 = .ok (.iload_n 2, 1) := dk_28 (dk_at dksX0_keeps_0 18 rfl rfl)
theorem dX0_keeps_19 : decode cX0_keeps 19 = .ok (.bipush 20, 2) := dk_16 20 (dk_at dksX0_keeps_0 19 rfl rfl)
theorem dX0_keeps_21 : decode cX0_keeps 21 = .ok (.if_icmp .ge 23, 3) := dk_162 0 23 (dk_at dksX0_keeps_0 21 rfl rfl)
theorem dX0_keeps_24 : decode cX0_keeps 24 = .ok (.aload_n 0, 1) := dk_42 (dk_at dksX0_keeps_1 0 rfl rfl)
theorem dX0_keeps_25 : decode cX0_keeps 25 = .ok (.getfield 104, 3) := dk_180 0 104 (dk_at dksX0_keeps_1 1 rfl rfl)
theorem dX0_keeps_28 : decode cX0_keeps 28 = .ok (.iload_n 2, 1) := dk_28 (dk_at dksX0_keeps_1 4 rfl rfl)
theorem dX0_keeps_29 : decode cX0_keeps 29 = .ok (.iconst 1, 1) := dk_4 (dk_at dksX0_keeps_1 5 rfl rfl)
theorem dX0_keeps_30 : decode cX0_keeps 30 = .ok (.isub, 1) := dk_100 (dk_at dksX0_keeps_1 6 rfl rfl)
theorem dX0_keeps_31 : decode cX0_keeps 31 = .ok (.aload_n 0, 1) := dk_42 (dk_at dksX0_keeps_1 7 rfl rfl)
theorem dX0_keeps_32 : decode cX0_keeps 32 = .ok (.getfield 104, 3) := dk_180 0 104 (dk_at dksX0_keeps_1 8 rfl rfl)
theorem dX0_keeps_35 : decode cX0_keeps 35 = .ok (.iload_n 2, 1) := dk_28 (dk_at dksX0_keeps_1 11 rfl rfl)
theorem dX0_keeps_36 : decode cX0_keeps 36 = .ok (.aaload, 1) := dk_50 (dk_at dksX0_keeps_1 12 rfl rfl)
theorem dX0_keeps_37 : decode cX0_keeps 37 = .ok (.aastore, 1) := dk_83 (dk_at dksX0_keeps_1 13 rfl rfl)
theorem dX0_keeps_38 : decode cX0_keeps 38 = .ok (.iinc 2 1, 3) := dk_132 2 1 (dk_at dksX0_keeps_1 14 rfl rfl)
theorem dX0_keeps_41 : decode cX0_keeps 41 = .ok (.goto (-23), 3) := dk_167 255 233 (dk_at dksX0_keeps_1 17 rfl rfl)
theorem dX0_keeps_44 : decode cX0_keeps 44 = .ok (.aload_n 0, 1) := dk_42 (dk_at dksX0_keeps_1 20 rfl rfl)
theorem dX0_keeps_45 : decode cX0_keeps 45 = .ok (.getfield 104, 3) := dk_180 0 104 (dk_at dksX0_keeps_1 21 rfl rfl)
theorem dX0_keeps_48 : decode cX0_keeps 48 = .ok (.bipush 19, 2) := dk_16 19 (dk_at dksX0_keeps_2 0 rfl rfl)
theorem dX0_keeps_50 : decode cX0_keeps 50 = .ok (.aload_n 1, 1) := dk_43 (dk_at dksX0_keeps_2 2 rfl rfl)
theorem dX0_keeps_51 : decode cX0_keeps 51 = .ok (.aastore, 1) := dk_83 (dk_at dksX0_keeps_2 3 rfl rfl)
theorem dX0_keeps_52 : decode cX0_keeps 52 = .ok (.aload_n 0, 1) := dk_42 (dk_at dksX0_keeps_2 4 rfl rfl)
theorem dX0_keeps_53 : decode cX0_keeps 53 = .ok (.dup, 1) := dk_89 (dk_at dksX0_keeps_2 5 rfl rfl)
theorem dX0_keeps_54 : decode cX0_keeps 54 = .ok (.getfield 148, 3) := dk_180 0 148 (dk_at dksX0_keeps_2 6 rfl rfl)
theorem dX0_keeps_57 : decode cX0_keeps 57 = .ok (.iconst 1, 1) := dk_4 (dk_at dksX0_keeps_2 9 rfl rfl)
theorem dX0_keeps_58 : decode cX0_keeps 58 = .ok (.isub, 1) := dk_100 (dk_at dksX0_keeps_2 10 rfl rfl)
theorem dX0_keeps_59 : decode cX0_keeps 59 = .ok (.putfield 148, 3) := dk_181 0 148 (dk_at dksX0_keeps_2 11 rfl rfl)
theorem dX0_keeps_62 : decode cX0_keeps 62 = .ok (.aload_n 0, 1) := dk_42 (dk_at dksX0_keeps_2 14 rfl rfl)
theorem dX0_keeps_63 : decode cX0_keeps 63 = .ok (.getfield 104, 3) := dk_180 0 104 (dk_at dksX0_keeps_2 15 rfl rfl)
theorem dX0_keeps_66 : decode cX0_keeps 66 = .ok (.aload_n 0, 1) := dk_42 (dk_at dksX0_keeps_2 18 rfl rfl)
theorem dX0_keeps_67 : decode cX0_keeps 67 = .ok (.getfield 148, 3) := dk_180 0 148 (dk_at dksX0_keeps_2 19 rfl rfl)
theorem dX0_keeps_70 : decode cX0_keeps 70 = .ok (.aaload, 1) := dk_50 (dk_at dksX0_keeps_2 22 rfl rfl)
theorem dX0_keeps_71 : decode cX0_keeps 71 = .ok (.aload_n 0, 1) := dk_42 (dk_at dksX0_keeps_2 23 rfl rfl)
theorem dX0_keeps_72 : decode cX0_keeps 72 = .ok (.getfield 69, 3) := dk_180 0 69 (dk_at dksX0_keeps_3 0 rfl rfl)
theorem dX0_keeps_75 : decode cX0_keeps 75 = .ok (.invokevirtual 292, 3) := dk_182 1 36 (dk_at dksX0_keeps_3 3 rfl rfl)
theorem dX0_keeps_78 : decode cX0_keeps 78 = .ok (.pop, 1) := dk_87 (dk_at dksX0_keeps_3 6 rfl rfl)
theorem dX0_keeps_79 : decode cX0_keeps 79 = .ok (.aload_n 0, 1) := dk_42 (dk_at dksX0_keeps_3 7 rfl rfl)
theorem dX0_keeps_80 : decode cX0_keeps 80 = .ok (.dup, 1) := dk_89 (dk_at dksX0_keeps_3 8 rfl rfl)
theorem dX0_keeps_81 : decode cX0_keeps 81 = .ok (.getfield 148, 3) := dk_180 0 148 (dk_at dksX0_keeps_3 9 rfl rfl)
theorem dX0_keeps_84 : decode cX0_keeps 84 = .ok (.iconst 1, 1) := dk_4 (dk_at dksX0_keeps_3 12 rfl rfl)
theorem dX0_keeps_85 : decode cX0_keeps 85 = .ok (.iadd, 1) := dk_96 (dk_at dksX0_keeps_3 13 rfl rfl)
theorem dX0_keeps_86 : decode cX0_keeps 86 = .ok (.putfield 148, 3) := dk_181 0 148 (dk_at dksX0_keeps_3 14 rfl rfl)
theorem dX0_keeps_89 : decode cX0_keeps 89 = .ok (.return_, 1) := dk_177 (dk_at dksX0_keeps_3 17 rfl rfl)
abbrev cX0_offer : ByteArray := prog_1_method_58_code
def yX0_offer : MethodName := ⟨RX0, "offer", "(II)Z"⟩
def dkwX0_offer_3 : List UInt8 := [167, 0, 4, 3, 84, 4, 172]
abbrev dktX0_offer_3 : List UInt8 := dkwX0_offer_3 ++ []
def dkwX0_offer_2 : List UInt8 := [167, 0, 4, 3, 172, 42, 182, 1, 114, 42, 180, 0, 69, 180, 0, 218, 27, 28, 4, 160, 0, 7, 4]
abbrev dktX0_offer_2 : List UInt8 := dkwX0_offer_2 ++ dktX0_offer_3
def dkwX0_offer_1 : List UInt8 := [27, 51, 28, 4, 160, 0, 7, 4, 167, 0, 4, 3, 160, 0, 17, 42, 5, 182, 0, 118, 155, 0, 7, 4]
abbrev dktX0_offer_1 : List UInt8 := dkwX0_offer_1 ++ dktX0_offer_2
def dkwX0_offer_0 : List UInt8 := [42, 27, 182, 0, 228, 153, 0, 34, 28, 3, 4, 184, 0, 176, 153, 0, 25, 42, 180, 0, 69, 180, 0, 218]
abbrev dktX0_offer_0 : List UInt8 := dkwX0_offer_0 ++ dktX0_offer_1
theorem dksX0_offer_0 : cX0_offer.data.toList.drop 0 = dktX0_offer_0 := by decide +kernel
theorem dksX0_offer_1 : cX0_offer.data.toList.drop 24 = dktX0_offer_1 := dk_seg dksX0_offer_0 24 rfl rfl
theorem dksX0_offer_2 : cX0_offer.data.toList.drop 48 = dktX0_offer_2 := dk_seg dksX0_offer_1 24 rfl rfl
theorem dksX0_offer_3 : cX0_offer.data.toList.drop 71 = dktX0_offer_3 := dk_seg dksX0_offer_2 23 rfl rfl
theorem dX0_offer_0 : decode cX0_offer 0 = .ok (.aload_n 0, 1) := dk_42 (dk_at dksX0_offer_0 0 rfl rfl)
theorem dX0_offer_1 : decode cX0_offer 1 = .ok (.iload_n 1, 1) := dk_27 (dk_at dksX0_offer_0 1 rfl rfl)
theorem dX0_offer_2 : decode cX0_offer 2 = .ok (.invokevirtual 228, 3) := dk_182 0 228 (dk_at dksX0_offer_0 2 rfl rfl)
theorem dX0_offer_5 : decode cX0_offer 5 = .ok (.ifCond .eq 34, 3) := dk_153 0 34 (dk_at dksX0_offer_0 5 rfl rfl)
theorem dX0_offer_8 : decode cX0_offer 8 = .ok (.iload_n 2, 1) := dk_28 (dk_at dksX0_offer_0 8 rfl rfl)
theorem dX0_offer_9 : decode cX0_offer 9 = .ok (.iconst 0, 1) := dk_3 (dk_at dksX0_offer_0 9 rfl rfl)
theorem dX0_offer_10 : decode cX0_offer 10 = .ok (.iconst 1, 1) := dk_4 (dk_at dksX0_offer_0 10 rfl rfl)
theorem dX0_offer_11 : decode cX0_offer 11 = .ok (.invokestatic 176, 3) := dk_184 0 176 (dk_at dksX0_offer_0 11 rfl rfl)
theorem dX0_offer_14 : decode cX0_offer 14 = .ok (.ifCond .eq 25, 3) := dk_153 0 25 (dk_at dksX0_offer_0 14 rfl rfl)
theorem dX0_offer_17 : decode cX0_offer 17 = .ok (.aload_n 0, 1) := dk_42 (dk_at dksX0_offer_0 17 rfl rfl)
theorem dX0_offer_18 : decode cX0_offer 18 = .ok (.getfield 69, 3) := dk_180 0 69 (dk_at dksX0_offer_0 18 rfl rfl)
theorem dX0_offer_21 : decode cX0_offer 21 = .ok (.getfield 218, 3) := dk_180 0 218 (dk_at dksX0_offer_0 21 rfl rfl)
theorem dX0_offer_24 : decode cX0_offer 24 = .ok (.iload_n 1, 1) := dk_27 (dk_at dksX0_offer_1 0 rfl rfl)
theorem dX0_offer_25 : decode cX0_offer 25 = .ok (.baload, 1) := dk_51 (dk_at dksX0_offer_1 1 rfl rfl)
theorem dX0_offer_26 : decode cX0_offer 26 = .ok (.iload_n 2, 1) := dk_28 (dk_at dksX0_offer_1 2 rfl rfl)
theorem dX0_offer_27 : decode cX0_offer 27 = .ok (.iconst 1, 1) := dk_4 (dk_at dksX0_offer_1 3 rfl rfl)
theorem dX0_offer_28 : decode cX0_offer 28 = .ok (.if_icmp .ne 7, 3) := dk_160 0 7 (dk_at dksX0_offer_1 4 rfl rfl)
theorem dX0_offer_31 : decode cX0_offer 31 = .ok (.iconst 1, 1) := dk_4 (dk_at dksX0_offer_1 7 rfl rfl)
theorem dX0_offer_32 : decode cX0_offer 32 = .ok (.goto 4, 3) := dk_167 0 4 (dk_at dksX0_offer_1 8 rfl rfl)
theorem dX0_offer_35 : decode cX0_offer 35 = .ok (.iconst 0, 1) := dk_3 (dk_at dksX0_offer_1 11 rfl rfl)
theorem dX0_offer_36 : decode cX0_offer 36 = .ok (.if_icmp .ne 17, 3) := dk_160 0 17 (dk_at dksX0_offer_1 12 rfl rfl)
theorem dX0_offer_39 : decode cX0_offer 39 = .ok (.aload_n 0, 1) := dk_42 (dk_at dksX0_offer_1 15 rfl rfl)
theorem dX0_offer_40 : decode cX0_offer 40 = .ok (.iconst 2, 1) := dk_5 (dk_at dksX0_offer_1 16 rfl rfl)
theorem dX0_offer_41 : decode cX0_offer 41 = .ok (.invokevirtual 118, 3) := dk_182 0 118 (dk_at dksX0_offer_1 17 rfl rfl)
theorem dX0_offer_44 : decode cX0_offer 44 = .ok (.ifCond .lt 7, 3) := dk_155 0 7 (dk_at dksX0_offer_1 20 rfl rfl)
theorem dX0_offer_47 : decode cX0_offer 47 = .ok (.iconst 1, 1) := dk_4 (dk_at dksX0_offer_1 23 rfl rfl)
theorem dX0_offer_48 : decode cX0_offer 48 = .ok (.goto 4, 3) := dk_167 0 4 (dk_at dksX0_offer_2 0 rfl rfl)
theorem dX0_offer_51 : decode cX0_offer 51 = .ok (.iconst 0, 1) := dk_3 (dk_at dksX0_offer_2 3 rfl rfl)
theorem dX0_offer_52 : decode cX0_offer 52 = .ok (.ireturn, 1) := dk_172 (dk_at dksX0_offer_2 4 rfl rfl)
theorem dX0_offer_53 : decode cX0_offer 53 = .ok (.aload_n 0, 1) := dk_42 (dk_at dksX0_offer_2 5 rfl rfl)
theorem dX0_offer_54 : decode cX0_offer 54 = .ok (.invokevirtual 370, 3) := dk_182 1 114 (dk_at dksX0_offer_2 6 rfl rfl)
theorem dX0_offer_57 : decode cX0_offer 57 = .ok (.aload_n 0, 1) := dk_42 (dk_at dksX0_offer_2 9 rfl rfl)
theorem dX0_offer_58 : decode cX0_offer 58 = .ok (.getfield 69, 3) := dk_180 0 69 (dk_at dksX0_offer_2 10 rfl rfl)
theorem dX0_offer_61 : decode cX0_offer 61 = .ok (.getfield 218, 3) := dk_180 0 218 (dk_at dksX0_offer_2 13 rfl rfl)
theorem dX0_offer_64 : decode cX0_offer 64 = .ok (.iload_n 1, 1) := dk_27 (dk_at dksX0_offer_2 16 rfl rfl)
theorem dX0_offer_65 : decode cX0_offer 65 = .ok (.iload_n 2, 1) := dk_28 (dk_at dksX0_offer_2 17 rfl rfl)
theorem dX0_offer_66 : decode cX0_offer 66 = .ok (.iconst 1, 1) := dk_4 (dk_at dksX0_offer_2 18 rfl rfl)
theorem dX0_offer_67 : decode cX0_offer 67 = .ok (.if_icmp .ne 7, 3) := dk_160 0 7 (dk_at dksX0_offer_2 19 rfl rfl)
theorem dX0_offer_70 : decode cX0_offer 70 = .ok (.iconst 1, 1) := dk_4 (dk_at dksX0_offer_2 22 rfl rfl)
theorem dX0_offer_71 : decode cX0_offer 71 = .ok (.goto 4, 3) := dk_167 0 4 (dk_at dksX0_offer_3 0 rfl rfl)
theorem dX0_offer_74 : decode cX0_offer 74 = .ok (.iconst 0, 1) := dk_3 (dk_at dksX0_offer_3 3 rfl rfl)
theorem dX0_offer_75 : decode cX0_offer 75 = .ok (.bastore, 1) := dk_84 (dk_at dksX0_offer_3 4 rfl rfl)
theorem dX0_offer_76 : decode cX0_offer 76 = .ok (.iconst 1, 1) := dk_4 (dk_at dksX0_offer_3 5 rfl rfl)
theorem dX0_offer_77 : decode cX0_offer 77 = .ok (.ireturn, 1) := dk_172 (dk_at dksX0_offer_3 6 rfl rfl)
abbrev cX0_cut : ByteArray := prog_1_method_59_code
def yX0_cut : MethodName := ⟨RX0, "cut", "(I)Z"⟩
def dkwX0_cut_2 : List UInt8 := [42, 182, 1, 114, 42, 180, 0, 69, 180, 0, 238, 27, 42, 180, 0, 69, 27, 182, 1, 78, 79, 4, 172]
abbrev dktX0_cut_2 : List UInt8 := dkwX0_cut_2 ++ []
def dkwX0_cut_1 : List UInt8 := [180, 0, 69, 27, 182, 1, 78, 160, 0, 17, 42, 5, 182, 0, 118, 155, 0, 7, 4, 167, 0, 4, 3, 172]
abbrev dktX0_cut_1 : List UInt8 := dkwX0_cut_1 ++ dktX0_cut_2
def dkwX0_cut_0 : List UInt8 := [27, 4, 42, 182, 0, 169, 5, 100, 184, 0, 176, 153, 0, 23, 42, 180, 0, 69, 180, 0, 238, 27, 46, 42]
abbrev dktX0_cut_0 : List UInt8 := dkwX0_cut_0 ++ dktX0_cut_1
theorem dksX0_cut_0 : cX0_cut.data.toList.drop 0 = dktX0_cut_0 := by decide +kernel
theorem dksX0_cut_1 : cX0_cut.data.toList.drop 24 = dktX0_cut_1 := dk_seg dksX0_cut_0 24 rfl rfl
theorem dksX0_cut_2 : cX0_cut.data.toList.drop 48 = dktX0_cut_2 := dk_seg dksX0_cut_1 24 rfl rfl
theorem dX0_cut_0 : decode cX0_cut 0 = .ok (.iload_n 1, 1) := dk_27 (dk_at dksX0_cut_0 0 rfl rfl)
theorem dX0_cut_1 : decode cX0_cut 1 = .ok (.iconst 1, 1) := dk_4 (dk_at dksX0_cut_0 1 rfl rfl)
theorem dX0_cut_2 : decode cX0_cut 2 = .ok (.aload_n 0, 1) := dk_42 (dk_at dksX0_cut_0 2 rfl rfl)
theorem dX0_cut_3 : decode cX0_cut 3 = .ok (.invokevirtual 169, 3) := dk_182 0 169 (dk_at dksX0_cut_0 3 rfl rfl)
theorem dX0_cut_6 : decode cX0_cut 6 = .ok (.iconst 2, 1) := dk_5 (dk_at dksX0_cut_0 6 rfl rfl)
theorem dX0_cut_7 : decode cX0_cut 7 = .ok (.isub, 1) := dk_100 (dk_at dksX0_cut_0 7 rfl rfl)
theorem dX0_cut_8 : decode cX0_cut 8 = .ok (.invokestatic 176, 3) := dk_184 0 176 (dk_at dksX0_cut_0 8 rfl rfl)
theorem dX0_cut_11 : decode cX0_cut 11 = .ok (.ifCond .eq 23, 3) := dk_153 0 23 (dk_at dksX0_cut_0 11 rfl rfl)
theorem dX0_cut_14 : decode cX0_cut 14 = .ok (.aload_n 0, 1) := dk_42 (dk_at dksX0_cut_0 14 rfl rfl)
theorem dX0_cut_15 : decode cX0_cut 15 = .ok (.getfield 69, 3) := dk_180 0 69 (dk_at dksX0_cut_0 15 rfl rfl)
theorem dX0_cut_18 : decode cX0_cut 18 = .ok (.getfield 238, 3) := dk_180 0 238 (dk_at dksX0_cut_0 18 rfl rfl)
theorem dX0_cut_21 : decode cX0_cut 21 = .ok (.iload_n 1, 1) := dk_27 (dk_at dksX0_cut_0 21 rfl rfl)
theorem dX0_cut_22 : decode cX0_cut 22 = .ok (.iaload, 1) := dk_46 (dk_at dksX0_cut_0 22 rfl rfl)
theorem dX0_cut_23 : decode cX0_cut 23 = .ok (.aload_n 0, 1) := dk_42 (dk_at dksX0_cut_0 23 rfl rfl)
theorem dX0_cut_24 : decode cX0_cut 24 = .ok (.getfield 69, 3) := dk_180 0 69 (dk_at dksX0_cut_1 0 rfl rfl)
theorem dX0_cut_27 : decode cX0_cut 27 = .ok (.iload_n 1, 1) := dk_27 (dk_at dksX0_cut_1 3 rfl rfl)
theorem dX0_cut_28 : decode cX0_cut 28 = .ok (.invokevirtual 334, 3) := dk_182 1 78 (dk_at dksX0_cut_1 4 rfl rfl)
theorem dX0_cut_31 : decode cX0_cut 31 = .ok (.if_icmp .ne 17, 3) := dk_160 0 17 (dk_at dksX0_cut_1 7 rfl rfl)
theorem dX0_cut_34 : decode cX0_cut 34 = .ok (.aload_n 0, 1) := dk_42 (dk_at dksX0_cut_1 10 rfl rfl)
theorem dX0_cut_35 : decode cX0_cut 35 = .ok (.iconst 2, 1) := dk_5 (dk_at dksX0_cut_1 11 rfl rfl)
theorem dX0_cut_36 : decode cX0_cut 36 = .ok (.invokevirtual 118, 3) := dk_182 0 118 (dk_at dksX0_cut_1 12 rfl rfl)
theorem dX0_cut_39 : decode cX0_cut 39 = .ok (.ifCond .lt 7, 3) := dk_155 0 7 (dk_at dksX0_cut_1 15 rfl rfl)
theorem dX0_cut_42 : decode cX0_cut 42 = .ok (.iconst 1, 1) := dk_4 (dk_at dksX0_cut_1 18 rfl rfl)
theorem dX0_cut_43 : decode cX0_cut 43 = .ok (.goto 4, 3) := dk_167 0 4 (dk_at dksX0_cut_1 19 rfl rfl)
theorem dX0_cut_46 : decode cX0_cut 46 = .ok (.iconst 0, 1) := dk_3 (dk_at dksX0_cut_1 22 rfl rfl)
theorem dX0_cut_47 : decode cX0_cut 47 = .ok (.ireturn, 1) := dk_172 (dk_at dksX0_cut_1 23 rfl rfl)
theorem dX0_cut_48 : decode cX0_cut 48 = .ok (.aload_n 0, 1) := dk_42 (dk_at dksX0_cut_2 0 rfl rfl)
theorem dX0_cut_49 : decode cX0_cut 49 = .ok (.invokevirtual 370, 3) := dk_182 1 114 (dk_at dksX0_cut_2 1 rfl rfl)
theorem dX0_cut_52 : decode cX0_cut 52 = .ok (.aload_n 0, 1) := dk_42 (dk_at dksX0_cut_2 4 rfl rfl)
theorem dX0_cut_53 : decode cX0_cut 53 = .ok (.getfield 69, 3) := dk_180 0 69 (dk_at dksX0_cut_2 5 rfl rfl)
theorem dX0_cut_56 : decode cX0_cut 56 = .ok (.getfield 238, 3) := dk_180 0 238 (dk_at dksX0_cut_2 8 rfl rfl)
theorem dX0_cut_59 : decode cX0_cut 59 = .ok (.iload_n 1, 1) := dk_27 (dk_at dksX0_cut_2 11 rfl rfl)
theorem dX0_cut_60 : decode cX0_cut 60 = .ok (.aload_n 0, 1) := dk_42 (dk_at dksX0_cut_2 12 rfl rfl)
theorem dX0_cut_61 : decode cX0_cut 61 = .ok (.getfield 69, 3) := dk_180 0 69 (dk_at dksX0_cut_2 13 rfl rfl)
theorem dX0_cut_64 : decode cX0_cut 64 = .ok (.iload_n 1, 1) := dk_27 (dk_at dksX0_cut_2 16 rfl rfl)
theorem dX0_cut_65 : decode cX0_cut 65 = .ok (.invokevirtual 334, 3) := dk_182 1 78 (dk_at dksX0_cut_2 17 rfl rfl)
theorem dX0_cut_68 : decode cX0_cut 68 = .ok (.iastore, 1) := dk_79 (dk_at dksX0_cut_2 20 rfl rfl)
theorem dX0_cut_69 : decode cX0_cut 69 = .ok (.iconst 1, 1) := dk_4 (dk_at dksX0_cut_2 21 rfl rfl)
theorem dX0_cut_70 : decode cX0_cut 70 = .ok (.ireturn, 1) := dk_172 (dk_at dksX0_cut_2 22 rfl rfl)
abbrev cX0_seasons : ByteArray := prog_1_method_60_code
def yX0_seasons : MethodName := ⟨RX0, "seasons", "(I)I"⟩
def dkwX0_seasons_1 : List UInt8 := [62, 29, 27, 162, 0, 19, 28, 42, 180, 0, 69, 182, 1, 44, 96, 61, 132, 3, 1, 167, 255, 238, 28, 172]
abbrev dktX0_seasons_1 : List UInt8 := dkwX0_seasons_1 ++ []
def dkwX0_seasons_0 : List UInt8 := [42, 27, 4, 16, 100, 182, 1, 33, 154, 0, 9, 42, 6, 182, 0, 118, 172, 42, 182, 1, 114, 3, 61, 3]
abbrev dktX0_seasons_0 : List UInt8 := dkwX0_seasons_0 ++ dktX0_seasons_1
theorem dksX0_seasons_0 : cX0_seasons.data.toList.drop 0 = dktX0_seasons_0 := by decide +kernel
theorem dksX0_seasons_1 : cX0_seasons.data.toList.drop 24 = dktX0_seasons_1 := dk_seg dksX0_seasons_0 24 rfl rfl
theorem dX0_seasons_0 : decode cX0_seasons 0 = .ok (.aload_n 0, 1) := dk_42 (dk_at dksX0_seasons_0 0 rfl rfl)
theorem dX0_seasons_1 : decode cX0_seasons 1 = .ok (.iload_n 1, 1) := dk_27 (dk_at dksX0_seasons_0 1 rfl rfl)
theorem dX0_seasons_2 : decode cX0_seasons 2 = .ok (.iconst 1, 1) := dk_4 (dk_at dksX0_seasons_0 2 rfl rfl)
theorem dX0_seasons_3 : decode cX0_seasons 3 = .ok (.bipush 100, 2) := dk_16 100 (dk_at dksX0_seasons_0 3 rfl rfl)
theorem dX0_seasons_5 : decode cX0_seasons 5 = .ok (.invokevirtual 289, 3) := dk_182 1 33 (dk_at dksX0_seasons_0 5 rfl rfl)
theorem dX0_seasons_8 : decode cX0_seasons 8 = .ok (.ifCond .ne 9, 3) := dk_154 0 9 (dk_at dksX0_seasons_0 8 rfl rfl)
theorem dX0_seasons_11 : decode cX0_seasons 11 = .ok (.aload_n 0, 1) := dk_42 (dk_at dksX0_seasons_0 11 rfl rfl)
theorem dX0_seasons_12 : decode cX0_seasons 12 = .ok (.iconst 3, 1) := dk_6 (dk_at dksX0_seasons_0 12 rfl rfl)
theorem dX0_seasons_13 : decode cX0_seasons 13 = .ok (.invokevirtual 118, 3) := dk_182 0 118 (dk_at dksX0_seasons_0 13 rfl rfl)
theorem dX0_seasons_16 : decode cX0_seasons 16 = .ok (.ireturn, 1) := dk_172 (dk_at dksX0_seasons_0 16 rfl rfl)
theorem dX0_seasons_17 : decode cX0_seasons 17 = .ok (.aload_n 0, 1) := dk_42 (dk_at dksX0_seasons_0 17 rfl rfl)
theorem dX0_seasons_18 : decode cX0_seasons 18 = .ok (.invokevirtual 370, 3) := dk_182 1 114 (dk_at dksX0_seasons_0 18 rfl rfl)
theorem dX0_seasons_21 : decode cX0_seasons 21 = .ok (.iconst 0, 1) := dk_3 (dk_at dksX0_seasons_0 21 rfl rfl)
theorem dX0_seasons_22 : decode cX0_seasons 22 = .ok (.istore_n 2, 1) := dk_61 (dk_at dksX0_seasons_0 22 rfl rfl)
theorem dX0_seasons_23 : decode cX0_seasons 23 = .ok (.iconst 0, 1) := dk_3 (dk_at dksX0_seasons_0 23 rfl rfl)
theorem dX0_seasons_24 : decode cX0_seasons 24 = .ok (.istore_n 3, 1) := dk_62 (dk_at dksX0_seasons_1 0 rfl rfl)
theorem dX0_seasons_25 : decode cX0_seasons 25 = .ok (.iload_n 3, 1) := dk_29 (dk_at dksX0_seasons_1 1 rfl rfl)
theorem dX0_seasons_26 : decode cX0_seasons 26 = .ok (.iload_n 1, 1) := dk_27 (dk_at dksX0_seasons_1 2 rfl rfl)
theorem dX0_seasons_27 : decode cX0_seasons 27 = .ok (.if_icmp .ge 19, 3) := dk_162 0 19 (dk_at dksX0_seasons_1 3 rfl rfl)
theorem dX0_seasons_30 : decode cX0_seasons 30 = .ok (.iload_n 2, 1) := dk_28 (dk_at dksX0_seasons_1 6 rfl rfl)
theorem dX0_seasons_31 : decode cX0_seasons 31 = .ok (.aload_n 0, 1) := dk_42 (dk_at dksX0_seasons_1 7 rfl rfl)
theorem dX0_seasons_32 : decode cX0_seasons 32 = .ok (.getfield 69, 3) := dk_180 0 69 (dk_at dksX0_seasons_1 8 rfl rfl)
theorem dX0_seasons_35 : decode cX0_seasons 35 = .ok (.invokevirtual 300, 3) := dk_182 1 44 (dk_at dksX0_seasons_1 11 rfl rfl)
theorem dX0_seasons_38 : decode cX0_seasons 38 = .ok (.iadd, 1) := dk_96 (dk_at dksX0_seasons_1 14 rfl rfl)
theorem dX0_seasons_39 : decode cX0_seasons 39 = .ok (.istore_n 2, 1) := dk_61 (dk_at dksX0_seasons_1 15 rfl rfl)
theorem dX0_seasons_40 : decode cX0_seasons 40 = .ok (.iinc 3 1, 3) := dk_132 3 1 (dk_at dksX0_seasons_1 16 rfl rfl)
theorem dX0_seasons_43 : decode cX0_seasons 43 = .ok (.goto (-18), 3) := dk_167 255 238 (dk_at dksX0_seasons_1 19 rfl rfl)
theorem dX0_seasons_46 : decode cX0_seasons 46 = .ok (.iload_n 2, 1) := dk_28 (dk_at dksX0_seasons_1 22 rfl rfl)
theorem dX0_seasons_47 : decode cX0_seasons 47 = .ok (.ireturn, 1) := dk_172 (dk_at dksX0_seasons_1 23 rfl rfl)
abbrev cX0_chance : ByteArray := prog_1_method_62_code
def yX0_chance : MethodName := ⟨RX0, "chance", "(I)I"⟩
def dkwX0_chance_5 : List UInt8 := [180, 0, 69, 182, 1, 44, 87, 132, 3, 1, 167, 255, 155, 28, 172]
abbrev dktX0_chance_5 : List UInt8 := dkwX0_chance_5 ++ []
def dkwX0_chance_4 : List UInt8 := [184, 0, 176, 153, 0, 15, 42, 180, 0, 69, 180, 0, 238, 21, 4, 21, 5, 79, 132, 2, 1, 42]
abbrev dktX0_chance_4 : List UInt8 := dkwX0_chance_4 ++ dktX0_chance_5
def dkwX0_chance_3 : List UInt8 := [154, 0, 7, 2, 167, 0, 4, 4, 96, 54, 5, 21, 5, 3, 42, 180, 0, 31, 180, 0, 175, 4, 100]
abbrev dktX0_chance_3 : List UInt8 := dkwX0_chance_3 ++ dktX0_chance_4
def dkwX0_chance_2 : List UInt8 := [182, 0, 169, 182, 1, 124, 54, 4, 42, 180, 0, 69, 180, 0, 238, 21, 4, 46, 42, 5, 182, 1, 124]
abbrev dktX0_chance_2 : List UInt8 := dkwX0_chance_2 ++ dktX0_chance_3
def dkwX0_chance_1 : List UInt8 := [62, 29, 27, 162, 0, 102, 42, 16, 100, 182, 1, 124, 42, 180, 0, 31, 180, 1, 127, 162, 0, 72, 42, 42]
abbrev dktX0_chance_1 : List UInt8 := dkwX0_chance_1 ++ dktX0_chance_2
def dkwX0_chance_0 : List UInt8 := [42, 27, 4, 16, 100, 182, 1, 33, 154, 0, 9, 42, 6, 182, 0, 118, 172, 42, 182, 1, 114, 3, 61, 3]
abbrev dktX0_chance_0 : List UInt8 := dkwX0_chance_0 ++ dktX0_chance_1
theorem dksX0_chance_0 : cX0_chance.data.toList.drop 0 = dktX0_chance_0 := by decide +kernel
theorem dksX0_chance_1 : cX0_chance.data.toList.drop 24 = dktX0_chance_1 := dk_seg dksX0_chance_0 24 rfl rfl
theorem dksX0_chance_2 : cX0_chance.data.toList.drop 48 = dktX0_chance_2 := dk_seg dksX0_chance_1 24 rfl rfl
theorem dksX0_chance_3 : cX0_chance.data.toList.drop 71 = dktX0_chance_3 := dk_seg dksX0_chance_2 23 rfl rfl
theorem dksX0_chance_4 : cX0_chance.data.toList.drop 94 = dktX0_chance_4 := dk_seg dksX0_chance_3 23 rfl rfl
theorem dksX0_chance_5 : cX0_chance.data.toList.drop 116 = dktX0_chance_5 := dk_seg dksX0_chance_4 22 rfl rfl
theorem dX0_chance_0 : decode cX0_chance 0 = .ok (.aload_n 0, 1) := dk_42 (dk_at dksX0_chance_0 0 rfl rfl)
theorem dX0_chance_1 : decode cX0_chance 1 = .ok (.iload_n 1, 1) := dk_27 (dk_at dksX0_chance_0 1 rfl rfl)
theorem dX0_chance_2 : decode cX0_chance 2 = .ok (.iconst 1, 1) := dk_4 (dk_at dksX0_chance_0 2 rfl rfl)
theorem dX0_chance_3 : decode cX0_chance 3 = .ok (.bipush 100, 2) := dk_16 100 (dk_at dksX0_chance_0 3 rfl rfl)
theorem dX0_chance_5 : decode cX0_chance 5 = .ok (.invokevirtual 289, 3) := dk_182 1 33 (dk_at dksX0_chance_0 5 rfl rfl)
theorem dX0_chance_8 : decode cX0_chance 8 = .ok (.ifCond .ne 9, 3) := dk_154 0 9 (dk_at dksX0_chance_0 8 rfl rfl)
theorem dX0_chance_11 : decode cX0_chance 11 = .ok (.aload_n 0, 1) := dk_42 (dk_at dksX0_chance_0 11 rfl rfl)
theorem dX0_chance_12 : decode cX0_chance 12 = .ok (.iconst 3, 1) := dk_6 (dk_at dksX0_chance_0 12 rfl rfl)
theorem dX0_chance_13 : decode cX0_chance 13 = .ok (.invokevirtual 118, 3) := dk_182 0 118 (dk_at dksX0_chance_0 13 rfl rfl)
theorem dX0_chance_16 : decode cX0_chance 16 = .ok (.ireturn, 1) := dk_172 (dk_at dksX0_chance_0 16 rfl rfl)
theorem dX0_chance_17 : decode cX0_chance 17 = .ok (.aload_n 0, 1) := dk_42 (dk_at dksX0_chance_0 17 rfl rfl)
theorem dX0_chance_18 : decode cX0_chance 18 = .ok (.invokevirtual 370, 3) := dk_182 1 114 (dk_at dksX0_chance_0 18 rfl rfl)
theorem dX0_chance_21 : decode cX0_chance 21 = .ok (.iconst 0, 1) := dk_3 (dk_at dksX0_chance_0 21 rfl rfl)
theorem dX0_chance_22 : decode cX0_chance 22 = .ok (.istore_n 2, 1) := dk_61 (dk_at dksX0_chance_0 22 rfl rfl)
theorem dX0_chance_23 : decode cX0_chance 23 = .ok (.iconst 0, 1) := dk_3 (dk_at dksX0_chance_0 23 rfl rfl)
theorem dX0_chance_24 : decode cX0_chance 24 = .ok (.istore_n 3, 1) := dk_62 (dk_at dksX0_chance_1 0 rfl rfl)
theorem dX0_chance_25 : decode cX0_chance 25 = .ok (.iload_n 3, 1) := dk_29 (dk_at dksX0_chance_1 1 rfl rfl)
theorem dX0_chance_26 : decode cX0_chance 26 = .ok (.iload_n 1, 1) := dk_27 (dk_at dksX0_chance_1 2 rfl rfl)
theorem dX0_chance_27 : decode cX0_chance 27 = .ok (.if_icmp .ge 102, 3) := dk_162 0 102 (dk_at dksX0_chance_1 3 rfl rfl)
theorem dX0_chance_30 : decode cX0_chance 30 = .ok (.aload_n 0, 1) := dk_42 (dk_at dksX0_chance_1 6 rfl rfl)
theorem dX0_chance_31 : decode cX0_chance 31 = .ok (.bipush 100, 2) := dk_16 100 (dk_at dksX0_chance_1 7 rfl rfl)
theorem dX0_chance_33 : decode cX0_chance 33 = .ok (.invokevirtual 380, 3) := dk_182 1 124 (dk_at dksX0_chance_1 9 rfl rfl)
theorem dX0_chance_36 : decode cX0_chance 36 = .ok (.aload_n 0, 1) := dk_42 (dk_at dksX0_chance_1 12 rfl rfl)
theorem dX0_chance_37 : decode cX0_chance 37 = .ok (.getfield 31, 3) := dk_180 0 31 (dk_at dksX0_chance_1 13 rfl rfl)
theorem dX0_chance_40 : decode cX0_chance 40 = .ok (.getfield 383, 3) := dk_180 1 127 (dk_at dksX0_chance_1 16 rfl rfl)
theorem dX0_chance_43 : decode cX0_chance 43 = .ok (.if_icmp .ge 72, 3) := dk_162 0 72 (dk_at dksX0_chance_1 19 rfl rfl)
theorem dX0_chance_46 : decode cX0_chance 46 = .ok (.aload_n 0, 1) := dk_42 (dk_at dksX0_chance_1 22 rfl rfl)
theorem dX0_chance_47 : decode cX0_chance 47 = .ok (.aload_n 0, 1) := dk_42 (dk_at dksX0_chance_1 23 rfl rfl)
theorem dX0_chance_48 : decode cX0_chance 48 = .ok (.invokevirtual 169, 3) := dk_182 0 169 (dk_at dksX0_chance_2 0 rfl rfl)
theorem dX0_chance_51 : decode cX0_chance 51 = .ok (.invokevirtual 380, 3) := dk_182 1 124 (dk_at dksX0_chance_2 3 rfl rfl)
theorem dX0_chance_54 : decode cX0_chance 54 = .ok (.istore 4, 2) := dk_54 4 (dk_at dksX0_chance_2 6 rfl rfl)
theorem dX0_chance_56 : decode cX0_chance 56 = .ok (.aload_n 0, 1) := dk_42 (dk_at dksX0_chance_2 8 rfl rfl)
theorem dX0_chance_57 : decode cX0_chance 57 = .ok (.getfield 69, 3) := dk_180 0 69 (dk_at dksX0_chance_2 9 rfl rfl)
theorem dX0_chance_60 : decode cX0_chance 60 = .ok (.getfield 238, 3) := dk_180 0 238 (dk_at dksX0_chance_2 12 rfl rfl)
theorem dX0_chance_63 : decode cX0_chance 63 = .ok (.iload 4, 2) := dk_21 4 (dk_at dksX0_chance_2 15 rfl rfl)
theorem dX0_chance_65 : decode cX0_chance 65 = .ok (.iaload, 1) := dk_46 (dk_at dksX0_chance_2 17 rfl rfl)
theorem dX0_chance_66 : decode cX0_chance 66 = .ok (.aload_n 0, 1) := dk_42 (dk_at dksX0_chance_2 18 rfl rfl)
theorem dX0_chance_67 : decode cX0_chance 67 = .ok (.iconst 2, 1) := dk_5 (dk_at dksX0_chance_2 19 rfl rfl)
theorem dX0_chance_68 : decode cX0_chance 68 = .ok (.invokevirtual 380, 3) := dk_182 1 124 (dk_at dksX0_chance_2 20 rfl rfl)
theorem dX0_chance_71 : decode cX0_chance 71 = .ok (.ifCond .ne 7, 3) := dk_154 0 7 (dk_at dksX0_chance_3 0 rfl rfl)
theorem dX0_chance_74 : decode cX0_chance 74 = .ok (.iconst (-1), 1) := dk_2 (dk_at dksX0_chance_3 3 rfl rfl)
theorem dX0_chance_75 : decode cX0_chance 75 = .ok (.goto 4, 3) := dk_167 0 4 (dk_at dksX0_chance_3 4 rfl rfl)
theorem dX0_chance_78 : decode cX0_chance 78 = .ok (.iconst 1, 1) := dk_4 (dk_at dksX0_chance_3 7 rfl rfl)
theorem dX0_chance_79 : decode cX0_chance 79 = .ok (.iadd, 1) := dk_96 (dk_at dksX0_chance_3 8 rfl rfl)
theorem dX0_chance_80 : decode cX0_chance 80 = .ok (.istore 5, 2) := dk_54 5 (dk_at dksX0_chance_3 9 rfl rfl)
theorem dX0_chance_82 : decode cX0_chance 82 = .ok (.iload 5, 2) := dk_21 5 (dk_at dksX0_chance_3 11 rfl rfl)
theorem dX0_chance_84 : decode cX0_chance 84 = .ok (.iconst 0, 1) := dk_3 (dk_at dksX0_chance_3 13 rfl rfl)
theorem dX0_chance_85 : decode cX0_chance 85 = .ok (.aload_n 0, 1) := dk_42 (dk_at dksX0_chance_3 14 rfl rfl)
theorem dX0_chance_86 : decode cX0_chance 86 = .ok (.getfield 31, 3) := dk_180 0 31 (dk_at dksX0_chance_3 15 rfl rfl)
theorem dX0_chance_89 : decode cX0_chance 89 = .ok (.getfield 175, 3) := dk_180 0 175 (dk_at dksX0_chance_3 18 rfl rfl)
theorem dX0_chance_92 : decode cX0_chance 92 = .ok (.iconst 1, 1) := dk_4 (dk_at dksX0_chance_3 21 rfl rfl)
theorem dX0_chance_93 : decode cX0_chance 93 = .ok (.isub, 1) := dk_100 (dk_at dksX0_chance_3 22 rfl rfl)
theorem dX0_chance_94 : decode cX0_chance 94 = .ok (.invokestatic 176, 3) := dk_184 0 176 (dk_at dksX0_chance_4 0 rfl rfl)
theorem dX0_chance_97 : decode cX0_chance 97 = .ok (.ifCond .eq 15, 3) := dk_153 0 15 (dk_at dksX0_chance_4 3 rfl rfl)
theorem dX0_chance_100 : decode cX0_chance 100 = .ok (.aload_n 0, 1) := dk_42 (dk_at dksX0_chance_4 6 rfl rfl)
theorem dX0_chance_101 : decode cX0_chance 101 = .ok (.getfield 69, 3) := dk_180 0 69 (dk_at dksX0_chance_4 7 rfl rfl)
theorem dX0_chance_104 : decode cX0_chance 104 = .ok (.getfield 238, 3) := dk_180 0 238 (dk_at dksX0_chance_4 10 rfl rfl)
theorem dX0_chance_107 : decode cX0_chance 107 = .ok (.iload 4, 2) := dk_21 4 (dk_at dksX0_chance_4 13 rfl rfl)
theorem dX0_chance_109 : decode cX0_chance 109 = .ok (.iload 5, 2) := dk_21 5 (dk_at dksX0_chance_4 15 rfl rfl)
theorem dX0_chance_111 : decode cX0_chance 111 = .ok (.iastore, 1) := dk_79 (dk_at dksX0_chance_4 17 rfl rfl)
theorem dX0_chance_112 : decode cX0_chance 112 = .ok (.iinc 2 1, 3) := dk_132 2 1 (dk_at dksX0_chance_4 18 rfl rfl)
theorem dX0_chance_115 : decode cX0_chance 115 = .ok (.aload_n 0, 1) := dk_42 (dk_at dksX0_chance_4 21 rfl rfl)
theorem dX0_chance_116 : decode cX0_chance 116 = .ok (.getfield 69, 3) := dk_180 0 69 (dk_at dksX0_chance_5 0 rfl rfl)
theorem dX0_chance_119 : decode cX0_chance 119 = .ok (.invokevirtual 300, 3) := dk_182 1 44 (dk_at dksX0_chance_5 3 rfl rfl)
theorem dX0_chance_122 : decode cX0_chance 122 = .ok (.pop, 1) := dk_87 (dk_at dksX0_chance_5 6 rfl rfl)
theorem dX0_chance_123 : decode cX0_chance 123 = .ok (.iinc 3 1, 3) := dk_132 3 1 (dk_at dksX0_chance_5 7 rfl rfl)
theorem dX0_chance_126 : decode cX0_chance 126 = .ok (.goto (-101), 3) := dk_167 255 155 (dk_at dksX0_chance_5 10 rfl rfl)
theorem dX0_chance_129 : decode cX0_chance 129 = .ok (.iload_n 2, 1) := dk_28 (dk_at dksX0_chance_5 13 rfl rfl)
theorem dX0_chance_130 : decode cX0_chance 130 = .ok (.ireturn, 1) := dk_172 (dk_at dksX0_chance_5 14 rfl rfl)
abbrev cX0_draw : ByteArray := prog_1_method_61_code
def yX0_draw : MethodName := ⟨RX0, "draw", "(I)I"⟩
def dkwX0_draw_1 : List UInt8 := [20, 1, 122, 109, 27, 133, 113, 136, 172]
abbrev dktX0_draw_1 : List UInt8 := dkwX0_draw_1 ++ []
def dkwX0_draw_0 : List UInt8 := [42, 20, 1, 116, 42, 180, 0, 108, 105, 20, 1, 118, 97, 20, 1, 120, 113, 181, 0, 108, 42, 180, 0, 108]
abbrev dktX0_draw_0 : List UInt8 := dkwX0_draw_0 ++ dktX0_draw_1
theorem dksX0_draw_0 : cX0_draw.data.toList.drop 0 = dktX0_draw_0 := by decide +kernel
theorem dksX0_draw_1 : cX0_draw.data.toList.drop 24 = dktX0_draw_1 := dk_seg dksX0_draw_0 24 rfl rfl
theorem dX0_draw_0 : decode cX0_draw 0 = .ok (.aload_n 0, 1) := dk_42 (dk_at dksX0_draw_0 0 rfl rfl)
theorem dX0_draw_1 : decode cX0_draw 1 = .ok (.ldc2_w 372, 3) := dk_20 1 116 (dk_at dksX0_draw_0 1 rfl rfl)
theorem dX0_draw_4 : decode cX0_draw 4 = .ok (.aload_n 0, 1) := dk_42 (dk_at dksX0_draw_0 4 rfl rfl)
theorem dX0_draw_5 : decode cX0_draw 5 = .ok (.getfield 108, 3) := dk_180 0 108 (dk_at dksX0_draw_0 5 rfl rfl)
theorem dX0_draw_8 : decode cX0_draw 8 = .ok (.lmul, 1) := dk_105 (dk_at dksX0_draw_0 8 rfl rfl)
theorem dX0_draw_9 : decode cX0_draw 9 = .ok (.ldc2_w 374, 3) := dk_20 1 118 (dk_at dksX0_draw_0 9 rfl rfl)
theorem dX0_draw_12 : decode cX0_draw 12 = .ok (.ladd, 1) := dk_97 (dk_at dksX0_draw_0 12 rfl rfl)
theorem dX0_draw_13 : decode cX0_draw 13 = .ok (.ldc2_w 376, 3) := dk_20 1 120 (dk_at dksX0_draw_0 13 rfl rfl)
theorem dX0_draw_16 : decode cX0_draw 16 = .ok (.lrem, 1) := dk_113 (dk_at dksX0_draw_0 16 rfl rfl)
theorem dX0_draw_17 : decode cX0_draw 17 = .ok (.putfield 108, 3) := dk_181 0 108 (dk_at dksX0_draw_0 17 rfl rfl)
theorem dX0_draw_20 : decode cX0_draw 20 = .ok (.aload_n 0, 1) := dk_42 (dk_at dksX0_draw_0 20 rfl rfl)
theorem dX0_draw_21 : decode cX0_draw 21 = .ok (.getfield 108, 3) := dk_180 0 108 (dk_at dksX0_draw_0 21 rfl rfl)
theorem dX0_draw_24 : decode cX0_draw 24 = .ok (.ldc2_w 378, 3) := dk_20 1 122 (dk_at dksX0_draw_1 0 rfl rfl)
theorem dX0_draw_27 : decode cX0_draw 27 = .ok (.ldiv, 1) := dk_109 (dk_at dksX0_draw_1 3 rfl rfl)
theorem dX0_draw_28 : decode cX0_draw 28 = .ok (.iload_n 1, 1) := dk_27 (dk_at dksX0_draw_1 4 rfl rfl)
theorem dX0_draw_29 : decode cX0_draw 29 = .ok (.i2l, 1) := dk_133 (dk_at dksX0_draw_1 5 rfl rfl)
theorem dX0_draw_30 : decode cX0_draw 30 = .ok (.lrem, 1) := dk_113 (dk_at dksX0_draw_1 6 rfl rfl)
theorem dX0_draw_31 : decode cX0_draw 31 = .ok (.l2i, 1) := dk_136 (dk_at dksX0_draw_1 7 rfl rfl)
theorem dX0_draw_32 : decode cX0_draw 32 = .ok (.ireturn, 1) := dk_172 (dk_at dksX0_draw_1 8 rfl rfl)
abbrev cX0_seed : ByteArray := prog_1_method_63_code
def yX0_seed : MethodName := ⟨RX0, "seed", "(I)Z"⟩
def dkwX0_seed_1 : List UInt8 := [4, 172]
abbrev dktX0_seed_1 : List UInt8 := dkwX0_seed_1 ++ []
def dkwX0_seed_0 : List UInt8 := [27, 156, 0, 17, 42, 8, 182, 0, 118, 155, 0, 7, 4, 167, 0, 4, 3, 172, 42, 27, 133, 181, 0, 108]
abbrev dktX0_seed_0 : List UInt8 := dkwX0_seed_0 ++ dktX0_seed_1
theorem dksX0_seed_0 : cX0_seed.data.toList.drop 0 = dktX0_seed_0 := by decide +kernel
theorem dksX0_seed_1 : cX0_seed.data.toList.drop 24 = dktX0_seed_1 := dk_seg dksX0_seed_0 24 rfl rfl
theorem dX0_seed_0 : decode cX0_seed 0 = .ok (.iload_n 1, 1) := dk_27 (dk_at dksX0_seed_0 0 rfl rfl)
theorem dX0_seed_1 : decode cX0_seed 1 = .ok (.ifCond .ge 17, 3) := dk_156 0 17 (dk_at dksX0_seed_0 1 rfl rfl)
theorem dX0_seed_4 : decode cX0_seed 4 = .ok (.aload_n 0, 1) := dk_42 (dk_at dksX0_seed_0 4 rfl rfl)
theorem dX0_seed_5 : decode cX0_seed 5 = .ok (.iconst 5, 1) := dk_8 (dk_at dksX0_seed_0 5 rfl rfl)
theorem dX0_seed_6 : decode cX0_seed 6 = .ok (.invokevirtual 118, 3) := dk_182 0 118 (dk_at dksX0_seed_0 6 rfl rfl)
theorem dX0_seed_9 : decode cX0_seed 9 = .ok (.ifCond .lt 7, 3) := dk_155 0 7 (dk_at dksX0_seed_0 9 rfl rfl)
theorem dX0_seed_12 : decode cX0_seed 12 = .ok (.iconst 1, 1) := dk_4 (dk_at dksX0_seed_0 12 rfl rfl)
theorem dX0_seed_13 : decode cX0_seed 13 = .ok (.goto 4, 3) := dk_167 0 4 (dk_at dksX0_seed_0 13 rfl rfl)
theorem dX0_seed_16 : decode cX0_seed 16 = .ok (.iconst 0, 1) := dk_3 (dk_at dksX0_seed_0 16 rfl rfl)
theorem dX0_seed_17 : decode cX0_seed 17 = .ok (.ireturn, 1) := dk_172 (dk_at dksX0_seed_0 17 rfl rfl)
theorem dX0_seed_18 : decode cX0_seed 18 = .ok (.aload_n 0, 1) := dk_42 (dk_at dksX0_seed_0 18 rfl rfl)
theorem dX0_seed_19 : decode cX0_seed 19 = .ok (.iload_n 1, 1) := dk_27 (dk_at dksX0_seed_0 19 rfl rfl)
theorem dX0_seed_20 : decode cX0_seed 20 = .ok (.i2l, 1) := dk_133 (dk_at dksX0_seed_0 20 rfl rfl)
theorem dX0_seed_21 : decode cX0_seed 21 = .ok (.putfield 108, 3) := dk_181 0 108 (dk_at dksX0_seed_0 21 rfl rfl)
theorem dX0_seed_24 : decode cX0_seed 24 = .ok (.iconst 1, 1) := dk_4 (dk_at dksX0_seed_1 0 rfl rfl)
theorem dX0_seed_25 : decode cX0_seed 25 = .ok (.ireturn, 1) := dk_172 (dk_at dksX0_seed_1 1 rfl rfl)
abbrev cX0_ask : ByteArray := prog_1_method_65_code
def yX0_ask : MethodName := ⟨RX0, "ask", "()J"⟩
def dkwX0_ask_11 : List UInt8 := [173]
abbrev dktX0_ask_11 : List UInt8 := dkwX0_ask_11 ++ []
def dkwX0_ask_10 : List UInt8 := [182, 1, 24, 133, 80, 44, 29, 42, 180, 0, 59, 182, 1, 136, 132, 3, 1, 167, 255, 65, 44, 182, 1, 142]
abbrev dktX0_ask_10 : List UInt8 := dkwX0_ask_10 ++ dktX0_ask_11
def dkwX0_ask_9 : List UInt8 := [51, 153, 0, 7, 10, 167, 0, 4, 9, 80, 42, 180, 0, 59, 180, 0, 199, 16, 17, 42, 180, 0, 69, 29]
abbrev dktX0_ask_9 : List UInt8 := dkwX0_ask_9 ++ dktX0_ask_10
def dkwX0_ask_8 : List UInt8 := [180, 1, 21, 29, 46, 133, 80, 42, 180, 0, 59, 180, 0, 199, 16, 16, 42, 180, 0, 69, 180, 0, 218, 29]
abbrev dktX0_ask_8 : List UInt8 := dkwX0_ask_8 ++ dktX0_ask_9
def dkwX0_ask_7 : List UInt8 := [42, 29, 182, 0, 231, 180, 1, 18, 133, 80, 42, 180, 0, 59, 180, 0, 199, 16, 15, 42, 180, 0, 69]
abbrev dktX0_ask_7 : List UInt8 := dkwX0_ask_7 ++ dktX0_ask_8
def dkwX0_ask_6 : List UInt8 := [180, 0, 199, 16, 13, 42, 29, 182, 0, 231, 180, 1, 16, 133, 80, 42, 180, 0, 59, 180, 0, 199, 16, 14]
abbrev dktX0_ask_6 : List UInt8 := dkwX0_ask_6 ++ dktX0_ask_7
def dkwX0_ask_5 : List UInt8 := [42, 180, 0, 59, 180, 0, 199, 16, 12, 42, 29, 182, 0, 231, 180, 1, 13, 133, 80, 42, 180, 0, 59]
abbrev dktX0_ask_5 : List UInt8 := dkwX0_ask_5 ++ dktX0_ask_6
def dkwX0_ask_4 : List UInt8 := [16, 10, 29, 133, 80, 42, 180, 0, 59, 180, 0, 199, 16, 11, 42, 29, 182, 0, 231, 180, 1, 10, 133, 80]
abbrev dktX0_ask_4 : List UInt8 := dkwX0_ask_4 ++ dktX0_ask_5
def dkwX0_ask_3 : List UInt8 := [180, 0, 59, 180, 0, 199, 6, 42, 180, 0, 69, 180, 0, 209, 133, 80, 42, 180, 0, 59, 180, 0, 199]
abbrev dktX0_ask_3 : List UInt8 := dkwX0_ask_3 ++ dktX0_ask_4
def dkwX0_ask_2 : List UInt8 := [42, 45, 180, 0, 142, 181, 0, 39, 20, 1, 8, 173, 3, 62, 29, 42, 182, 0, 180, 162, 0, 189, 42]
abbrev dktX0_ask_2 : List UInt8 := dkwX0_ask_2 ++ dktX0_ask_3
def dkwX0_ask_1 : List UInt8 := [181, 0, 39, 42, 180, 0, 48, 27, 182, 1, 132, 77, 167, 0, 24, 78, 42, 45, 180, 0, 139, 181, 0, 126]
abbrev dktX0_ask_1 : List UInt8 := dkwX0_ask_1 ++ dktX0_ask_2
def dkwX0_ask_0 : List UInt8 := [42, 182, 0, 129, 60, 42, 182, 1, 29, 154, 0, 7, 20, 1, 8, 173, 42, 3, 181, 0, 126, 42, 2]
abbrev dktX0_ask_0 : List UInt8 := dkwX0_ask_0 ++ dktX0_ask_1
theorem dksX0_ask_0 : cX0_ask.data.toList.drop 0 = dktX0_ask_0 := by decide +kernel
theorem dksX0_ask_1 : cX0_ask.data.toList.drop 23 = dktX0_ask_1 := dk_seg dksX0_ask_0 23 rfl rfl
theorem dksX0_ask_2 : cX0_ask.data.toList.drop 47 = dktX0_ask_2 := dk_seg dksX0_ask_1 24 rfl rfl
theorem dksX0_ask_3 : cX0_ask.data.toList.drop 70 = dktX0_ask_3 := dk_seg dksX0_ask_2 23 rfl rfl
theorem dksX0_ask_4 : cX0_ask.data.toList.drop 93 = dktX0_ask_4 := dk_seg dksX0_ask_3 23 rfl rfl
theorem dksX0_ask_5 : cX0_ask.data.toList.drop 117 = dktX0_ask_5 := dk_seg dksX0_ask_4 24 rfl rfl
theorem dksX0_ask_6 : cX0_ask.data.toList.drop 140 = dktX0_ask_6 := dk_seg dksX0_ask_5 23 rfl rfl
theorem dksX0_ask_7 : cX0_ask.data.toList.drop 164 = dktX0_ask_7 := dk_seg dksX0_ask_6 24 rfl rfl
theorem dksX0_ask_8 : cX0_ask.data.toList.drop 187 = dktX0_ask_8 := dk_seg dksX0_ask_7 23 rfl rfl
theorem dksX0_ask_9 : cX0_ask.data.toList.drop 211 = dktX0_ask_9 := dk_seg dksX0_ask_8 24 rfl rfl
theorem dksX0_ask_10 : cX0_ask.data.toList.drop 235 = dktX0_ask_10 := dk_seg dksX0_ask_9 24 rfl rfl
theorem dksX0_ask_11 : cX0_ask.data.toList.drop 259 = dktX0_ask_11 := dk_seg dksX0_ask_10 24 rfl rfl
theorem dX0_ask_0 : decode cX0_ask 0 = .ok (.aload_n 0, 1) := dk_42 (dk_at dksX0_ask_0 0 rfl rfl)
theorem dX0_ask_1 : decode cX0_ask 1 = .ok (.invokevirtual 129, 3) := dk_182 0 129 (dk_at dksX0_ask_0 1 rfl rfl)
theorem dX0_ask_4 : decode cX0_ask 4 = .ok (.istore_n 1, 1) := dk_60 (dk_at dksX0_ask_0 4 rfl rfl)
theorem dX0_ask_5 : decode cX0_ask 5 = .ok (.aload_n 0, 1) := dk_42 (dk_at dksX0_ask_0 5 rfl rfl)
theorem dX0_ask_6 : decode cX0_ask 6 = .ok (.invokevirtual 285, 3) := dk_182 1 29 (dk_at dksX0_ask_0 6 rfl rfl)
theorem dX0_ask_9 : decode cX0_ask 9 = .ok (.ifCond .ne 7, 3) := dk_154 0 7 (dk_at dksX0_ask_0 9 rfl rfl)
theorem dX0_ask_12 : decode cX0_ask 12 = .ok (.ldc2_w 264, 3) := dk_20 1 8 (dk_at dksX0_ask_0 12 rfl rfl)
theorem dX0_ask_15 : decode cX0_ask 15 = .ok (.lreturn, 1) := dk_173 (dk_at dksX0_ask_0 15 rfl rfl)
theorem dX0_ask_16 : decode cX0_ask 16 = .ok (.aload_n 0, 1) := dk_42 (dk_at dksX0_ask_0 16 rfl rfl)
theorem dX0_ask_17 : decode cX0_ask 17 = .ok (.iconst 0, 1) := dk_3 (dk_at dksX0_ask_0 17 rfl rfl)
theorem dX0_ask_18 : decode cX0_ask 18 = .ok (.putfield 126, 3) := dk_181 0 126 (dk_at dksX0_ask_0 18 rfl rfl)
theorem dX0_ask_21 : decode cX0_ask 21 = .ok (.aload_n 0, 1) := dk_42 (dk_at dksX0_ask_0 21 rfl rfl)
theorem dX0_ask_22 : decode cX0_ask 22 = .ok (.iconst (-1), 1) := dk_2 (dk_at dksX0_ask_0 22 rfl rfl)
theorem dX0_ask_23 : decode cX0_ask 23 = .ok (.putfield 39, 3) := dk_181 0 39 (dk_at dksX0_ask_1 0 rfl rfl)
theorem dX0_ask_26 : decode cX0_ask 26 = .ok (.aload_n 0, 1) := dk_42 (dk_at dksX0_ask_1 3 rfl rfl)
theorem dX0_ask_27 : decode cX0_ask 27 = .ok (.getfield 48, 3) := dk_180 0 48 (dk_at dksX0_ask_1 4 rfl rfl)
theorem dX0_ask_30 : decode cX0_ask 30 = .ok (.iload_n 1, 1) := dk_27 (dk_at dksX0_ask_1 7 rfl rfl)
theorem dX0_ask_31 : decode cX0_ask 31 = .ok (.invokevirtual 388, 3) := dk_182 1 132 (dk_at dksX0_ask_1 8 rfl rfl)
theorem dX0_ask_34 : decode cX0_ask 34 = .ok (.astore_n 2, 1) := dk_77 (dk_at dksX0_ask_1 11 rfl rfl)
theorem dX0_ask_35 : decode cX0_ask 35 = .ok (.goto 24, 3) := dk_167 0 24 (dk_at dksX0_ask_1 12 rfl rfl)
theorem dX0_ask_38 : decode cX0_ask 38 = .ok (.astore_n 3, 1) := dk_78 (dk_at dksX0_ask_1 15 rfl rfl)
theorem dX0_ask_39 : decode cX0_ask 39 = .ok (.aload_n 0, 1) := dk_42 (dk_at dksX0_ask_1 16 rfl rfl)
theorem dX0_ask_40 : decode cX0_ask 40 = .ok (.aload_n 3, 1) := dk_45 (dk_at dksX0_ask_1 17 rfl rfl)
theorem dX0_ask_41 : decode cX0_ask 41 = .ok (.getfield 139, 3) := dk_180 0 139 (dk_at dksX0_ask_1 18 rfl rfl)
theorem dX0_ask_44 : decode cX0_ask 44 = .ok (.putfield 126, 3) := dk_181 0 126 (dk_at dksX0_ask_1 21 rfl rfl)
theorem dX0_ask_47 : decode cX0_ask 47 = .ok (.aload_n 0, 1) := dk_42 (dk_at dksX0_ask_2 0 rfl rfl)
theorem dX0_ask_48 : decode cX0_ask 48 = .ok (.aload_n 3, 1) := dk_45 (dk_at dksX0_ask_2 1 rfl rfl)
theorem dX0_ask_49 : decode cX0_ask 49 = .ok (.getfield 142, 3) := dk_180 0 142 (dk_at dksX0_ask_2 2 rfl rfl)
theorem dX0_ask_52 : decode cX0_ask 52 = .ok (.putfield 39, 3) := dk_181 0 39 (dk_at dksX0_ask_2 5 rfl rfl)
theorem dX0_ask_55 : decode cX0_ask 55 = .ok (.ldc2_w 264, 3) := dk_20 1 8 (dk_at dksX0_ask_2 8 rfl rfl)
theorem dX0_ask_58 : decode cX0_ask 58 = .ok (.lreturn, 1) := dk_173 (dk_at dksX0_ask_2 11 rfl rfl)
theorem dX0_ask_59 : decode cX0_ask 59 = .ok (.iconst 0, 1) := dk_3 (dk_at dksX0_ask_2 12 rfl rfl)
theorem dX0_ask_60 : decode cX0_ask 60 = .ok (.istore_n 3, 1) := dk_62 (dk_at dksX0_ask_2 13 rfl rfl)
theorem dX0_ask_61 : decode cX0_ask 61 = .ok (.iload_n 3, 1) := dk_29 (dk_at dksX0_ask_2 14 rfl rfl)
theorem dX0_ask_62 : decode cX0_ask 62 = .ok (.aload_n 0, 1) := dk_42 (dk_at dksX0_ask_2 15 rfl rfl)
theorem dX0_ask_63 : decode cX0_ask 63 = .ok (.invokevirtual 180, 3) := dk_182 0 180 (dk_at dksX0_ask_2 16 rfl rfl)
theorem dX0_ask_66 : decode cX0_ask 66 = .ok (.if_icmp .ge 189, 3) := dk_162 0 189 (dk_at dksX0_ask_2 19 rfl rfl)
theorem dX0_ask_69 : decode cX0_ask 69 = .ok (.aload_n 0, 1) := dk_42 (dk_at dksX0_ask_2 22 rfl rfl)
theorem dX0_ask_70 : decode cX0_ask 70 = .ok (.getfield 59, 3) := dk_180 0 59 (dk_at dksX0_ask_3 0 rfl rfl)
theorem dX0_ask_73 : decode cX0_ask 73 = .ok (.getfield 199, 3) := dk_180 0 199 (dk_at dksX0_ask_3 3 rfl rfl)
theorem dX0_ask_76 : decode cX0_ask 76 = .ok (.iconst 3, 1) := dk_6 (dk_at dksX0_ask_3 6 rfl rfl)
theorem dX0_ask_77 : decode cX0_ask 77 = .ok (.aload_n 0, 1) := dk_42 (dk_at dksX0_ask_3 7 rfl rfl)
theorem dX0_ask_78 : decode cX0_ask 78 = .ok (.getfield 69, 3) := dk_180 0 69 (dk_at dksX0_ask_3 8 rfl rfl)
theorem dX0_ask_81 : decode cX0_ask 81 = .ok (.getfield 209, 3) := dk_180 0 209 (dk_at dksX0_ask_3 11 rfl rfl)
theorem dX0_ask_84 : decode cX0_ask 84 = .ok (.i2l, 1) := dk_133 (dk_at dksX0_ask_3 14 rfl rfl)
theorem dX0_ask_85 : decode cX0_ask 85 = .ok (.lastore, 1) := dk_80 (dk_at dksX0_ask_3 15 rfl rfl)
theorem dX0_ask_86 : decode cX0_ask 86 = .ok (.aload_n 0, 1) := dk_42 (dk_at dksX0_ask_3 16 rfl rfl)
theorem dX0_ask_87 : decode cX0_ask 87 = .ok (.getfield 59, 3) := dk_180 0 59 (dk_at dksX0_ask_3 17 rfl rfl)
theorem dX0_ask_90 : decode cX0_ask 90 = .ok (.getfield 199, 3) := dk_180 0 199 (dk_at dksX0_ask_3 20 rfl rfl)
theorem dX0_ask_93 : decode cX0_ask 93 = .ok (.bipush 10, 2) := dk_16 10 (dk_at dksX0_ask_4 0 rfl rfl)
theorem dX0_ask_95 : decode cX0_ask 95 = .ok (.iload_n 3, 1) := dk_29 (dk_at dksX0_ask_4 2 rfl rfl)
theorem dX0_ask_96 : decode cX0_ask 96 = .ok (.i2l, 1) := dk_133 (dk_at dksX0_ask_4 3 rfl rfl)
theorem dX0_ask_97 : decode cX0_ask 97 = .ok (.lastore, 1) := dk_80 (dk_at dksX0_ask_4 4 rfl rfl)
theorem dX0_ask_98 : decode cX0_ask 98 = .ok (.aload_n 0, 1) := dk_42 (dk_at dksX0_ask_4 5 rfl rfl)
theorem dX0_ask_99 : decode cX0_ask 99 = .ok (.getfield 59, 3) := dk_180 0 59 (dk_at dksX0_ask_4 6 rfl rfl)
theorem dX0_ask_102 : decode cX0_ask 102 = .ok (.getfield 199, 3) := dk_180 0 199 (dk_at dksX0_ask_4 9 rfl rfl)
theorem dX0_ask_105 : decode cX0_ask 105 = .ok (.bipush 11, 2) := dk_16 11 (dk_at dksX0_ask_4 12 rfl rfl)
theorem dX0_ask_107 : decode cX0_ask 107 = .ok (.aload_n 0, 1) := dk_42 (dk_at dksX0_ask_4 14 rfl rfl)
theorem dX0_ask_108 : decode cX0_ask 108 = .ok (.iload_n 3, 1) := dk_29 (dk_at dksX0_ask_4 15 rfl rfl)
theorem dX0_ask_109 : decode cX0_ask 109 = .ok (.invokevirtual 231, 3) := dk_182 0 231 (dk_at dksX0_ask_4 16 rfl rfl)
theorem dX0_ask_112 : decode cX0_ask 112 = .ok (.getfield 266, 3) := dk_180 1 10 (dk_at dksX0_ask_4 19 rfl rfl)
theorem dX0_ask_115 : decode cX0_ask 115 = .ok (.i2l, 1) := dk_133 (dk_at dksX0_ask_4 22 rfl rfl)
theorem dX0_ask_116 : decode cX0_ask 116 = .ok (.lastore, 1) := dk_80 (dk_at dksX0_ask_4 23 rfl rfl)
theorem dX0_ask_117 : decode cX0_ask 117 = .ok (.aload_n 0, 1) := dk_42 (dk_at dksX0_ask_5 0 rfl rfl)
theorem dX0_ask_118 : decode cX0_ask 118 = .ok (.getfield 59, 3) := dk_180 0 59 (dk_at dksX0_ask_5 1 rfl rfl)
theorem dX0_ask_121 : decode cX0_ask 121 = .ok (.getfield 199, 3) := dk_180 0 199 (dk_at dksX0_ask_5 4 rfl rfl)
theorem dX0_ask_124 : decode cX0_ask 124 = .ok (.bipush 12, 2) := dk_16 12 (dk_at dksX0_ask_5 7 rfl rfl)
theorem dX0_ask_126 : decode cX0_ask 126 = .ok (.aload_n 0, 1) := dk_42 (dk_at dksX0_ask_5 9 rfl rfl)
theorem dX0_ask_127 : decode cX0_ask 127 = .ok (.iload_n 3, 1) := dk_29 (dk_at dksX0_ask_5 10 rfl rfl)
theorem dX0_ask_128 : decode cX0_ask 128 = .ok (.invokevirtual 231, 3) := dk_182 0 231 (dk_at dksX0_ask_5 11 rfl rfl)
theorem dX0_ask_131 : decode cX0_ask 131 = .ok (.getfield 269, 3) := dk_180 1 13 (dk_at dksX0_ask_5 14 rfl rfl)
theorem dX0_ask_134 : decode cX0_ask 134 = .ok (.i2l, 1) := dk_133 (dk_at dksX0_ask_5 17 rfl rfl)
theorem dX0_ask_135 : decode cX0_ask 135 = .ok (.lastore, 1) := dk_80 (dk_at dksX0_ask_5 18 rfl rfl)
theorem dX0_ask_136 : decode cX0_ask 136 = .ok (.aload_n 0, 1) := dk_42 (dk_at dksX0_ask_5 19 rfl rfl)
theorem dX0_ask_137 : decode cX0_ask 137 = .ok (.getfield 59, 3) := dk_180 0 59 (dk_at dksX0_ask_5 20 rfl rfl)
theorem dX0_ask_140 : decode cX0_ask 140 = .ok (.getfield 199, 3) := dk_180 0 199 (dk_at dksX0_ask_6 0 rfl rfl)
theorem dX0_ask_143 : decode cX0_ask 143 = .ok (.bipush 13, 2) := dk_16 13 (dk_at dksX0_ask_6 3 rfl rfl)
theorem dX0_ask_145 : decode cX0_ask 145 = .ok (.aload_n 0, 1) := dk_42 (dk_at dksX0_ask_6 5 rfl rfl)
theorem dX0_ask_146 : decode cX0_ask 146 = .ok (.iload_n 3, 1) := dk_29 (dk_at dksX0_ask_6 6 rfl rfl)
theorem dX0_ask_147 : decode cX0_ask 147 = .ok (.invokevirtual 231, 3) := dk_182 0 231 (dk_at dksX0_ask_6 7 rfl rfl)
theorem dX0_ask_150 : decode cX0_ask 150 = .ok (.getfield 272, 3) := dk_180 1 16 (dk_at dksX0_ask_6 10 rfl rfl)
theorem dX0_ask_153 : decode cX0_ask 153 = .ok (.i2l, 1) := dk_133 (dk_at dksX0_ask_6 13 rfl rfl)
theorem dX0_ask_154 : decode cX0_ask 154 = .ok (.lastore, 1) := dk_80 (dk_at dksX0_ask_6 14 rfl rfl)
theorem dX0_ask_155 : decode cX0_ask 155 = .ok (.aload_n 0, 1) := dk_42 (dk_at dksX0_ask_6 15 rfl rfl)
theorem dX0_ask_156 : decode cX0_ask 156 = .ok (.getfield 59, 3) := dk_180 0 59 (dk_at dksX0_ask_6 16 rfl rfl)
theorem dX0_ask_159 : decode cX0_ask 159 = .ok (.getfield 199, 3) := dk_180 0 199 (dk_at dksX0_ask_6 19 rfl rfl)
theorem dX0_ask_162 : decode cX0_ask 162 = .ok (.bipush 14, 2) := dk_16 14 (dk_at dksX0_ask_6 22 rfl rfl)
theorem dX0_ask_164 : decode cX0_ask 164 = .ok (.aload_n 0, 1) := dk_42 (dk_at dksX0_ask_7 0 rfl rfl)
theorem dX0_ask_165 : decode cX0_ask 165 = .ok (.iload_n 3, 1) := dk_29 (dk_at dksX0_ask_7 1 rfl rfl)
theorem dX0_ask_166 : decode cX0_ask 166 = .ok (.invokevirtual 231, 3) := dk_182 0 231 (dk_at dksX0_ask_7 2 rfl rfl)
theorem dX0_ask_169 : decode cX0_ask 169 = .ok (.getfield 274, 3) := dk_180 1 18 (dk_at dksX0_ask_7 5 rfl rfl)
theorem dX0_ask_172 : decode cX0_ask 172 = .ok (.i2l, 1) := dk_133 (dk_at dksX0_ask_7 8 rfl rfl)
theorem dX0_ask_173 : decode cX0_ask 173 = .ok (.lastore, 1) := dk_80 (dk_at dksX0_ask_7 9 rfl rfl)
theorem dX0_ask_174 : decode cX0_ask 174 = .ok (.aload_n 0, 1) := dk_42 (dk_at dksX0_ask_7 10 rfl rfl)
theorem dX0_ask_175 : decode cX0_ask 175 = .ok (.getfield 59, 3) := dk_180 0 59 (dk_at dksX0_ask_7 11 rfl rfl)
theorem dX0_ask_178 : decode cX0_ask 178 = .ok (.getfield 199, 3) := dk_180 0 199 (dk_at dksX0_ask_7 14 rfl rfl)
theorem dX0_ask_181 : decode cX0_ask 181 = .ok (.bipush 15, 2) := dk_16 15 (dk_at dksX0_ask_7 17 rfl rfl)
theorem dX0_ask_183 : decode cX0_ask 183 = .ok (.aload_n 0, 1) := dk_42 (dk_at dksX0_ask_7 19 rfl rfl)
theorem dX0_ask_184 : decode cX0_ask 184 = .ok (.getfield 69, 3) := dk_180 0 69 (dk_at dksX0_ask_7 20 rfl rfl)
theorem dX0_ask_187 : decode cX0_ask 187 = .ok (.getfield 277, 3) := dk_180 1 21 (dk_at dksX0_ask_8 0 rfl rfl)
theorem dX0_ask_190 : decode cX0_ask 190 = .ok (.iload_n 3, 1) := dk_29 (dk_at dksX0_ask_8 3 rfl rfl)
theorem dX0_ask_191 : decode cX0_ask 191 = .ok (.iaload, 1) := dk_46 (dk_at dksX0_ask_8 4 rfl rfl)
theorem dX0_ask_192 : decode cX0_ask 192 = .ok (.i2l, 1) := dk_133 (dk_at dksX0_ask_8 5 rfl rfl)
theorem dX0_ask_193 : decode cX0_ask 193 = .ok (.lastore, 1) := dk_80 (dk_at dksX0_ask_8 6 rfl rfl)
theorem dX0_ask_194 : decode cX0_ask 194 = .ok (.aload_n 0, 1) := dk_42 (dk_at dksX0_ask_8 7 rfl rfl)
theorem dX0_ask_195 : decode cX0_ask 195 = .ok (.getfield 59, 3) := dk_180 0 59 (dk_at dksX0_ask_8 8 rfl rfl)
theorem dX0_ask_198 : decode cX0_ask 198 = .ok (.getfield 199, 3) := dk_180 0 199 (dk_at dksX0_ask_8 11 rfl rfl)
theorem dX0_ask_201 : decode cX0_ask 201 = .ok (.bipush 16, 2) := dk_16 16 (dk_at dksX0_ask_8 14 rfl rfl)
theorem dX0_ask_203 : decode cX0_ask 203 = .ok (.aload_n 0, 1) := dk_42 (dk_at dksX0_ask_8 16 rfl rfl)
theorem dX0_ask_204 : decode cX0_ask 204 = .ok (.getfield 69, 3) := dk_180 0 69 (dk_at dksX0_ask_8 17 rfl rfl)
theorem dX0_ask_207 : decode cX0_ask 207 = .ok (.getfield 218, 3) := dk_180 0 218 (dk_at dksX0_ask_8 20 rfl rfl)
theorem dX0_ask_210 : decode cX0_ask 210 = .ok (.iload_n 3, 1) := dk_29 (dk_at dksX0_ask_8 23 rfl rfl)
theorem dX0_ask_211 : decode cX0_ask 211 = .ok (.baload, 1) := dk_51 (dk_at dksX0_ask_9 0 rfl rfl)
theorem dX0_ask_212 : decode cX0_ask 212 = .ok (.ifCond .eq 7, 3) := dk_153 0 7 (dk_at dksX0_ask_9 1 rfl rfl)
theorem dX0_ask_215 : decode cX0_ask 215 = .ok (.lconst 1, 1) := dk_10 (dk_at dksX0_ask_9 4 rfl rfl)
theorem dX0_ask_216 : decode cX0_ask 216 = .ok (.goto 4, 3) := dk_167 0 4 (dk_at dksX0_ask_9 5 rfl rfl)
theorem dX0_ask_219 : decode cX0_ask 219 = .ok (.lconst 0, 1) := dk_9 (dk_at dksX0_ask_9 8 rfl rfl)
theorem dX0_ask_220 : decode cX0_ask 220 = .ok (.lastore, 1) := dk_80 (dk_at dksX0_ask_9 9 rfl rfl)
theorem dX0_ask_221 : decode cX0_ask 221 = .ok (.aload_n 0, 1) := dk_42 (dk_at dksX0_ask_9 10 rfl rfl)
theorem dX0_ask_222 : decode cX0_ask 222 = .ok (.getfield 59, 3) := dk_180 0 59 (dk_at dksX0_ask_9 11 rfl rfl)
theorem dX0_ask_225 : decode cX0_ask 225 = .ok (.getfield 199, 3) := dk_180 0 199 (dk_at dksX0_ask_9 14 rfl rfl)
theorem dX0_ask_228 : decode cX0_ask 228 = .ok (.bipush 17, 2) := dk_16 17 (dk_at dksX0_ask_9 17 rfl rfl)
theorem dX0_ask_230 : decode cX0_ask 230 = .ok (.aload_n 0, 1) := dk_42 (dk_at dksX0_ask_9 19 rfl rfl)
theorem dX0_ask_231 : decode cX0_ask 231 = .ok (.getfield 69, 3) := dk_180 0 69 (dk_at dksX0_ask_9 20 rfl rfl)
theorem dX0_ask_234 : decode cX0_ask 234 = .ok (.iload_n 3, 1) := dk_29 (dk_at dksX0_ask_9 23 rfl rfl)
theorem dX0_ask_235 : decode cX0_ask 235 = .ok (.invokevirtual 280, 3) := dk_182 1 24 (dk_at dksX0_ask_10 0 rfl rfl)
theorem dX0_ask_238 : decode cX0_ask 238 = .ok (.i2l, 1) := dk_133 (dk_at dksX0_ask_10 3 rfl rfl)
theorem dX0_ask_239 : decode cX0_ask 239 = .ok (.lastore, 1) := dk_80 (dk_at dksX0_ask_10 4 rfl rfl)
theorem dX0_ask_240 : decode cX0_ask 240 = .ok (.aload_n 2, 1) := dk_44 (dk_at dksX0_ask_10 5 rfl rfl)
theorem dX0_ask_241 : decode cX0_ask 241 = .ok (.iload_n 3, 1) := dk_29 (dk_at dksX0_ask_10 6 rfl rfl)
theorem dX0_ask_242 : decode cX0_ask 242 = .ok (.aload_n 0, 1) := dk_42 (dk_at dksX0_ask_10 7 rfl rfl)
theorem dX0_ask_243 : decode cX0_ask 243 = .ok (.getfield 59, 3) := dk_180 0 59 (dk_at dksX0_ask_10 8 rfl rfl)
theorem dX0_ask_246 : decode cX0_ask 246 = .ok (.invokevirtual 392, 3) := dk_182 1 136 (dk_at dksX0_ask_10 11 rfl rfl)
theorem dX0_ask_249 : decode cX0_ask 249 = .ok (.iinc 3 1, 3) := dk_132 3 1 (dk_at dksX0_ask_10 14 rfl rfl)
theorem dX0_ask_252 : decode cX0_ask 252 = .ok (.goto (-191), 3) := dk_167 255 65 (dk_at dksX0_ask_10 17 rfl rfl)
theorem dX0_ask_255 : decode cX0_ask 255 = .ok (.aload_n 2, 1) := dk_44 (dk_at dksX0_ask_10 20 rfl rfl)
theorem dX0_ask_256 : decode cX0_ask 256 = .ok (.invokevirtual 398, 3) := dk_182 1 142 (dk_at dksX0_ask_10 21 rfl rfl)
theorem dX0_ask_259 : decode cX0_ask 259 = .ok (.lreturn, 1) := dk_173 (dk_at dksX0_ask_11 0 rfl rfl)
abbrev cX0_image : ByteArray := prog_1_method_68_code
def yX0_image : MethodName := ⟨RX0, "image", "()I"⟩
def dkwX0_image_9 : List UInt8 := [182, 1, 149, 42, 180, 1, 146, 172]
abbrev dktX0_image_9 : List UInt8 := dkwX0_image_9 ++ []
def dkwX0_image_8 : List UInt8 := [5, 182, 1, 149, 132, 1, 1, 167, 255, 209, 42, 42, 180, 0, 112, 42, 180, 1, 146, 184, 1, 153, 4]
abbrev dktX0_image_8 : List UInt8 := dkwX0_image_8 ++ dktX0_image_9
def dkwX0_image_7 : List UInt8 := [27, 51, 153, 0, 7, 4, 167, 0, 4, 3, 4, 182, 1, 149, 42, 42, 180, 0, 69, 180, 1, 21, 27, 46]
abbrev dktX0_image_7 : List UInt8 := dkwX0_image_7 ++ dktX0_image_8
def dkwX0_image_6 : List UInt8 := [132, 1, 1, 167, 255, 181, 3, 60, 27, 42, 182, 0, 180, 162, 0, 45, 42, 42, 180, 0, 69, 180, 0, 218]
abbrev dktX0_image_6 : List UInt8 := dkwX0_image_6 ++ dktX0_image_7
def dkwX0_image_5 : List UInt8 := [180, 0, 31, 180, 0, 175, 108, 50, 27, 42, 180, 0, 31, 180, 0, 175, 112, 46, 4, 182, 1, 149]
abbrev dktX0_image_5 : List UInt8 := dkwX0_image_5 ++ dktX0_image_6
def dkwX0_image_4 : List UInt8 := [180, 0, 31, 180, 0, 175, 112, 46, 4, 182, 1, 149, 42, 42, 180, 0, 69, 180, 1, 1, 27, 42]
abbrev dktX0_image_4 : List UInt8 := dkwX0_image_4 ++ dktX0_image_5
def dkwX0_image_3 : List UInt8 := [162, 0, 73, 42, 42, 180, 0, 69, 180, 0, 222, 27, 42, 180, 0, 31, 180, 0, 175, 108, 50, 27, 42]
abbrev dktX0_image_3 : List UInt8 := dkwX0_image_3 ++ dktX0_image_4
def dkwX0_image_2 : List UInt8 := [180, 0, 238, 27, 46, 4, 182, 1, 149, 132, 1, 1, 167, 255, 231, 3, 60, 27, 42, 182, 1, 47]
abbrev dktX0_image_2 : List UInt8 := dkwX0_image_2 ++ dktX0_image_3
def dkwX0_image_1 : List UInt8 := [180, 0, 212, 6, 182, 1, 149, 3, 60, 27, 42, 182, 0, 169, 162, 0, 23, 42, 42, 180, 0, 69]
abbrev dktX0_image_1 : List UInt8 := dkwX0_image_1 ++ dktX0_image_2
def dkwX0_image_0 : List UInt8 := [42, 3, 181, 1, 146, 42, 42, 180, 0, 69, 180, 0, 209, 5, 182, 1, 149, 42, 42, 180, 0, 69]
abbrev dktX0_image_0 : List UInt8 := dkwX0_image_0 ++ dktX0_image_1
theorem dksX0_image_0 : cX0_image.data.toList.drop 0 = dktX0_image_0 := by decide +kernel
theorem dksX0_image_1 : cX0_image.data.toList.drop 22 = dktX0_image_1 := dk_seg dksX0_image_0 22 rfl rfl
theorem dksX0_image_2 : cX0_image.data.toList.drop 44 = dktX0_image_2 := dk_seg dksX0_image_1 22 rfl rfl
theorem dksX0_image_3 : cX0_image.data.toList.drop 66 = dktX0_image_3 := dk_seg dksX0_image_2 22 rfl rfl
theorem dksX0_image_4 : cX0_image.data.toList.drop 89 = dktX0_image_4 := dk_seg dksX0_image_3 23 rfl rfl
theorem dksX0_image_5 : cX0_image.data.toList.drop 111 = dktX0_image_5 := dk_seg dksX0_image_4 22 rfl rfl
theorem dksX0_image_6 : cX0_image.data.toList.drop 133 = dktX0_image_6 := dk_seg dksX0_image_5 22 rfl rfl
theorem dksX0_image_7 : cX0_image.data.toList.drop 157 = dktX0_image_7 := dk_seg dksX0_image_6 24 rfl rfl
theorem dksX0_image_8 : cX0_image.data.toList.drop 181 = dktX0_image_8 := dk_seg dksX0_image_7 24 rfl rfl
theorem dksX0_image_9 : cX0_image.data.toList.drop 204 = dktX0_image_9 := dk_seg dksX0_image_8 23 rfl rfl
theorem dX0_image_0 : decode cX0_image 0 = .ok (.aload_n 0, 1) := dk_42 (dk_at dksX0_image_0 0 rfl rfl)
theorem dX0_image_1 : decode cX0_image 1 = .ok (.iconst 0, 1) := dk_3 (dk_at dksX0_image_0 1 rfl rfl)
theorem dX0_image_2 : decode cX0_image 2 = .ok (.putfield 402, 3) := dk_181 1 146 (dk_at dksX0_image_0 2 rfl rfl)
theorem dX0_image_5 : decode cX0_image 5 = .ok (.aload_n 0, 1) := dk_42 (dk_at dksX0_image_0 5 rfl rfl)
theorem dX0_image_6 : decode cX0_image 6 = .ok (.aload_n 0, 1) := dk_42 (dk_at dksX0_image_0 6 rfl rfl)
theorem dX0_image_7 : decode cX0_image 7 = .ok (.getfield 69, 3) := dk_180 0 69 (dk_at dksX0_image_0 7 rfl rfl)
theorem dX0_image_10 : decode cX0_image 10 = .ok (.getfield 209, 3) := dk_180 0 209 (dk_at dksX0_image_0 10 rfl rfl)
theorem dX0_image_13 : decode cX0_image 13 = .ok (.iconst 2, 1) := dk_5 (dk_at dksX0_image_0 13 rfl rfl)
theorem dX0_image_14 : decode cX0_image 14 = .ok (.invokevirtual 405, 3) := dk_182 1 149 (dk_at dksX0_image_0 14 rfl rfl)
theorem dX0_image_17 : decode cX0_image 17 = .ok (.aload_n 0, 1) := dk_42 (dk_at dksX0_image_0 17 rfl rfl)
theorem dX0_image_18 : decode cX0_image 18 = .ok (.aload_n 0, 1) := dk_42 (dk_at dksX0_image_0 18 rfl rfl)
theorem dX0_image_19 : decode cX0_image 19 = .ok (.getfield 69, 3) := dk_180 0 69 (dk_at dksX0_image_0 19 rfl rfl)
theorem dX0_image_22 : decode cX0_image 22 = .ok (.getfield 212, 3) := dk_180 0 212 (dk_at dksX0_image_1 0 rfl rfl)
theorem dX0_image_25 : decode cX0_image 25 = .ok (.iconst 3, 1) := dk_6 (dk_at dksX0_image_1 3 rfl rfl)
theorem dX0_image_26 : decode cX0_image 26 = .ok (.invokevirtual 405, 3) := dk_182 1 149 (dk_at dksX0_image_1 4 rfl rfl)
theorem dX0_image_29 : decode cX0_image 29 = .ok (.iconst 0, 1) := dk_3 (dk_at dksX0_image_1 7 rfl rfl)
theorem dX0_image_30 : decode cX0_image 30 = .ok (.istore_n 1, 1) := dk_60 (dk_at dksX0_image_1 8 rfl rfl)
theorem dX0_image_31 : decode cX0_image 31 = .ok (.iload_n 1, 1) := dk_27 (dk_at dksX0_image_1 9 rfl rfl)
theorem dX0_image_32 : decode cX0_image 32 = .ok (.aload_n 0, 1) := dk_42 (dk_at dksX0_image_1 10 rfl rfl)
theorem dX0_image_33 : decode cX0_image 33 = .ok (.invokevirtual 169, 3) := dk_182 0 169 (dk_at dksX0_image_1 11 rfl rfl)
theorem dX0_image_36 : decode cX0_image 36 = .ok (.if_icmp .ge 23, 3) := dk_162 0 23 (dk_at dksX0_image_1 14 rfl rfl)
theorem dX0_image_39 : decode cX0_image 39 = .ok (.aload_n 0, 1) := dk_42 (dk_at dksX0_image_1 17 rfl rfl)
theorem dX0_image_40 : decode cX0_image 40 = .ok (.aload_n 0, 1) := dk_42 (dk_at dksX0_image_1 18 rfl rfl)
theorem dX0_image_41 : decode cX0_image 41 = .ok (.getfield 69, 3) := dk_180 0 69 (dk_at dksX0_image_1 19 rfl rfl)
theorem dX0_image_44 : decode cX0_image 44 = .ok (.getfield 238, 3) := dk_180 0 238 (dk_at dksX0_image_2 0 rfl rfl)
theorem dX0_image_47 : decode cX0_image 47 = .ok (.iload_n 1, 1) := dk_27 (dk_at dksX0_image_2 3 rfl rfl)
theorem dX0_image_48 : decode cX0_image 48 = .ok (.iaload, 1) := dk_46 (dk_at dksX0_image_2 4 rfl rfl)
theorem dX0_image_49 : decode cX0_image 49 = .ok (.iconst 1, 1) := dk_4 (dk_at dksX0_image_2 5 rfl rfl)
theorem dX0_image_50 : decode cX0_image 50 = .ok (.invokevirtual 405, 3) := dk_182 1 149 (dk_at dksX0_image_2 6 rfl rfl)
theorem dX0_image_53 : decode cX0_image 53 = .ok (.iinc 1 1, 3) := dk_132 1 1 (dk_at dksX0_image_2 9 rfl rfl)
theorem dX0_image_56 : decode cX0_image 56 = .ok (.goto (-25), 3) := dk_167 255 231 (dk_at dksX0_image_2 12 rfl rfl)
theorem dX0_image_59 : decode cX0_image 59 = .ok (.iconst 0, 1) := dk_3 (dk_at dksX0_image_2 15 rfl rfl)
theorem dX0_image_60 : decode cX0_image 60 = .ok (.istore_n 1, 1) := dk_60 (dk_at dksX0_image_2 16 rfl rfl)
theorem dX0_image_61 : decode cX0_image 61 = .ok (.iload_n 1, 1) := dk_27 (dk_at dksX0_image_2 17 rfl rfl)
theorem dX0_image_62 : decode cX0_image 62 = .ok (.aload_n 0, 1) := dk_42 (dk_at dksX0_image_2 18 rfl rfl)
theorem dX0_image_63 : decode cX0_image 63 = .ok (.invokevirtual 303, 3) := dk_182 1 47 (dk_at dksX0_image_2 19 rfl rfl)
theorem dX0_image_66 : decode cX0_image 66 = .ok (.if_icmp .ge 73, 3) := dk_162 0 73 (dk_at dksX0_image_3 0 rfl rfl)
theorem dX0_image_69 : decode cX0_image 69 = .ok (.aload_n 0, 1) := dk_42 (dk_at dksX0_image_3 3 rfl rfl)
theorem dX0_image_70 : decode cX0_image 70 = .ok (.aload_n 0, 1) := dk_42 (dk_at dksX0_image_3 4 rfl rfl)
theorem dX0_image_71 : decode cX0_image 71 = .ok (.getfield 69, 3) := dk_180 0 69 (dk_at dksX0_image_3 5 rfl rfl)
theorem dX0_image_74 : decode cX0_image 74 = .ok (.getfield 222, 3) := dk_180 0 222 (dk_at dksX0_image_3 8 rfl rfl)
theorem dX0_image_77 : decode cX0_image 77 = .ok (.iload_n 1, 1) := dk_27 (dk_at dksX0_image_3 11 rfl rfl)
theorem dX0_image_78 : decode cX0_image 78 = .ok (.aload_n 0, 1) := dk_42 (dk_at dksX0_image_3 12 rfl rfl)
theorem dX0_image_79 : decode cX0_image 79 = .ok (.getfield 31, 3) := dk_180 0 31 (dk_at dksX0_image_3 13 rfl rfl)
theorem dX0_image_82 : decode cX0_image 82 = .ok (.getfield 175, 3) := dk_180 0 175 (dk_at dksX0_image_3 16 rfl rfl)
theorem dX0_image_85 : decode cX0_image 85 = .ok (.idiv, 1) := dk_108 (dk_at dksX0_image_3 19 rfl rfl)
theorem dX0_image_86 : decode cX0_image 86 = .ok (.aaload, 1) := dk_50 (dk_at dksX0_image_3 20 rfl rfl)
theorem dX0_image_87 : decode cX0_image 87 = .ok (.iload_n 1, 1) := dk_27 (dk_at dksX0_image_3 21 rfl rfl)
theorem dX0_image_88 : decode cX0_image 88 = .ok (.aload_n 0, 1) := dk_42 (dk_at dksX0_image_3 22 rfl rfl)
theorem dX0_image_89 : decode cX0_image 89 = .ok (.getfield 31, 3) := dk_180 0 31 (dk_at dksX0_image_4 0 rfl rfl)
theorem dX0_image_92 : decode cX0_image 92 = .ok (.getfield 175, 3) := dk_180 0 175 (dk_at dksX0_image_4 3 rfl rfl)
theorem dX0_image_95 : decode cX0_image 95 = .ok (.irem, 1) := dk_112 (dk_at dksX0_image_4 6 rfl rfl)
theorem dX0_image_96 : decode cX0_image 96 = .ok (.iaload, 1) := dk_46 (dk_at dksX0_image_4 7 rfl rfl)
theorem dX0_image_97 : decode cX0_image 97 = .ok (.iconst 1, 1) := dk_4 (dk_at dksX0_image_4 8 rfl rfl)
theorem dX0_image_98 : decode cX0_image 98 = .ok (.invokevirtual 405, 3) := dk_182 1 149 (dk_at dksX0_image_4 9 rfl rfl)
theorem dX0_image_101 : decode cX0_image 101 = .ok (.aload_n 0, 1) := dk_42 (dk_at dksX0_image_4 12 rfl rfl)
theorem dX0_image_102 : decode cX0_image 102 = .ok (.aload_n 0, 1) := dk_42 (dk_at dksX0_image_4 13 rfl rfl)
theorem dX0_image_103 : decode cX0_image 103 = .ok (.getfield 69, 3) := dk_180 0 69 (dk_at dksX0_image_4 14 rfl rfl)
theorem dX0_image_106 : decode cX0_image 106 = .ok (.getfield 257, 3) := dk_180 1 1 (dk_at dksX0_image_4 17 rfl rfl)
theorem dX0_image_109 : decode cX0_image 109 = .ok (.iload_n 1, 1) := dk_27 (dk_at dksX0_image_4 20 rfl rfl)
theorem dX0_image_110 : decode cX0_image 110 = .ok (.aload_n 0, 1) := dk_42 (dk_at dksX0_image_4 21 rfl rfl)
theorem dX0_image_111 : decode cX0_image 111 = .ok (.getfield 31, 3) := dk_180 0 31 (dk_at dksX0_image_5 0 rfl rfl)
theorem dX0_image_114 : decode cX0_image 114 = .ok (.getfield 175, 3) := dk_180 0 175 (dk_at dksX0_image_5 3 rfl rfl)
theorem dX0_image_117 : decode cX0_image 117 = .ok (.idiv, 1) := dk_108 (dk_at dksX0_image_5 6 rfl rfl)
theorem dX0_image_118 : decode cX0_image 118 = .ok (.aaload, 1) := dk_50 (dk_at dksX0_image_5 7 rfl rfl)
theorem dX0_image_119 : decode cX0_image 119 = .ok (.iload_n 1, 1) := dk_27 (dk_at dksX0_image_5 8 rfl rfl)
theorem dX0_image_120 : decode cX0_image 120 = .ok (.aload_n 0, 1) := dk_42 (dk_at dksX0_image_5 9 rfl rfl)
theorem dX0_image_121 : decode cX0_image 121 = .ok (.getfield 31, 3) := dk_180 0 31 (dk_at dksX0_image_5 10 rfl rfl)
theorem dX0_image_124 : decode cX0_image 124 = .ok (.getfield 175, 3) := dk_180 0 175 (dk_at dksX0_image_5 13 rfl rfl)
theorem dX0_image_127 : decode cX0_image 127 = .ok (.irem, 1) := dk_112 (dk_at dksX0_image_5 16 rfl rfl)
theorem dX0_image_128 : decode cX0_image 128 = .ok (.iaload, 1) := dk_46 (dk_at dksX0_image_5 17 rfl rfl)
theorem dX0_image_129 : decode cX0_image 129 = .ok (.iconst 1, 1) := dk_4 (dk_at dksX0_image_5 18 rfl rfl)
theorem dX0_image_130 : decode cX0_image 130 = .ok (.invokevirtual 405, 3) := dk_182 1 149 (dk_at dksX0_image_5 19 rfl rfl)
theorem dX0_image_133 : decode cX0_image 133 = .ok (.iinc 1 1, 3) := dk_132 1 1 (dk_at dksX0_image_6 0 rfl rfl)
theorem dX0_image_136 : decode cX0_image 136 = .ok (.goto (-75), 3) := dk_167 255 181 (dk_at dksX0_image_6 3 rfl rfl)
theorem dX0_image_139 : decode cX0_image 139 = .ok (.iconst 0, 1) := dk_3 (dk_at dksX0_image_6 6 rfl rfl)
theorem dX0_image_140 : decode cX0_image 140 = .ok (.istore_n 1, 1) := dk_60 (dk_at dksX0_image_6 7 rfl rfl)
theorem dX0_image_141 : decode cX0_image 141 = .ok (.iload_n 1, 1) := dk_27 (dk_at dksX0_image_6 8 rfl rfl)
theorem dX0_image_142 : decode cX0_image 142 = .ok (.aload_n 0, 1) := dk_42 (dk_at dksX0_image_6 9 rfl rfl)
theorem dX0_image_143 : decode cX0_image 143 = .ok (.invokevirtual 180, 3) := dk_182 0 180 (dk_at dksX0_image_6 10 rfl rfl)
theorem dX0_image_146 : decode cX0_image 146 = .ok (.if_icmp .ge 45, 3) := dk_162 0 45 (dk_at dksX0_image_6 13 rfl rfl)
theorem dX0_image_149 : decode cX0_image 149 = .ok (.aload_n 0, 1) := dk_42 (dk_at dksX0_image_6 16 rfl rfl)
theorem dX0_image_150 : decode cX0_image 150 = .ok (.aload_n 0, 1) := dk_42 (dk_at dksX0_image_6 17 rfl rfl)
theorem dX0_image_151 : decode cX0_image 151 = .ok (.getfield 69, 3) := dk_180 0 69 (dk_at dksX0_image_6 18 rfl rfl)
theorem dX0_image_154 : decode cX0_image 154 = .ok (.getfield 218, 3) := dk_180 0 218 (dk_at dksX0_image_6 21 rfl rfl)
theorem dX0_image_157 : decode cX0_image 157 = .ok (.iload_n 1, 1) := dk_27 (dk_at dksX0_image_7 0 rfl rfl)
theorem dX0_image_158 : decode cX0_image 158 = .ok (.baload, 1) := dk_51 (dk_at dksX0_image_7 1 rfl rfl)
theorem dX0_image_159 : decode cX0_image 159 = .ok (.ifCond .eq 7, 3) := dk_153 0 7 (dk_at dksX0_image_7 2 rfl rfl)
theorem dX0_image_162 : decode cX0_image 162 = .ok (.iconst 1, 1) := dk_4 (dk_at dksX0_image_7 5 rfl rfl)
theorem dX0_image_163 : decode cX0_image 163 = .ok (.goto 4, 3) := dk_167 0 4 (dk_at dksX0_image_7 6 rfl rfl)
theorem dX0_image_166 : decode cX0_image 166 = .ok (.iconst 0, 1) := dk_3 (dk_at dksX0_image_7 9 rfl rfl)
theorem dX0_image_167 : decode cX0_image 167 = .ok (.iconst 1, 1) := dk_4 (dk_at dksX0_image_7 10 rfl rfl)
theorem dX0_image_168 : decode cX0_image 168 = .ok (.invokevirtual 405, 3) := dk_182 1 149 (dk_at dksX0_image_7 11 rfl rfl)
theorem dX0_image_171 : decode cX0_image 171 = .ok (.aload_n 0, 1) := dk_42 (dk_at dksX0_image_7 14 rfl rfl)
theorem dX0_image_172 : decode cX0_image 172 = .ok (.aload_n 0, 1) := dk_42 (dk_at dksX0_image_7 15 rfl rfl)
theorem dX0_image_173 : decode cX0_image 173 = .ok (.getfield 69, 3) := dk_180 0 69 (dk_at dksX0_image_7 16 rfl rfl)
theorem dX0_image_176 : decode cX0_image 176 = .ok (.getfield 277, 3) := dk_180 1 21 (dk_at dksX0_image_7 19 rfl rfl)
theorem dX0_image_179 : decode cX0_image 179 = .ok (.iload_n 1, 1) := dk_27 (dk_at dksX0_image_7 22 rfl rfl)
theorem dX0_image_180 : decode cX0_image 180 = .ok (.iaload, 1) := dk_46 (dk_at dksX0_image_7 23 rfl rfl)
theorem dX0_image_181 : decode cX0_image 181 = .ok (.iconst 2, 1) := dk_5 (dk_at dksX0_image_8 0 rfl rfl)
theorem dX0_image_182 : decode cX0_image 182 = .ok (.invokevirtual 405, 3) := dk_182 1 149 (dk_at dksX0_image_8 1 rfl rfl)
theorem dX0_image_185 : decode cX0_image 185 = .ok (.iinc 1 1, 3) := dk_132 1 1 (dk_at dksX0_image_8 4 rfl rfl)
theorem dX0_image_188 : decode cX0_image 188 = .ok (.goto (-47), 3) := dk_167 255 209 (dk_at dksX0_image_8 7 rfl rfl)
theorem dX0_image_191 : decode cX0_image 191 = .ok (.aload_n 0, 1) := dk_42 (dk_at dksX0_image_8 10 rfl rfl)
theorem dX0_image_192 : decode cX0_image 192 = .ok (.aload_n 0, 1) := dk_42 (dk_at dksX0_image_8 11 rfl rfl)
theorem dX0_image_193 : decode cX0_image 193 = .ok (.getfield 112, 3) := dk_180 0 112 (dk_at dksX0_image_8 12 rfl rfl)
theorem dX0_image_196 : decode cX0_image 196 = .ok (.aload_n 0, 1) := dk_42 (dk_at dksX0_image_8 15 rfl rfl)
theorem dX0_image_197 : decode cX0_image 197 = .ok (.getfield 402, 3) := dk_180 1 146 (dk_at dksX0_image_8 16 rfl rfl)
theorem dX0_image_200 : decode cX0_image 200 = .ok (.invokestatic 409, 3) := dk_184 1 153 (dk_at dksX0_image_8 19 rfl rfl)
theorem dX0_image_203 : decode cX0_image 203 = .ok (.iconst 1, 1) := dk_4 (dk_at dksX0_image_8 22 rfl rfl)
theorem dX0_image_204 : decode cX0_image 204 = .ok (.invokevirtual 405, 3) := dk_182 1 149 (dk_at dksX0_image_9 0 rfl rfl)
theorem dX0_image_207 : decode cX0_image 207 = .ok (.aload_n 0, 1) := dk_42 (dk_at dksX0_image_9 3 rfl rfl)
theorem dX0_image_208 : decode cX0_image 208 = .ok (.getfield 402, 3) := dk_180 1 146 (dk_at dksX0_image_9 4 rfl rfl)
theorem dX0_image_211 : decode cX0_image 211 = .ok (.ireturn, 1) := dk_172 (dk_at dksX0_image_9 7 rfl rfl)
abbrev cX0_writes : ByteArray := prog_1_method_66_code
def yX0_writes : MethodName := ⟨RX0, "writes", "(II)V"⟩
def dkwX0_writes_1 : List UInt8 := [16, 8, 29, 104, 122, 145, 84, 132, 3, 255, 167, 255, 226, 177]
abbrev dktX0_writes_1 : List UInt8 := dkwX0_writes_1 ++ []
def dkwX0_writes_0 : List UInt8 := [28, 4, 100, 62, 29, 155, 0, 32, 42, 180, 0, 112, 42, 89, 180, 1, 146, 90, 4, 96, 181, 1, 146, 27]
abbrev dktX0_writes_0 : List UInt8 := dkwX0_writes_0 ++ dktX0_writes_1
theorem dksX0_writes_0 : cX0_writes.data.toList.drop 0 = dktX0_writes_0 := by decide +kernel
theorem dksX0_writes_1 : cX0_writes.data.toList.drop 24 = dktX0_writes_1 := dk_seg dksX0_writes_0 24 rfl rfl
theorem dX0_writes_0 : decode cX0_writes 0 = .ok (.iload_n 2, 1) := dk_28 (dk_at dksX0_writes_0 0 rfl rfl)
theorem dX0_writes_1 : decode cX0_writes 1 = .ok (.iconst 1, 1) := dk_4 (dk_at dksX0_writes_0 1 rfl rfl)
theorem dX0_writes_2 : decode cX0_writes 2 = .ok (.isub, 1) := dk_100 (dk_at dksX0_writes_0 2 rfl rfl)
theorem dX0_writes_3 : decode cX0_writes 3 = .ok (.istore_n 3, 1) := dk_62 (dk_at dksX0_writes_0 3 rfl rfl)
theorem dX0_writes_4 : decode cX0_writes 4 = .ok (.iload_n 3, 1) := dk_29 (dk_at dksX0_writes_0 4 rfl rfl)
theorem dX0_writes_5 : decode cX0_writes 5 = .ok (.ifCond .lt 32, 3) := dk_155 0 32 (dk_at dksX0_writes_0 5 rfl rfl)
theorem dX0_writes_8 : decode cX0_writes 8 = .ok (.aload_n 0, 1) := dk_42 (dk_at dksX0_writes_0 8 rfl rfl)
theorem dX0_writes_9 : decode cX0_writes 9 = .ok (.getfield 112, 3) := dk_180 0 112 (dk_at dksX0_writes_0 9 rfl rfl)
theorem dX0_writes_12 : decode cX0_writes 12 = .ok (.aload_n 0, 1) := dk_42 (dk_at dksX0_writes_0 12 rfl rfl)
theorem dX0_writes_13 : decode cX0_writes 13 = .ok (.dup, 1) := dk_89 (dk_at dksX0_writes_0 13 rfl rfl)
theorem dX0_writes_14 : decode cX0_writes 14 = .ok (.getfield 402, 3) := dk_180 1 146 (dk_at dksX0_writes_0 14 rfl rfl)
theorem dX0_writes_17 : decode cX0_writes 17 = .ok (.dup_x1, 1) := dk_90 (dk_at dksX0_writes_0 17 rfl rfl)
theorem dX0_writes_18 : decode cX0_writes 18 = .ok (.iconst 1, 1) := dk_4 (dk_at dksX0_writes_0 18 rfl rfl)
theorem dX0_writes_19 : decode cX0_writes 19 = .ok (.iadd, 1) := dk_96 (dk_at dksX0_writes_0 19 rfl rfl)
theorem dX0_writes_20 : decode cX0_writes 20 = .ok (.putfield 402, 3) := dk_181 1 146 (dk_at dksX0_writes_0 20 rfl rfl)
theorem dX0_writes_23 : decode cX0_writes 23 = .ok (.iload_n 1, 1) := dk_27 (dk_at dksX0_writes_0 23 rfl rfl)
theorem dX0_writes_24 : decode cX0_writes 24 = .ok (.bipush 8, 2) := dk_16 8 (dk_at dksX0_writes_1 0 rfl rfl)
theorem dX0_writes_26 : decode cX0_writes 26 = .ok (.iload_n 3, 1) := dk_29 (dk_at dksX0_writes_1 2 rfl rfl)
theorem dX0_writes_27 : decode cX0_writes 27 = .ok (.imul, 1) := dk_104 (dk_at dksX0_writes_1 3 rfl rfl)
theorem dX0_writes_28 : decode cX0_writes 28 = .ok (.ishr, 1) := dk_122 (dk_at dksX0_writes_1 4 rfl rfl)
theorem dX0_writes_29 : decode cX0_writes 29 = .ok (.i2b, 1) := dk_145 (dk_at dksX0_writes_1 5 rfl rfl)
theorem dX0_writes_30 : decode cX0_writes 30 = .ok (.bastore, 1) := dk_84 (dk_at dksX0_writes_1 6 rfl rfl)
theorem dX0_writes_31 : decode cX0_writes 31 = .ok (.iinc 3 (-1), 3) := dk_132 3 255 (dk_at dksX0_writes_1 7 rfl rfl)
theorem dX0_writes_34 : decode cX0_writes 34 = .ok (.goto (-30), 3) := dk_167 255 226 (dk_at dksX0_writes_1 10 rfl rfl)
theorem dX0_writes_37 : decode cX0_writes 37 = .ok (.return_, 1) := dk_177 (dk_at dksX0_writes_1 13 rfl rfl)
abbrev cX0_check : ByteArray := prog_1_method_67_code
def yX0_check : MethodName := ⟨RX0, "check", "([BI)I"⟩
def dkwX0_check_1 : List UInt8 := [17, 0, 251, 112, 61, 132, 3, 1, 167, 255, 232, 28, 172]
abbrev dktX0_check_1 : List UInt8 := dkwX0_check_1 ++ []
def dkwX0_check_0 : List UInt8 := [17, 0, 179, 61, 3, 62, 29, 27, 162, 0, 25, 6, 28, 104, 42, 29, 51, 17, 0, 255, 126, 96]
abbrev dktX0_check_0 : List UInt8 := dkwX0_check_0 ++ dktX0_check_1
theorem dksX0_check_0 : cX0_check.data.toList.drop 0 = dktX0_check_0 := by decide +kernel
theorem dksX0_check_1 : cX0_check.data.toList.drop 22 = dktX0_check_1 := dk_seg dksX0_check_0 22 rfl rfl
theorem dX0_check_0 : decode cX0_check 0 = .ok (.sipush 179, 3) := dk_17 0 179 (dk_at dksX0_check_0 0 rfl rfl)
theorem dX0_check_3 : decode cX0_check 3 = .ok (.istore_n 2, 1) := dk_61 (dk_at dksX0_check_0 3 rfl rfl)
theorem dX0_check_4 : decode cX0_check 4 = .ok (.iconst 0, 1) := dk_3 (dk_at dksX0_check_0 4 rfl rfl)
theorem dX0_check_5 : decode cX0_check 5 = .ok (.istore_n 3, 1) := dk_62 (dk_at dksX0_check_0 5 rfl rfl)
theorem dX0_check_6 : decode cX0_check 6 = .ok (.iload_n 3, 1) := dk_29 (dk_at dksX0_check_0 6 rfl rfl)
theorem dX0_check_7 : decode cX0_check 7 = .ok (.iload_n 1, 1) := dk_27 (dk_at dksX0_check_0 7 rfl rfl)
theorem dX0_check_8 : decode cX0_check 8 = .ok (.if_icmp .ge 25, 3) := dk_162 0 25 (dk_at dksX0_check_0 8 rfl rfl)
theorem dX0_check_11 : decode cX0_check 11 = .ok (.iconst 3, 1) := dk_6 (dk_at dksX0_check_0 11 rfl rfl)
theorem dX0_check_12 : decode cX0_check 12 = .ok (.iload_n 2, 1) := dk_28 (dk_at dksX0_check_0 12 rfl rfl)
theorem dX0_check_13 : decode cX0_check 13 = .ok (.imul, 1) := dk_104 (dk_at dksX0_check_0 13 rfl rfl)
theorem dX0_check_14 : decode cX0_check 14 = .ok (.aload_n 0, 1) := dk_42 (dk_at dksX0_check_0 14 rfl rfl)
theorem dX0_check_15 : decode cX0_check 15 = .ok (.iload_n 3, 1) := dk_29 (dk_at dksX0_check_0 15 rfl rfl)
theorem dX0_check_16 : decode cX0_check 16 = .ok (.baload, 1) := dk_51 (dk_at dksX0_check_0 16 rfl rfl)
theorem dX0_check_17 : decode cX0_check 17 = .ok (.sipush 255, 3) := dk_17 0 255 (dk_at dksX0_check_0 17 rfl rfl)
theorem dX0_check_20 : decode cX0_check 20 = .ok (.iand, 1) := dk_126 (dk_at dksX0_check_0 20 rfl rfl)
theorem dX0_check_21 : decode cX0_check 21 = .ok (.iadd, 1) := dk_96 (dk_at dksX0_check_0 21 rfl rfl)
theorem dX0_check_22 : decode cX0_check 22 = .ok (.sipush 251, 3) := dk_17 0 251 (dk_at dksX0_check_1 0 rfl rfl)
theorem dX0_check_25 : decode cX0_check 25 = .ok (.irem, 1) := dk_112 (dk_at dksX0_check_1 3 rfl rfl)
theorem dX0_check_26 : decode cX0_check 26 = .ok (.istore_n 2, 1) := dk_61 (dk_at dksX0_check_1 4 rfl rfl)
theorem dX0_check_27 : decode cX0_check 27 = .ok (.iinc 3 1, 3) := dk_132 3 1 (dk_at dksX0_check_1 5 rfl rfl)
theorem dX0_check_30 : decode cX0_check 30 = .ok (.goto (-24), 3) := dk_167 255 232 (dk_at dksX0_check_1 8 rfl rfl)
theorem dX0_check_33 : decode cX0_check 33 = .ok (.iload_n 2, 1) := dk_28 (dk_at dksX0_check_1 11 rfl rfl)
theorem dX0_check_34 : decode cX0_check 34 = .ok (.ireturn, 1) := dk_172 (dk_at dksX0_check_1 12 rfl rfl)
abbrev cX0_octet : ByteArray := prog_1_method_69_code
def yX0_octet : MethodName := ⟨RX0, "octet", "(I)I"⟩
def dkwX0_octet_1 : List UInt8 := [17, 0, 255, 126, 172]
abbrev dktX0_octet_1 : List UInt8 := dkwX0_octet_1 ++ []
def dkwX0_octet_0 : List UInt8 := [27, 155, 0, 11, 27, 42, 180, 1, 146, 161, 0, 7, 2, 167, 0, 13, 42, 180, 0, 112, 27, 51]
abbrev dktX0_octet_0 : List UInt8 := dkwX0_octet_0 ++ dktX0_octet_1
theorem dksX0_octet_0 : cX0_octet.data.toList.drop 0 = dktX0_octet_0 := by decide +kernel
theorem dksX0_octet_1 : cX0_octet.data.toList.drop 22 = dktX0_octet_1 := dk_seg dksX0_octet_0 22 rfl rfl
theorem dX0_octet_0 : decode cX0_octet 0 = .ok (.iload_n 1, 1) := dk_27 (dk_at dksX0_octet_0 0 rfl rfl)
theorem dX0_octet_1 : decode cX0_octet 1 = .ok (.ifCond .lt 11, 3) := dk_155 0 11 (dk_at dksX0_octet_0 1 rfl rfl)
theorem dX0_octet_4 : decode cX0_octet 4 = .ok (.iload_n 1, 1) := dk_27 (dk_at dksX0_octet_0 4 rfl rfl)
theorem dX0_octet_5 : decode cX0_octet 5 = .ok (.aload_n 0, 1) := dk_42 (dk_at dksX0_octet_0 5 rfl rfl)
theorem dX0_octet_6 : decode cX0_octet 6 = .ok (.getfield 402, 3) := dk_180 1 146 (dk_at dksX0_octet_0 6 rfl rfl)
theorem dX0_octet_9 : decode cX0_octet 9 = .ok (.if_icmp .lt 7, 3) := dk_161 0 7 (dk_at dksX0_octet_0 9 rfl rfl)
theorem dX0_octet_12 : decode cX0_octet 12 = .ok (.iconst (-1), 1) := dk_2 (dk_at dksX0_octet_0 12 rfl rfl)
theorem dX0_octet_13 : decode cX0_octet 13 = .ok (.goto 13, 3) := dk_167 0 13 (dk_at dksX0_octet_0 13 rfl rfl)
theorem dX0_octet_16 : decode cX0_octet 16 = .ok (.aload_n 0, 1) := dk_42 (dk_at dksX0_octet_0 16 rfl rfl)
theorem dX0_octet_17 : decode cX0_octet 17 = .ok (.getfield 112, 3) := dk_180 0 112 (dk_at dksX0_octet_0 17 rfl rfl)
theorem dX0_octet_20 : decode cX0_octet 20 = .ok (.iload_n 1, 1) := dk_27 (dk_at dksX0_octet_0 20 rfl rfl)
theorem dX0_octet_21 : decode cX0_octet 21 = .ok (.baload, 1) := dk_51 (dk_at dksX0_octet_0 21 rfl rfl)
theorem dX0_octet_22 : decode cX0_octet 22 = .ok (.sipush 255, 3) := dk_17 0 255 (dk_at dksX0_octet_1 0 rfl rfl)
theorem dX0_octet_25 : decode cX0_octet 25 = .ok (.iand, 1) := dk_126 (dk_at dksX0_octet_1 3 rfl rfl)
theorem dX0_octet_26 : decode cX0_octet 26 = .ok (.ireturn, 1) := dk_172 (dk_at dksX0_octet_1 4 rfl rfl)
abbrev cX0_on : ByteArray := prog_1_method_72_code
def yX0_on : MethodName := ⟨RX0, "on", "()Z"⟩
def dkwX0_on_8 : List UInt8 := [172]
abbrev dktX0_on_8 : List UInt8 := dkwX0_on_8 ++ []
def dkwX0_on_7 : List UInt8 := [4, 167, 0, 4, 3, 172, 42, 180, 0, 69, 42, 180, 0, 73, 182, 1, 36, 87, 42, 3, 181, 0, 148, 4]
abbrev dktX0_on_7 : List UInt8 := dkwX0_on_7 ++ dktX0_on_8
def dkwX0_on_6 : List UInt8 := [182, 1, 164, 153, 0, 7, 4, 167, 0, 4, 3, 62, 29, 154, 0, 17, 42, 8, 182, 0, 118, 155, 0, 7]
abbrev dktX0_on_6 : List UInt8 := dkwX0_on_6 ++ dktX0_on_7
def dkwX0_on_5 : List UInt8 := [181, 0, 212, 42, 180, 0, 73, 3, 181, 0, 225, 29, 153, 0, 21, 42, 182, 1, 161, 153, 0, 14, 42]
abbrev dktX0_on_5 : List UInt8 := dkwX0_on_5 ++ dktX0_on_6
def dkwX0_on_4 : List UInt8 := [42, 180, 0, 73, 42, 180, 0, 69, 182, 1, 36, 42, 3, 182, 1, 157, 181, 0, 209, 42, 180, 0, 73, 28]
abbrev dktX0_on_4 : List UInt8 := dkwX0_on_4 ++ dktX0_on_5
def dkwX0_on_3 : List UInt8 := [42, 3, 182, 1, 157, 17, 3, 231, 163, 0, 14, 28, 19, 1, 160, 163, 0, 7, 4, 167, 0, 4, 3, 62]
abbrev dktX0_on_3 : List UInt8 := dkwX0_on_3 ++ dktX0_on_4
def dkwX0_on_2 : List UInt8 := [96, 160, 0, 45, 42, 27, 4, 100, 182, 1, 104, 42, 180, 0, 35, 27, 4, 100, 184, 1, 153, 160, 0, 25]
abbrev dktX0_on_2 : List UInt8 := dkwX0_on_2 ++ dktX0_on_3
def dkwX0_on_1 : List UInt8 := [153, 0, 70, 27, 16, 6, 42, 182, 0, 169, 96, 5, 42, 182, 1, 47, 104, 96, 6, 42, 182, 0, 180, 104]
abbrev dktX0_on_1 : List UInt8 := dkwX0_on_1 ++ dktX0_on_2
def dkwX0_on_0 : List UInt8 := [42, 182, 0, 129, 60, 42, 5, 182, 1, 104, 16, 16, 120, 42, 6, 182, 1, 157, 128, 61, 42, 182, 1, 29]
abbrev dktX0_on_0 : List UInt8 := dkwX0_on_0 ++ dktX0_on_1
theorem dksX0_on_0 : cX0_on.data.toList.drop 0 = dktX0_on_0 := by decide +kernel
theorem dksX0_on_1 : cX0_on.data.toList.drop 24 = dktX0_on_1 := dk_seg dksX0_on_0 24 rfl rfl
theorem dksX0_on_2 : cX0_on.data.toList.drop 48 = dktX0_on_2 := dk_seg dksX0_on_1 24 rfl rfl
theorem dksX0_on_3 : cX0_on.data.toList.drop 72 = dktX0_on_3 := dk_seg dksX0_on_2 24 rfl rfl
theorem dksX0_on_4 : cX0_on.data.toList.drop 96 = dktX0_on_4 := dk_seg dksX0_on_3 24 rfl rfl
theorem dksX0_on_5 : cX0_on.data.toList.drop 120 = dktX0_on_5 := dk_seg dksX0_on_4 24 rfl rfl
theorem dksX0_on_6 : cX0_on.data.toList.drop 143 = dktX0_on_6 := dk_seg dksX0_on_5 23 rfl rfl
theorem dksX0_on_7 : cX0_on.data.toList.drop 167 = dktX0_on_7 := dk_seg dksX0_on_6 24 rfl rfl
theorem dksX0_on_8 : cX0_on.data.toList.drop 191 = dktX0_on_8 := dk_seg dksX0_on_7 24 rfl rfl
theorem dX0_on_0 : decode cX0_on 0 = .ok (.aload_n 0, 1) := dk_42 (dk_at dksX0_on_0 0 rfl rfl)
theorem dX0_on_1 : decode cX0_on 1 = .ok (.invokevirtual 129, 3) := dk_182 0 129 (dk_at dksX0_on_0 1 rfl rfl)
theorem dX0_on_4 : decode cX0_on 4 = .ok (.istore_n 1, 1) := dk_60 (dk_at dksX0_on_0 4 rfl rfl)
theorem dX0_on_5 : decode cX0_on 5 = .ok (.aload_n 0, 1) := dk_42 (dk_at dksX0_on_0 5 rfl rfl)
theorem dX0_on_6 : decode cX0_on 6 = .ok (.iconst 2, 1) := dk_5 (dk_at dksX0_on_0 6 rfl rfl)
theorem dX0_on_7 : decode cX0_on 7 = .ok (.invokevirtual 360, 3) := dk_182 1 104 (dk_at dksX0_on_0 7 rfl rfl)
theorem dX0_on_10 : decode cX0_on 10 = .ok (.bipush 16, 2) := dk_16 16 (dk_at dksX0_on_0 10 rfl rfl)
theorem dX0_on_12 : decode cX0_on 12 = .ok (.ishl, 1) := dk_120 (dk_at dksX0_on_0 12 rfl rfl)
theorem dX0_on_13 : decode cX0_on 13 = .ok (.aload_n 0, 1) := dk_42 (dk_at dksX0_on_0 13 rfl rfl)
theorem dX0_on_14 : decode cX0_on 14 = .ok (.iconst 3, 1) := dk_6 (dk_at dksX0_on_0 14 rfl rfl)
theorem dX0_on_15 : decode cX0_on 15 = .ok (.invokevirtual 413, 3) := dk_182 1 157 (dk_at dksX0_on_0 15 rfl rfl)
theorem dX0_on_18 : decode cX0_on 18 = .ok (.ior, 1) := dk_128 (dk_at dksX0_on_0 18 rfl rfl)
theorem dX0_on_19 : decode cX0_on 19 = .ok (.istore_n 2, 1) := dk_61 (dk_at dksX0_on_0 19 rfl rfl)
theorem dX0_on_20 : decode cX0_on 20 = .ok (.aload_n 0, 1) := dk_42 (dk_at dksX0_on_0 20 rfl rfl)
theorem dX0_on_21 : decode cX0_on 21 = .ok (.invokevirtual 285, 3) := dk_182 1 29 (dk_at dksX0_on_0 21 rfl rfl)
theorem dX0_on_24 : decode cX0_on 24 = .ok (.ifCond .eq 70, 3) := dk_153 0 70 (dk_at dksX0_on_1 0 rfl rfl)
theorem dX0_on_27 : decode cX0_on 27 = .ok (.iload_n 1, 1) := dk_27 (dk_at dksX0_on_1 3 rfl rfl)
theorem dX0_on_28 : decode cX0_on 28 = .ok (.bipush 6, 2) := dk_16 6 (dk_at dksX0_on_1 4 rfl rfl)
theorem dX0_on_30 : decode cX0_on 30 = .ok (.aload_n 0, 1) := dk_42 (dk_at dksX0_on_1 6 rfl rfl)
theorem dX0_on_31 : decode cX0_on 31 = .ok (.invokevirtual 169, 3) := dk_182 0 169 (dk_at dksX0_on_1 7 rfl rfl)
theorem dX0_on_34 : decode cX0_on 34 = .ok (.iadd, 1) := dk_96 (dk_at dksX0_on_1 10 rfl rfl)
theorem dX0_on_35 : decode cX0_on 35 = .ok (.iconst 2, 1) := dk_5 (dk_at dksX0_on_1 11 rfl rfl)
theorem dX0_on_36 : decode cX0_on 36 = .ok (.aload_n 0, 1) := dk_42 (dk_at dksX0_on_1 12 rfl rfl)
theorem dX0_on_37 : decode cX0_on 37 = .ok (.invokevirtual 303, 3) := dk_182 1 47 (dk_at dksX0_on_1 13 rfl rfl)
theorem dX0_on_40 : decode cX0_on 40 = .ok (.imul, 1) := dk_104 (dk_at dksX0_on_1 16 rfl rfl)
theorem dX0_on_41 : decode cX0_on 41 = .ok (.iadd, 1) := dk_96 (dk_at dksX0_on_1 17 rfl rfl)
theorem dX0_on_42 : decode cX0_on 42 = .ok (.iconst 3, 1) := dk_6 (dk_at dksX0_on_1 18 rfl rfl)
theorem dX0_on_43 : decode cX0_on 43 = .ok (.aload_n 0, 1) := dk_42 (dk_at dksX0_on_1 19 rfl rfl)
theorem dX0_on_44 : decode cX0_on 44 = .ok (.invokevirtual 180, 3) := dk_182 0 180 (dk_at dksX0_on_1 20 rfl rfl)
theorem dX0_on_47 : decode cX0_on 47 = .ok (.imul, 1) := dk_104 (dk_at dksX0_on_1 23 rfl rfl)
theorem dX0_on_48 : decode cX0_on 48 = .ok (.iadd, 1) := dk_96 (dk_at dksX0_on_2 0 rfl rfl)
theorem dX0_on_49 : decode cX0_on 49 = .ok (.if_icmp .ne 45, 3) := dk_160 0 45 (dk_at dksX0_on_2 1 rfl rfl)
theorem dX0_on_52 : decode cX0_on 52 = .ok (.aload_n 0, 1) := dk_42 (dk_at dksX0_on_2 4 rfl rfl)
theorem dX0_on_53 : decode cX0_on 53 = .ok (.iload_n 1, 1) := dk_27 (dk_at dksX0_on_2 5 rfl rfl)
theorem dX0_on_54 : decode cX0_on 54 = .ok (.iconst 1, 1) := dk_4 (dk_at dksX0_on_2 6 rfl rfl)
theorem dX0_on_55 : decode cX0_on 55 = .ok (.isub, 1) := dk_100 (dk_at dksX0_on_2 7 rfl rfl)
theorem dX0_on_56 : decode cX0_on 56 = .ok (.invokevirtual 360, 3) := dk_182 1 104 (dk_at dksX0_on_2 8 rfl rfl)
theorem dX0_on_59 : decode cX0_on 59 = .ok (.aload_n 0, 1) := dk_42 (dk_at dksX0_on_2 11 rfl rfl)
theorem dX0_on_60 : decode cX0_on 60 = .ok (.getfield 35, 3) := dk_180 0 35 (dk_at dksX0_on_2 12 rfl rfl)
theorem dX0_on_63 : decode cX0_on 63 = .ok (.iload_n 1, 1) := dk_27 (dk_at dksX0_on_2 15 rfl rfl)
theorem dX0_on_64 : decode cX0_on 64 = .ok (.iconst 1, 1) := dk_4 (dk_at dksX0_on_2 16 rfl rfl)
theorem dX0_on_65 : decode cX0_on 65 = .ok (.isub, 1) := dk_100 (dk_at dksX0_on_2 17 rfl rfl)
theorem dX0_on_66 : decode cX0_on 66 = .ok (.invokestatic 409, 3) := dk_184 1 153 (dk_at dksX0_on_2 18 rfl rfl)
theorem dX0_on_69 : decode cX0_on 69 = .ok (.if_icmp .ne 25, 3) := dk_160 0 25 (dk_at dksX0_on_2 21 rfl rfl)
theorem dX0_on_72 : decode cX0_on 72 = .ok (.aload_n 0, 1) := dk_42 (dk_at dksX0_on_3 0 rfl rfl)
theorem dX0_on_73 : decode cX0_on 73 = .ok (.iconst 0, 1) := dk_3 (dk_at dksX0_on_3 1 rfl rfl)
theorem dX0_on_74 : decode cX0_on 74 = .ok (.invokevirtual 413, 3) := dk_182 1 157 (dk_at dksX0_on_3 2 rfl rfl)
theorem dX0_on_77 : decode cX0_on 77 = .ok (.sipush 999, 3) := dk_17 3 231 (dk_at dksX0_on_3 5 rfl rfl)
theorem dX0_on_80 : decode cX0_on 80 = .ok (.if_icmp .gt 14, 3) := dk_163 0 14 (dk_at dksX0_on_3 8 rfl rfl)
theorem dX0_on_83 : decode cX0_on 83 = .ok (.iload_n 2, 1) := dk_28 (dk_at dksX0_on_3 11 rfl rfl)
theorem dX0_on_84 : decode cX0_on 84 = .ok (.ldc_w 416, 3) := dk_19 1 160 (dk_at dksX0_on_3 12 rfl rfl)
theorem dX0_on_87 : decode cX0_on 87 = .ok (.if_icmp .gt 7, 3) := dk_163 0 7 (dk_at dksX0_on_3 15 rfl rfl)
theorem dX0_on_90 : decode cX0_on 90 = .ok (.iconst 1, 1) := dk_4 (dk_at dksX0_on_3 18 rfl rfl)
theorem dX0_on_91 : decode cX0_on 91 = .ok (.goto 4, 3) := dk_167 0 4 (dk_at dksX0_on_3 19 rfl rfl)
theorem dX0_on_94 : decode cX0_on 94 = .ok (.iconst 0, 1) := dk_3 (dk_at dksX0_on_3 22 rfl rfl)
theorem dX0_on_95 : decode cX0_on 95 = .ok (.istore_n 3, 1) := dk_62 (dk_at dksX0_on_3 23 rfl rfl)
theorem dX0_on_96 : decode cX0_on 96 = .ok (.aload_n 0, 1) := dk_42 (dk_at dksX0_on_4 0 rfl rfl)
theorem dX0_on_97 : decode cX0_on 97 = .ok (.getfield 73, 3) := dk_180 0 73 (dk_at dksX0_on_4 1 rfl rfl)
theorem dX0_on_100 : decode cX0_on 100 = .ok (.aload_n 0, 1) := dk_42 (dk_at dksX0_on_4 4 rfl rfl)
theorem dX0_on_101 : decode cX0_on 101 = .ok (.getfield 69, 3) := dk_180 0 69 (dk_at dksX0_on_4 5 rfl rfl)
theorem dX0_on_104 : decode cX0_on 104 = .ok (.invokevirtual 292, 3) := dk_182 1 36 (dk_at dksX0_on_4 8 rfl rfl)
theorem dX0_on_107 : decode cX0_on 107 = .ok (.aload_n 0, 1) := dk_42 (dk_at dksX0_on_4 11 rfl rfl)
theorem dX0_on_108 : decode cX0_on 108 = .ok (.iconst 0, 1) := dk_3 (dk_at dksX0_on_4 12 rfl rfl)
theorem dX0_on_109 : decode cX0_on 109 = .ok (.invokevirtual 413, 3) := dk_182 1 157 (dk_at dksX0_on_4 13 rfl rfl)
theorem dX0_on_112 : decode cX0_on 112 = .ok (.putfield 209, 3) := dk_181 0 209 (dk_at dksX0_on_4 16 rfl rfl)
theorem dX0_on_115 : decode cX0_on 115 = .ok (.aload_n 0, 1) := dk_42 (dk_at dksX0_on_4 19 rfl rfl)
theorem dX0_on_116 : decode cX0_on 116 = .ok (.getfield 73, 3) := dk_180 0 73 (dk_at dksX0_on_4 20 rfl rfl)
theorem dX0_on_119 : decode cX0_on 119 = .ok (.iload_n 2, 1) := dk_28 (dk_at dksX0_on_4 23 rfl rfl)
theorem dX0_on_120 : decode cX0_on 120 = .ok (.putfield 212, 3) := dk_181 0 212 (dk_at dksX0_on_5 0 rfl rfl)
theorem dX0_on_123 : decode cX0_on 123 = .ok (.aload_n 0, 1) := dk_42 (dk_at dksX0_on_5 3 rfl rfl)
theorem dX0_on_124 : decode cX0_on 124 = .ok (.getfield 73, 3) := dk_180 0 73 (dk_at dksX0_on_5 4 rfl rfl)
theorem dX0_on_127 : decode cX0_on 127 = .ok (.iconst 0, 1) := dk_3 (dk_at dksX0_on_5 7 rfl rfl)
theorem dX0_on_128 : decode cX0_on 128 = .ok (.putfield 225, 3) := dk_181 0 225 (dk_at dksX0_on_5 8 rfl rfl)
theorem dX0_on_131 : decode cX0_on 131 = .ok (.iload_n 3, 1) := dk_29 (dk_at dksX0_on_5 11 rfl rfl)
theorem dX0_on_132 : decode cX0_on 132 = .ok (.ifCond .eq 21, 3) := dk_153 0 21 (dk_at dksX0_on_5 12 rfl rfl)
theorem dX0_on_135 : decode cX0_on 135 = .ok (.aload_n 0, 1) := dk_42 (dk_at dksX0_on_5 15 rfl rfl)
theorem dX0_on_136 : decode cX0_on 136 = .ok (.invokevirtual 417, 3) := dk_182 1 161 (dk_at dksX0_on_5 16 rfl rfl)
theorem dX0_on_139 : decode cX0_on 139 = .ok (.ifCond .eq 14, 3) := dk_153 0 14 (dk_at dksX0_on_5 19 rfl rfl)
theorem dX0_on_142 : decode cX0_on 142 = .ok (.aload_n 0, 1) := dk_42 (dk_at dksX0_on_5 22 rfl rfl)
theorem dX0_on_143 : decode cX0_on 143 = .ok (.invokevirtual 420, 3) := dk_182 1 164 (dk_at dksX0_on_6 0 rfl rfl)
theorem dX0_on_146 : decode cX0_on 146 = .ok (.ifCond .eq 7, 3) := dk_153 0 7 (dk_at dksX0_on_6 3 rfl rfl)
theorem dX0_on_149 : decode cX0_on 149 = .ok (.iconst 1, 1) := dk_4 (dk_at dksX0_on_6 6 rfl rfl)
theorem dX0_on_150 : decode cX0_on 150 = .ok (.goto 4, 3) := dk_167 0 4 (dk_at dksX0_on_6 7 rfl rfl)
theorem dX0_on_153 : decode cX0_on 153 = .ok (.iconst 0, 1) := dk_3 (dk_at dksX0_on_6 10 rfl rfl)
theorem dX0_on_154 : decode cX0_on 154 = .ok (.istore_n 3, 1) := dk_62 (dk_at dksX0_on_6 11 rfl rfl)
theorem dX0_on_155 : decode cX0_on 155 = .ok (.iload_n 3, 1) := dk_29 (dk_at dksX0_on_6 12 rfl rfl)
theorem dX0_on_156 : decode cX0_on 156 = .ok (.ifCond .ne 17, 3) := dk_154 0 17 (dk_at dksX0_on_6 13 rfl rfl)
theorem dX0_on_159 : decode cX0_on 159 = .ok (.aload_n 0, 1) := dk_42 (dk_at dksX0_on_6 16 rfl rfl)
theorem dX0_on_160 : decode cX0_on 160 = .ok (.iconst 5, 1) := dk_8 (dk_at dksX0_on_6 17 rfl rfl)
theorem dX0_on_161 : decode cX0_on 161 = .ok (.invokevirtual 118, 3) := dk_182 0 118 (dk_at dksX0_on_6 18 rfl rfl)
theorem dX0_on_164 : decode cX0_on 164 = .ok (.ifCond .lt 7, 3) := dk_155 0 7 (dk_at dksX0_on_6 21 rfl rfl)
theorem dX0_on_167 : decode cX0_on 167 = .ok (.iconst 1, 1) := dk_4 (dk_at dksX0_on_7 0 rfl rfl)
theorem dX0_on_168 : decode cX0_on 168 = .ok (.goto 4, 3) := dk_167 0 4 (dk_at dksX0_on_7 1 rfl rfl)
theorem dX0_on_171 : decode cX0_on 171 = .ok (.iconst 0, 1) := dk_3 (dk_at dksX0_on_7 4 rfl rfl)
theorem dX0_on_172 : decode cX0_on 172 = .ok (.ireturn, 1) := dk_172 (dk_at dksX0_on_7 5 rfl rfl)
theorem dX0_on_173 : decode cX0_on 173 = .ok (.aload_n 0, 1) := dk_42 (dk_at dksX0_on_7 6 rfl rfl)
theorem dX0_on_174 : decode cX0_on 174 = .ok (.getfield 69, 3) := dk_180 0 69 (dk_at dksX0_on_7 7 rfl rfl)
theorem dX0_on_177 : decode cX0_on 177 = .ok (.aload_n 0, 1) := dk_42 (dk_at dksX0_on_7 10 rfl rfl)
theorem dX0_on_178 : decode cX0_on 178 = .ok (.getfield 73, 3) := dk_180 0 73 (dk_at dksX0_on_7 11 rfl rfl)
theorem dX0_on_181 : decode cX0_on 181 = .ok (.invokevirtual 292, 3) := dk_182 1 36 (dk_at dksX0_on_7 14 rfl rfl)
theorem dX0_on_184 : decode cX0_on 184 = .ok (.pop, 1) := dk_87 (dk_at dksX0_on_7 17 rfl rfl)
theorem dX0_on_185 : decode cX0_on 185 = .ok (.aload_n 0, 1) := dk_42 (dk_at dksX0_on_7 18 rfl rfl)
theorem dX0_on_186 : decode cX0_on 186 = .ok (.iconst 0, 1) := dk_3 (dk_at dksX0_on_7 19 rfl rfl)
theorem dX0_on_187 : decode cX0_on 187 = .ok (.putfield 148, 3) := dk_181 0 148 (dk_at dksX0_on_7 20 rfl rfl)
theorem dX0_on_190 : decode cX0_on 190 = .ok (.iconst 1, 1) := dk_4 (dk_at dksX0_on_7 23 rfl rfl)
theorem dX0_on_191 : decode cX0_on 191 = .ok (.ireturn, 1) := dk_172 (dk_at dksX0_on_8 0 rfl rfl)
abbrev cX0_twoAt : ByteArray := prog_1_method_50_code
def yX0_twoAt : MethodName := ⟨RX0, "twoAt", "(I)I"⟩
def dkwX0_twoAt_0 : List UInt8 := [42, 27, 182, 1, 104, 16, 8, 120, 42, 27, 4, 96, 182, 1, 104, 128, 172]
abbrev dktX0_twoAt_0 : List UInt8 := dkwX0_twoAt_0 ++ []
theorem dksX0_twoAt_0 : cX0_twoAt.data.toList.drop 0 = dktX0_twoAt_0 := by decide +kernel
theorem dX0_twoAt_0 : decode cX0_twoAt 0 = .ok (.aload_n 0, 1) := dk_42 (dk_at dksX0_twoAt_0 0 rfl rfl)
theorem dX0_twoAt_1 : decode cX0_twoAt 1 = .ok (.iload_n 1, 1) := dk_27 (dk_at dksX0_twoAt_0 1 rfl rfl)
theorem dX0_twoAt_2 : decode cX0_twoAt 2 = .ok (.invokevirtual 360, 3) := dk_182 1 104 (dk_at dksX0_twoAt_0 2 rfl rfl)
theorem dX0_twoAt_5 : decode cX0_twoAt 5 = .ok (.bipush 8, 2) := dk_16 8 (dk_at dksX0_twoAt_0 5 rfl rfl)
theorem dX0_twoAt_7 : decode cX0_twoAt 7 = .ok (.ishl, 1) := dk_120 (dk_at dksX0_twoAt_0 7 rfl rfl)
theorem dX0_twoAt_8 : decode cX0_twoAt 8 = .ok (.aload_n 0, 1) := dk_42 (dk_at dksX0_twoAt_0 8 rfl rfl)
theorem dX0_twoAt_9 : decode cX0_twoAt 9 = .ok (.iload_n 1, 1) := dk_27 (dk_at dksX0_twoAt_0 9 rfl rfl)
theorem dX0_twoAt_10 : decode cX0_twoAt 10 = .ok (.iconst 1, 1) := dk_4 (dk_at dksX0_twoAt_0 10 rfl rfl)
theorem dX0_twoAt_11 : decode cX0_twoAt 11 = .ok (.iadd, 1) := dk_96 (dk_at dksX0_twoAt_0 11 rfl rfl)
theorem dX0_twoAt_12 : decode cX0_twoAt 12 = .ok (.invokevirtual 360, 3) := dk_182 1 104 (dk_at dksX0_twoAt_0 12 rfl rfl)
theorem dX0_twoAt_15 : decode cX0_twoAt 15 = .ok (.ior, 1) := dk_128 (dk_at dksX0_twoAt_0 15 rfl rfl)
theorem dX0_twoAt_16 : decode cX0_twoAt 16 = .ok (.ireturn, 1) := dk_172 (dk_at dksX0_twoAt_0 16 rfl rfl)
abbrev cX0_riverOn : ByteArray := prog_1_method_70_code
def yX0_riverOn : MethodName := ⟨RX0, "riverOn", "()Z"⟩
def dkwX0_riverOn_8 : List UInt8 := [172]
abbrev dktX0_riverOn_8 : List UInt8 := dkwX0_riverOn_8 ++ []
def dkwX0_riverOn_7 : List UInt8 := [29, 4, 96, 182, 1, 104, 16, 99, 163, 0, 7, 4, 167, 0, 4, 3, 60, 132, 2, 1, 167, 255, 136, 27]
abbrev dktX0_riverOn_7 : List UInt8 := dkwX0_riverOn_7 ++ dktX0_riverOn_8
def dkwX0_riverOn_6 : List UInt8 := [112, 42, 29, 4, 96, 182, 1, 104, 79, 27, 153, 0, 29, 42, 29, 182, 1, 104, 16, 9, 163, 0, 19, 42]
abbrev dktX0_riverOn_6 : List UInt8 := dkwX0_riverOn_6 ++ dktX0_riverOn_7
def dkwX0_riverOn_5 : List UInt8 := [180, 0, 73, 180, 1, 1, 28, 42, 180, 0, 31, 180, 0, 175, 108, 50, 28, 42, 180, 0, 31, 180, 0, 175]
abbrev dktX0_riverOn_5 : List UInt8 := dkwX0_riverOn_5 ++ dktX0_riverOn_6
def dkwX0_riverOn_4 : List UInt8 := [180, 0, 31, 180, 0, 175, 108, 50, 28, 42, 180, 0, 31, 180, 0, 175, 112, 42, 29, 182, 1, 104, 79, 42]
abbrev dktX0_riverOn_4 : List UInt8 := dkwX0_riverOn_4 ++ dktX0_riverOn_5
def dkwX0_riverOn_3 : List UInt8 := [162, 0, 118, 8, 42, 182, 0, 169, 96, 5, 28, 104, 96, 62, 42, 180, 0, 73, 180, 0, 222, 28, 42]
abbrev dktX0_riverOn_3 : List UInt8 := dkwX0_riverOn_3 ++ dktX0_riverOn_4
def dkwX0_riverOn_2 : List UInt8 := [162, 0, 7, 4, 167, 0, 4, 3, 60, 132, 2, 1, 167, 255, 202, 3, 61, 28, 42, 182, 1, 47]
abbrev dktX0_riverOn_2 : List UInt8 := dkwX0_riverOn_2 ++ dktX0_riverOn_3
def dkwX0_riverOn_1 : List UInt8 := [182, 1, 104, 79, 27, 153, 0, 24, 42, 8, 28, 96, 182, 1, 104, 42, 180, 0, 31, 180, 0, 175]
abbrev dktX0_riverOn_1 : List UInt8 := dkwX0_riverOn_1 ++ dktX0_riverOn_2
def dkwX0_riverOn_0 : List UInt8 := [4, 60, 3, 61, 28, 42, 182, 0, 169, 162, 0, 52, 42, 180, 0, 73, 180, 0, 238, 28, 42, 8, 28, 96]
abbrev dktX0_riverOn_0 : List UInt8 := dkwX0_riverOn_0 ++ dktX0_riverOn_1
theorem dksX0_riverOn_0 : cX0_riverOn.data.toList.drop 0 = dktX0_riverOn_0 := by decide +kernel
theorem dksX0_riverOn_1 : cX0_riverOn.data.toList.drop 24 = dktX0_riverOn_1 := dk_seg dksX0_riverOn_0 24 rfl rfl
theorem dksX0_riverOn_2 : cX0_riverOn.data.toList.drop 46 = dktX0_riverOn_2 := dk_seg dksX0_riverOn_1 22 rfl rfl
theorem dksX0_riverOn_3 : cX0_riverOn.data.toList.drop 68 = dktX0_riverOn_3 := dk_seg dksX0_riverOn_2 22 rfl rfl
theorem dksX0_riverOn_4 : cX0_riverOn.data.toList.drop 91 = dktX0_riverOn_4 := dk_seg dksX0_riverOn_3 23 rfl rfl
theorem dksX0_riverOn_5 : cX0_riverOn.data.toList.drop 115 = dktX0_riverOn_5 := dk_seg dksX0_riverOn_4 24 rfl rfl
theorem dksX0_riverOn_6 : cX0_riverOn.data.toList.drop 139 = dktX0_riverOn_6 := dk_seg dksX0_riverOn_5 24 rfl rfl
theorem dksX0_riverOn_7 : cX0_riverOn.data.toList.drop 163 = dktX0_riverOn_7 := dk_seg dksX0_riverOn_6 24 rfl rfl
theorem dksX0_riverOn_8 : cX0_riverOn.data.toList.drop 187 = dktX0_riverOn_8 := dk_seg dksX0_riverOn_7 24 rfl rfl
theorem dX0_riverOn_0 : decode cX0_riverOn 0 = .ok (.iconst 1, 1) := dk_4 (dk_at dksX0_riverOn_0 0 rfl rfl)
theorem dX0_riverOn_1 : decode cX0_riverOn 1 = .ok (.istore_n 1, 1) := dk_60 (dk_at dksX0_riverOn_0 1 rfl rfl)
theorem dX0_riverOn_2 : decode cX0_riverOn 2 = .ok (.iconst 0, 1) := dk_3 (dk_at dksX0_riverOn_0 2 rfl rfl)
theorem dX0_riverOn_3 : decode cX0_riverOn 3 = .ok (.istore_n 2, 1) := dk_61 (dk_at dksX0_riverOn_0 3 rfl rfl)
theorem dX0_riverOn_4 : decode cX0_riverOn 4 = .ok (.iload_n 2, 1) := dk_28 (dk_at dksX0_riverOn_0 4 rfl rfl)
theorem dX0_riverOn_5 : decode cX0_riverOn 5 = .ok (.aload_n 0, 1) := dk_42 (dk_at dksX0_riverOn_0 5 rfl rfl)
theorem dX0_riverOn_6 : decode cX0_riverOn 6 = .ok (.invokevirtual 169, 3) := dk_182 0 169 (dk_at dksX0_riverOn_0 6 rfl rfl)
theorem dX0_riverOn_9 : decode cX0_riverOn 9 = .ok (.if_icmp .ge 52, 3) := dk_162 0 52 (dk_at dksX0_riverOn_0 9 rfl rfl)
theorem dX0_riverOn_12 : decode cX0_riverOn 12 = .ok (.aload_n 0, 1) := dk_42 (dk_at dksX0_riverOn_0 12 rfl rfl)
theorem dX0_riverOn_13 : decode cX0_riverOn 13 = .ok (.getfield 73, 3) := dk_180 0 73 (dk_at dksX0_riverOn_0 13 rfl rfl)
theorem dX0_riverOn_16 : decode cX0_riverOn 16 = .ok (.getfield 238, 3) := dk_180 0 238 (dk_at dksX0_riverOn_0 16 rfl rfl)
theorem dX0_riverOn_19 : decode cX0_riverOn 19 = .ok (.iload_n 2, 1) := dk_28 (dk_at dksX0_riverOn_0 19 rfl rfl)
theorem dX0_riverOn_20 : decode cX0_riverOn 20 = .ok (.aload_n 0, 1) := dk_42 (dk_at dksX0_riverOn_0 20 rfl rfl)
theorem dX0_riverOn_21 : decode cX0_riverOn 21 = .ok (.iconst 5, 1) := dk_8 (dk_at dksX0_riverOn_0 21 rfl rfl)
theorem dX0_riverOn_22 : decode cX0_riverOn 22 = .ok (.iload_n 2, 1) := dk_28 (dk_at dksX0_riverOn_0 22 rfl rfl)
theorem dX0_riverOn_23 : decode cX0_riverOn 23 = .ok (.iadd, 1) := dk_96 (dk_at dksX0_riverOn_0 23 rfl rfl)
theorem dX0_riverOn_24 : decode cX0_riverOn 24 = .ok (.invokevirtual 360, 3) := dk_182 1 104 (dk_at dksX0_riverOn_1 0 rfl rfl)
theorem dX0_riverOn_27 : decode cX0_riverOn 27 = .ok (.iastore, 1) := dk_79 (dk_at dksX0_riverOn_1 3 rfl rfl)
theorem dX0_riverOn_28 : decode cX0_riverOn 28 = .ok (.iload_n 1, 1) := dk_27 (dk_at dksX0_riverOn_1 4 rfl rfl)
theorem dX0_riverOn_29 : decode cX0_riverOn 29 = .ok (.ifCond .eq 24, 3) := dk_153 0 24 (dk_at dksX0_riverOn_1 5 rfl rfl)
theorem dX0_riverOn_32 : decode cX0_riverOn 32 = .ok (.aload_n 0, 1) := dk_42 (dk_at dksX0_riverOn_1 8 rfl rfl)
theorem dX0_riverOn_33 : decode cX0_riverOn 33 = .ok (.iconst 5, 1) := dk_8 (dk_at dksX0_riverOn_1 9 rfl rfl)
theorem dX0_riverOn_34 : decode cX0_riverOn 34 = .ok (.iload_n 2, 1) := dk_28 (dk_at dksX0_riverOn_1 10 rfl rfl)
theorem dX0_riverOn_35 : decode cX0_riverOn 35 = .ok (.iadd, 1) := dk_96 (dk_at dksX0_riverOn_1 11 rfl rfl)
theorem dX0_riverOn_36 : decode cX0_riverOn 36 = .ok (.invokevirtual 360, 3) := dk_182 1 104 (dk_at dksX0_riverOn_1 12 rfl rfl)
theorem dX0_riverOn_39 : decode cX0_riverOn 39 = .ok (.aload_n 0, 1) := dk_42 (dk_at dksX0_riverOn_1 15 rfl rfl)
theorem dX0_riverOn_40 : decode cX0_riverOn 40 = .ok (.getfield 31, 3) := dk_180 0 31 (dk_at dksX0_riverOn_1 16 rfl rfl)
theorem dX0_riverOn_43 : decode cX0_riverOn 43 = .ok (.getfield 175, 3) := dk_180 0 175 (dk_at dksX0_riverOn_1 19 rfl rfl)
theorem dX0_riverOn_46 : decode cX0_riverOn 46 = .ok (.if_icmp .ge 7, 3) := dk_162 0 7 (dk_at dksX0_riverOn_2 0 rfl rfl)
theorem dX0_riverOn_49 : decode cX0_riverOn 49 = .ok (.iconst 1, 1) := dk_4 (dk_at dksX0_riverOn_2 3 rfl rfl)
theorem dX0_riverOn_50 : decode cX0_riverOn 50 = .ok (.goto 4, 3) := dk_167 0 4 (dk_at dksX0_riverOn_2 4 rfl rfl)
theorem dX0_riverOn_53 : decode cX0_riverOn 53 = .ok (.iconst 0, 1) := dk_3 (dk_at dksX0_riverOn_2 7 rfl rfl)
theorem dX0_riverOn_54 : decode cX0_riverOn 54 = .ok (.istore_n 1, 1) := dk_60 (dk_at dksX0_riverOn_2 8 rfl rfl)
theorem dX0_riverOn_55 : decode cX0_riverOn 55 = .ok (.iinc 2 1, 3) := dk_132 2 1 (dk_at dksX0_riverOn_2 9 rfl rfl)
theorem dX0_riverOn_58 : decode cX0_riverOn 58 = .ok (.goto (-54), 3) := dk_167 255 202 (dk_at dksX0_riverOn_2 12 rfl rfl)
theorem dX0_riverOn_61 : decode cX0_riverOn 61 = .ok (.iconst 0, 1) := dk_3 (dk_at dksX0_riverOn_2 15 rfl rfl)
theorem dX0_riverOn_62 : decode cX0_riverOn 62 = .ok (.istore_n 2, 1) := dk_61 (dk_at dksX0_riverOn_2 16 rfl rfl)
theorem dX0_riverOn_63 : decode cX0_riverOn 63 = .ok (.iload_n 2, 1) := dk_28 (dk_at dksX0_riverOn_2 17 rfl rfl)
theorem dX0_riverOn_64 : decode cX0_riverOn 64 = .ok (.aload_n 0, 1) := dk_42 (dk_at dksX0_riverOn_2 18 rfl rfl)
theorem dX0_riverOn_65 : decode cX0_riverOn 65 = .ok (.invokevirtual 303, 3) := dk_182 1 47 (dk_at dksX0_riverOn_2 19 rfl rfl)
theorem dX0_riverOn_68 : decode cX0_riverOn 68 = .ok (.if_icmp .ge 118, 3) := dk_162 0 118 (dk_at dksX0_riverOn_3 0 rfl rfl)
theorem dX0_riverOn_71 : decode cX0_riverOn 71 = .ok (.iconst 5, 1) := dk_8 (dk_at dksX0_riverOn_3 3 rfl rfl)
theorem dX0_riverOn_72 : decode cX0_riverOn 72 = .ok (.aload_n 0, 1) := dk_42 (dk_at dksX0_riverOn_3 4 rfl rfl)
theorem dX0_riverOn_73 : decode cX0_riverOn 73 = .ok (.invokevirtual 169, 3) := dk_182 0 169 (dk_at dksX0_riverOn_3 5 rfl rfl)
theorem dX0_riverOn_76 : decode cX0_riverOn 76 = .ok (.iadd, 1) := dk_96 (dk_at dksX0_riverOn_3 8 rfl rfl)
theorem dX0_riverOn_77 : decode cX0_riverOn 77 = .ok (.iconst 2, 1) := dk_5 (dk_at dksX0_riverOn_3 9 rfl rfl)
theorem dX0_riverOn_78 : decode cX0_riverOn 78 = .ok (.iload_n 2, 1) := dk_28 (dk_at dksX0_riverOn_3 10 rfl rfl)
theorem dX0_riverOn_79 : decode cX0_riverOn 79 = .ok (.imul, 1) := dk_104 (dk_at dksX0_riverOn_3 11 rfl rfl)
theorem dX0_riverOn_80 : decode cX0_riverOn 80 = .ok (.iadd, 1) := dk_96 (dk_at dksX0_riverOn_3 12 rfl rfl)
theorem dX0_riverOn_81 : decode cX0_riverOn 81 = .ok (.istore_n 3, 1) := dk_62 (dk_at dksX0_riverOn_3 13 rfl rfl)
theorem dX0_riverOn_82 : decode cX0_riverOn 82 = .ok (.aload_n 0, 1) := dk_42 (dk_at dksX0_riverOn_3 14 rfl rfl)
theorem dX0_riverOn_83 : decode cX0_riverOn 83 = .ok (.getfield 73, 3) := dk_180 0 73 (dk_at dksX0_riverOn_3 15 rfl rfl)
theorem dX0_riverOn_86 : decode cX0_riverOn 86 = .ok (.getfield 222, 3) := dk_180 0 222 (dk_at dksX0_riverOn_3 18 rfl rfl)
theorem dX0_riverOn_89 : decode cX0_riverOn 89 = .ok (.iload_n 2, 1) := dk_28 (dk_at dksX0_riverOn_3 21 rfl rfl)
theorem dX0_riverOn_90 : decode cX0_riverOn 90 = .ok (.aload_n 0, 1) := dk_42 (dk_at dksX0_riverOn_3 22 rfl rfl)
theorem dX0_riverOn_91 : decode cX0_riverOn 91 = .ok (.getfield 31, 3) := dk_180 0 31 (dk_at dksX0_riverOn_4 0 rfl rfl)
theorem dX0_riverOn_94 : decode cX0_riverOn 94 = .ok (.getfield 175, 3) := dk_180 0 175 (dk_at dksX0_riverOn_4 3 rfl rfl)
theorem dX0_riverOn_97 : decode cX0_riverOn 97 = .ok (.idiv, 1) := dk_108 (dk_at dksX0_riverOn_4 6 rfl rfl)
theorem dX0_riverOn_98 : decode cX0_riverOn 98 = .ok (.aaload, 1) := dk_50 (dk_at dksX0_riverOn_4 7 rfl rfl)
theorem dX0_riverOn_99 : decode cX0_riverOn 99 = .ok (.iload_n 2, 1) := dk_28 (dk_at dksX0_riverOn_4 8 rfl rfl)
theorem dX0_riverOn_100 : decode cX0_riverOn 100 = .ok (.aload_n 0, 1) := dk_42 (dk_at dksX0_riverOn_4 9 rfl rfl)
theorem dX0_riverOn_101 : decode cX0_riverOn 101 = .ok (.getfield 31, 3) := dk_180 0 31 (dk_at dksX0_riverOn_4 10 rfl rfl)
theorem dX0_riverOn_104 : decode cX0_riverOn 104 = .ok (.getfield 175, 3) := dk_180 0 175 (dk_at dksX0_riverOn_4 13 rfl rfl)
theorem dX0_riverOn_107 : decode cX0_riverOn 107 = .ok (.irem, 1) := dk_112 (dk_at dksX0_riverOn_4 16 rfl rfl)
theorem dX0_riverOn_108 : decode cX0_riverOn 108 = .ok (.aload_n 0, 1) := dk_42 (dk_at dksX0_riverOn_4 17 rfl rfl)
theorem dX0_riverOn_109 : decode cX0_riverOn 109 = .ok (.iload_n 3, 1) := dk_29 (dk_at dksX0_riverOn_4 18 rfl rfl)
theorem dX0_riverOn_110 : decode cX0_riverOn 110 = .ok (.invokevirtual 360, 3) := dk_182 1 104 (dk_at dksX0_riverOn_4 19 rfl rfl)
theorem dX0_riverOn_113 : decode cX0_riverOn 113 = .ok (.iastore, 1) := dk_79 (dk_at dksX0_riverOn_4 22 rfl rfl)
theorem dX0_riverOn_114 : decode cX0_riverOn 114 = .ok (.aload_n 0, 1) := dk_42 (dk_at dksX0_riverOn_4 23 rfl rfl)
theorem dX0_riverOn_115 : decode cX0_riverOn 115 = .ok (.getfield 73, 3) := dk_180 0 73 (dk_at dksX0_riverOn_5 0 rfl rfl)
theorem dX0_riverOn_118 : decode cX0_riverOn 118 = .ok (.getfield 257, 3) := dk_180 1 1 (dk_at dksX0_riverOn_5 3 rfl rfl)
theorem dX0_riverOn_121 : decode cX0_riverOn 121 = .ok (.iload_n 2, 1) := dk_28 (dk_at dksX0_riverOn_5 6 rfl rfl)
theorem dX0_riverOn_122 : decode cX0_riverOn 122 = .ok (.aload_n 0, 1) := dk_42 (dk_at dksX0_riverOn_5 7 rfl rfl)
theorem dX0_riverOn_123 : decode cX0_riverOn 123 = .ok (.getfield 31, 3) := dk_180 0 31 (dk_at dksX0_riverOn_5 8 rfl rfl)
theorem dX0_riverOn_126 : decode cX0_riverOn 126 = .ok (.getfield 175, 3) := dk_180 0 175 (dk_at dksX0_riverOn_5 11 rfl rfl)
theorem dX0_riverOn_129 : decode cX0_riverOn 129 = .ok (.idiv, 1) := dk_108 (dk_at dksX0_riverOn_5 14 rfl rfl)
theorem dX0_riverOn_130 : decode cX0_riverOn 130 = .ok (.aaload, 1) := dk_50 (dk_at dksX0_riverOn_5 15 rfl rfl)
theorem dX0_riverOn_131 : decode cX0_riverOn 131 = .ok (.iload_n 2, 1) := dk_28 (dk_at dksX0_riverOn_5 16 rfl rfl)
theorem dX0_riverOn_132 : decode cX0_riverOn 132 = .ok (.aload_n 0, 1) := dk_42 (dk_at dksX0_riverOn_5 17 rfl rfl)
theorem dX0_riverOn_133 : decode cX0_riverOn 133 = .ok (.getfield 31, 3) := dk_180 0 31 (dk_at dksX0_riverOn_5 18 rfl rfl)
theorem dX0_riverOn_136 : decode cX0_riverOn 136 = .ok (.getfield 175, 3) := dk_180 0 175 (dk_at dksX0_riverOn_5 21 rfl rfl)
theorem dX0_riverOn_139 : decode cX0_riverOn 139 = .ok (.irem, 1) := dk_112 (dk_at dksX0_riverOn_6 0 rfl rfl)
theorem dX0_riverOn_140 : decode cX0_riverOn 140 = .ok (.aload_n 0, 1) := dk_42 (dk_at dksX0_riverOn_6 1 rfl rfl)
theorem dX0_riverOn_141 : decode cX0_riverOn 141 = .ok (.iload_n 3, 1) := dk_29 (dk_at dksX0_riverOn_6 2 rfl rfl)
theorem dX0_riverOn_142 : decode cX0_riverOn 142 = .ok (.iconst 1, 1) := dk_4 (dk_at dksX0_riverOn_6 3 rfl rfl)
theorem dX0_riverOn_143 : decode cX0_riverOn 143 = .ok (.iadd, 1) := dk_96 (dk_at dksX0_riverOn_6 4 rfl rfl)
theorem dX0_riverOn_144 : decode cX0_riverOn 144 = .ok (.invokevirtual 360, 3) := dk_182 1 104 (dk_at dksX0_riverOn_6 5 rfl rfl)
theorem dX0_riverOn_147 : decode cX0_riverOn 147 = .ok (.iastore, 1) := dk_79 (dk_at dksX0_riverOn_6 8 rfl rfl)
theorem dX0_riverOn_148 : decode cX0_riverOn 148 = .ok (.iload_n 1, 1) := dk_27 (dk_at dksX0_riverOn_6 9 rfl rfl)
theorem dX0_riverOn_149 : decode cX0_riverOn 149 = .ok (.ifCond .eq 29, 3) := dk_153 0 29 (dk_at dksX0_riverOn_6 10 rfl rfl)
theorem dX0_riverOn_152 : decode cX0_riverOn 152 = .ok (.aload_n 0, 1) := dk_42 (dk_at dksX0_riverOn_6 13 rfl rfl)
theorem dX0_riverOn_153 : decode cX0_riverOn 153 = .ok (.iload_n 3, 1) := dk_29 (dk_at dksX0_riverOn_6 14 rfl rfl)
theorem dX0_riverOn_154 : decode cX0_riverOn 154 = .ok (.invokevirtual 360, 3) := dk_182 1 104 (dk_at dksX0_riverOn_6 15 rfl rfl)
theorem dX0_riverOn_157 : decode cX0_riverOn 157 = .ok (.bipush 9, 2) := dk_16 9 (dk_at dksX0_riverOn_6 18 rfl rfl)
theorem dX0_riverOn_159 : decode cX0_riverOn 159 = .ok (.if_icmp .gt 19, 3) := dk_163 0 19 (dk_at dksX0_riverOn_6 20 rfl rfl)
theorem dX0_riverOn_162 : decode cX0_riverOn 162 = .ok (.aload_n 0, 1) := dk_42 (dk_at dksX0_riverOn_6 23 rfl rfl)
theorem dX0_riverOn_163 : decode cX0_riverOn 163 = .ok (.iload_n 3, 1) := dk_29 (dk_at dksX0_riverOn_7 0 rfl rfl)
theorem dX0_riverOn_164 : decode cX0_riverOn 164 = .ok (.iconst 1, 1) := dk_4 (dk_at dksX0_riverOn_7 1 rfl rfl)
theorem dX0_riverOn_165 : decode cX0_riverOn 165 = .ok (.iadd, 1) := dk_96 (dk_at dksX0_riverOn_7 2 rfl rfl)
theorem dX0_riverOn_166 : decode cX0_riverOn 166 = .ok (.invokevirtual 360, 3) := dk_182 1 104 (dk_at dksX0_riverOn_7 3 rfl rfl)
theorem dX0_riverOn_169 : decode cX0_riverOn 169 = .ok (.bipush 99, 2) := dk_16 99 (dk_at dksX0_riverOn_7 6 rfl rfl)
theorem dX0_riverOn_171 : decode cX0_riverOn 171 = .ok (.if_icmp .gt 7, 3) := dk_163 0 7 (dk_at dksX0_riverOn_7 8 rfl rfl)
theorem dX0_riverOn_174 : decode cX0_riverOn 174 = .ok (.iconst 1, 1) := dk_4 (dk_at dksX0_riverOn_7 11 rfl rfl)
theorem dX0_riverOn_175 : decode cX0_riverOn 175 = .ok (.goto 4, 3) := dk_167 0 4 (dk_at dksX0_riverOn_7 12 rfl rfl)
theorem dX0_riverOn_178 : decode cX0_riverOn 178 = .ok (.iconst 0, 1) := dk_3 (dk_at dksX0_riverOn_7 15 rfl rfl)
theorem dX0_riverOn_179 : decode cX0_riverOn 179 = .ok (.istore_n 1, 1) := dk_60 (dk_at dksX0_riverOn_7 16 rfl rfl)
theorem dX0_riverOn_180 : decode cX0_riverOn 180 = .ok (.iinc 2 1, 3) := dk_132 2 1 (dk_at dksX0_riverOn_7 17 rfl rfl)
theorem dX0_riverOn_183 : decode cX0_riverOn 183 = .ok (.goto (-120), 3) := dk_167 255 136 (dk_at dksX0_riverOn_7 20 rfl rfl)
theorem dX0_riverOn_186 : decode cX0_riverOn 186 = .ok (.iload_n 1, 1) := dk_27 (dk_at dksX0_riverOn_7 23 rfl rfl)
theorem dX0_riverOn_187 : decode cX0_riverOn 187 = .ok (.ireturn, 1) := dk_172 (dk_at dksX0_riverOn_8 0 rfl rfl)
abbrev cX0_lordsOn : ByteArray := prog_1_method_71_code
def yX0_lordsOn : MethodName := ⟨RX0, "lordsOn", "()Z"⟩
def dkwX0_lordsOn_4 : List UInt8 := [163, 0, 7, 4, 167, 0, 4, 3, 60, 132, 2, 1, 167, 255, 154, 27, 172]
abbrev dktX0_lordsOn_4 : List UInt8 := dkwX0_lordsOn_4 ++ []
def dkwX0_lordsOn_3 : List UInt8 := [153, 0, 31, 42, 29, 182, 1, 104, 4, 163, 0, 22, 42, 180, 0, 73, 180, 1, 21, 28, 46, 17, 3, 231]
abbrev dktX0_lordsOn_3 : List UInt8 := dkwX0_lordsOn_3 ++ dktX0_lordsOn_4
def dkwX0_lordsOn_2 : List UInt8 := [167, 0, 4, 3, 84, 42, 180, 0, 73, 180, 1, 21, 28, 42, 29, 4, 96, 182, 1, 157, 79, 27]
abbrev dktX0_lordsOn_2 : List UInt8 := dkwX0_lordsOn_2 ++ dktX0_lordsOn_3
def dkwX0_lordsOn_1 : List UInt8 := [96, 6, 28, 104, 96, 62, 42, 180, 0, 73, 180, 0, 218, 28, 42, 29, 182, 1, 104, 4, 160, 0, 7, 4]
abbrev dktX0_lordsOn_1 : List UInt8 := dkwX0_lordsOn_1 ++ dktX0_lordsOn_2
def dkwX0_lordsOn_0 : List UInt8 := [4, 60, 3, 61, 28, 42, 182, 0, 180, 162, 0, 100, 8, 42, 182, 0, 169, 96, 5, 42, 182, 1, 47, 104]
abbrev dktX0_lordsOn_0 : List UInt8 := dkwX0_lordsOn_0 ++ dktX0_lordsOn_1
theorem dksX0_lordsOn_0 : cX0_lordsOn.data.toList.drop 0 = dktX0_lordsOn_0 := by decide +kernel
theorem dksX0_lordsOn_1 : cX0_lordsOn.data.toList.drop 24 = dktX0_lordsOn_1 := dk_seg dksX0_lordsOn_0 24 rfl rfl
theorem dksX0_lordsOn_2 : cX0_lordsOn.data.toList.drop 48 = dktX0_lordsOn_2 := dk_seg dksX0_lordsOn_1 24 rfl rfl
theorem dksX0_lordsOn_3 : cX0_lordsOn.data.toList.drop 70 = dktX0_lordsOn_3 := dk_seg dksX0_lordsOn_2 22 rfl rfl
theorem dksX0_lordsOn_4 : cX0_lordsOn.data.toList.drop 94 = dktX0_lordsOn_4 := dk_seg dksX0_lordsOn_3 24 rfl rfl
theorem dX0_lordsOn_0 : decode cX0_lordsOn 0 = .ok (.iconst 1, 1) := dk_4 (dk_at dksX0_lordsOn_0 0 rfl rfl)
theorem dX0_lordsOn_1 : decode cX0_lordsOn 1 = .ok (.istore_n 1, 1) := dk_60 (dk_at dksX0_lordsOn_0 1 rfl rfl)
theorem dX0_lordsOn_2 : decode cX0_lordsOn 2 = .ok (.iconst 0, 1) := dk_3 (dk_at dksX0_lordsOn_0 2 rfl rfl)
theorem dX0_lordsOn_3 : decode cX0_lordsOn 3 = .ok (.istore_n 2, 1) := dk_61 (dk_at dksX0_lordsOn_0 3 rfl rfl)
theorem dX0_lordsOn_4 : decode cX0_lordsOn 4 = .ok (.iload_n 2, 1) := dk_28 (dk_at dksX0_lordsOn_0 4 rfl rfl)
theorem dX0_lordsOn_5 : decode cX0_lordsOn 5 = .ok (.aload_n 0, 1) := dk_42 (dk_at dksX0_lordsOn_0 5 rfl rfl)
theorem dX0_lordsOn_6 : decode cX0_lordsOn 6 = .ok (.invokevirtual 180, 3) := dk_182 0 180 (dk_at dksX0_lordsOn_0 6 rfl rfl)
theorem dX0_lordsOn_9 : decode cX0_lordsOn 9 = .ok (.if_icmp .ge 100, 3) := dk_162 0 100 (dk_at dksX0_lordsOn_0 9 rfl rfl)
theorem dX0_lordsOn_12 : decode cX0_lordsOn 12 = .ok (.iconst 5, 1) := dk_8 (dk_at dksX0_lordsOn_0 12 rfl rfl)
theorem dX0_lordsOn_13 : decode cX0_lordsOn 13 = .ok (.aload_n 0, 1) := dk_42 (dk_at dksX0_lordsOn_0 13 rfl rfl)
theorem dX0_lordsOn_14 : decode cX0_lordsOn 14 = .ok (.invokevirtual 169, 3) := dk_182 0 169 (dk_at dksX0_lordsOn_0 14 rfl rfl)
theorem dX0_lordsOn_17 : decode cX0_lordsOn 17 = .ok (.iadd, 1) := dk_96 (dk_at dksX0_lordsOn_0 17 rfl rfl)
theorem dX0_lordsOn_18 : decode cX0_lordsOn 18 = .ok (.iconst 2, 1) := dk_5 (dk_at dksX0_lordsOn_0 18 rfl rfl)
theorem dX0_lordsOn_19 : decode cX0_lordsOn 19 = .ok (.aload_n 0, 1) := dk_42 (dk_at dksX0_lordsOn_0 19 rfl rfl)
theorem dX0_lordsOn_20 : decode cX0_lordsOn 20 = .ok (.invokevirtual 303, 3) := dk_182 1 47 (dk_at dksX0_lordsOn_0 20 rfl rfl)
theorem dX0_lordsOn_23 : decode cX0_lordsOn 23 = .ok (.imul, 1) := dk_104 (dk_at dksX0_lordsOn_0 23 rfl rfl)
theorem dX0_lordsOn_24 : decode cX0_lordsOn 24 = .ok (.iadd, 1) := dk_96 (dk_at dksX0_lordsOn_1 0 rfl rfl)
theorem dX0_lordsOn_25 : decode cX0_lordsOn 25 = .ok (.iconst 3, 1) := dk_6 (dk_at dksX0_lordsOn_1 1 rfl rfl)
theorem dX0_lordsOn_26 : decode cX0_lordsOn 26 = .ok (.iload_n 2, 1) := dk_28 (dk_at dksX0_lordsOn_1 2 rfl rfl)
theorem dX0_lordsOn_27 : decode cX0_lordsOn 27 = .ok (.imul, 1) := dk_104 (dk_at dksX0_lordsOn_1 3 rfl rfl)
theorem dX0_lordsOn_28 : decode cX0_lordsOn 28 = .ok (.iadd, 1) := dk_96 (dk_at dksX0_lordsOn_1 4 rfl rfl)
theorem dX0_lordsOn_29 : decode cX0_lordsOn 29 = .ok (.istore_n 3, 1) := dk_62 (dk_at dksX0_lordsOn_1 5 rfl rfl)
theorem dX0_lordsOn_30 : decode cX0_lordsOn 30 = .ok (.aload_n 0, 1) := dk_42 (dk_at dksX0_lordsOn_1 6 rfl rfl)
theorem dX0_lordsOn_31 : decode cX0_lordsOn 31 = .ok (.getfield 73, 3) := dk_180 0 73 (dk_at dksX0_lordsOn_1 7 rfl rfl)
theorem dX0_lordsOn_34 : decode cX0_lordsOn 34 = .ok (.getfield 218, 3) := dk_180 0 218 (dk_at dksX0_lordsOn_1 10 rfl rfl)
theorem dX0_lordsOn_37 : decode cX0_lordsOn 37 = .ok (.iload_n 2, 1) := dk_28 (dk_at dksX0_lordsOn_1 13 rfl rfl)
theorem dX0_lordsOn_38 : decode cX0_lordsOn 38 = .ok (.aload_n 0, 1) := dk_42 (dk_at dksX0_lordsOn_1 14 rfl rfl)
theorem dX0_lordsOn_39 : decode cX0_lordsOn 39 = .ok (.iload_n 3, 1) := dk_29 (dk_at dksX0_lordsOn_1 15 rfl rfl)
theorem dX0_lordsOn_40 : decode cX0_lordsOn 40 = .ok (.invokevirtual 360, 3) := dk_182 1 104 (dk_at dksX0_lordsOn_1 16 rfl rfl)
theorem dX0_lordsOn_43 : decode cX0_lordsOn 43 = .ok (.iconst 1, 1) := dk_4 (dk_at dksX0_lordsOn_1 19 rfl rfl)
theorem dX0_lordsOn_44 : decode cX0_lordsOn 44 = .ok (.if_icmp .ne 7, 3) := dk_160 0 7 (dk_at dksX0_lordsOn_1 20 rfl rfl)
theorem dX0_lordsOn_47 : decode cX0_lordsOn 47 = .ok (.iconst 1, 1) := dk_4 (dk_at dksX0_lordsOn_1 23 rfl rfl)
theorem dX0_lordsOn_48 : decode cX0_lordsOn 48 = .ok (.goto 4, 3) := dk_167 0 4 (dk_at dksX0_lordsOn_2 0 rfl rfl)
theorem dX0_lordsOn_51 : decode cX0_lordsOn 51 = .ok (.iconst 0, 1) := dk_3 (dk_at dksX0_lordsOn_2 3 rfl rfl)
theorem dX0_lordsOn_52 : decode cX0_lordsOn 52 = .ok (.bastore, 1) := dk_84 (dk_at dksX0_lordsOn_2 4 rfl rfl)
theorem dX0_lordsOn_53 : decode cX0_lordsOn 53 = .ok (.aload_n 0, 1) := dk_42 (dk_at dksX0_lordsOn_2 5 rfl rfl)
theorem dX0_lordsOn_54 : decode cX0_lordsOn 54 = .ok (.getfield 73, 3) := dk_180 0 73 (dk_at dksX0_lordsOn_2 6 rfl rfl)
theorem dX0_lordsOn_57 : decode cX0_lordsOn 57 = .ok (.getfield 277, 3) := dk_180 1 21 (dk_at dksX0_lordsOn_2 9 rfl rfl)
theorem dX0_lordsOn_60 : decode cX0_lordsOn 60 = .ok (.iload_n 2, 1) := dk_28 (dk_at dksX0_lordsOn_2 12 rfl rfl)
theorem dX0_lordsOn_61 : decode cX0_lordsOn 61 = .ok (.aload_n 0, 1) := dk_42 (dk_at dksX0_lordsOn_2 13 rfl rfl)
theorem dX0_lordsOn_62 : decode cX0_lordsOn 62 = .ok (.iload_n 3, 1) := dk_29 (dk_at dksX0_lordsOn_2 14 rfl rfl)
theorem dX0_lordsOn_63 : decode cX0_lordsOn 63 = .ok (.iconst 1, 1) := dk_4 (dk_at dksX0_lordsOn_2 15 rfl rfl)
theorem dX0_lordsOn_64 : decode cX0_lordsOn 64 = .ok (.iadd, 1) := dk_96 (dk_at dksX0_lordsOn_2 16 rfl rfl)
theorem dX0_lordsOn_65 : decode cX0_lordsOn 65 = .ok (.invokevirtual 413, 3) := dk_182 1 157 (dk_at dksX0_lordsOn_2 17 rfl rfl)
theorem dX0_lordsOn_68 : decode cX0_lordsOn 68 = .ok (.iastore, 1) := dk_79 (dk_at dksX0_lordsOn_2 20 rfl rfl)
theorem dX0_lordsOn_69 : decode cX0_lordsOn 69 = .ok (.iload_n 1, 1) := dk_27 (dk_at dksX0_lordsOn_2 21 rfl rfl)
theorem dX0_lordsOn_70 : decode cX0_lordsOn 70 = .ok (.ifCond .eq 31, 3) := dk_153 0 31 (dk_at dksX0_lordsOn_3 0 rfl rfl)
theorem dX0_lordsOn_73 : decode cX0_lordsOn 73 = .ok (.aload_n 0, 1) := dk_42 (dk_at dksX0_lordsOn_3 3 rfl rfl)
theorem dX0_lordsOn_74 : decode cX0_lordsOn 74 = .ok (.iload_n 3, 1) := dk_29 (dk_at dksX0_lordsOn_3 4 rfl rfl)
theorem dX0_lordsOn_75 : decode cX0_lordsOn 75 = .ok (.invokevirtual 360, 3) := dk_182 1 104 (dk_at dksX0_lordsOn_3 5 rfl rfl)
theorem dX0_lordsOn_78 : decode cX0_lordsOn 78 = .ok (.iconst 1, 1) := dk_4 (dk_at dksX0_lordsOn_3 8 rfl rfl)
theorem dX0_lordsOn_79 : decode cX0_lordsOn 79 = .ok (.if_icmp .gt 22, 3) := dk_163 0 22 (dk_at dksX0_lordsOn_3 9 rfl rfl)
theorem dX0_lordsOn_82 : decode cX0_lordsOn 82 = .ok (.aload_n 0, 1) := dk_42 (dk_at dksX0_lordsOn_3 12 rfl rfl)
theorem dX0_lordsOn_83 : decode cX0_lordsOn 83 = .ok (.getfield 73, 3) := dk_180 0 73 (dk_at dksX0_lordsOn_3 13 rfl rfl)
theorem dX0_lordsOn_86 : decode cX0_lordsOn 86 = .ok (.getfield 277, 3) := dk_180 1 21 (dk_at dksX0_lordsOn_3 16 rfl rfl)
theorem dX0_lordsOn_89 : decode cX0_lordsOn 89 = .ok (.iload_n 2, 1) := dk_28 (dk_at dksX0_lordsOn_3 19 rfl rfl)
theorem dX0_lordsOn_90 : decode cX0_lordsOn 90 = .ok (.iaload, 1) := dk_46 (dk_at dksX0_lordsOn_3 20 rfl rfl)
theorem dX0_lordsOn_91 : decode cX0_lordsOn 91 = .ok (.sipush 999, 3) := dk_17 3 231 (dk_at dksX0_lordsOn_3 21 rfl rfl)
theorem dX0_lordsOn_94 : decode cX0_lordsOn 94 = .ok (.if_icmp .gt 7, 3) := dk_163 0 7 (dk_at dksX0_lordsOn_4 0 rfl rfl)
theorem dX0_lordsOn_97 : decode cX0_lordsOn 97 = .ok (.iconst 1, 1) := dk_4 (dk_at dksX0_lordsOn_4 3 rfl rfl)
theorem dX0_lordsOn_98 : decode cX0_lordsOn 98 = .ok (.goto 4, 3) := dk_167 0 4 (dk_at dksX0_lordsOn_4 4 rfl rfl)
theorem dX0_lordsOn_101 : decode cX0_lordsOn 101 = .ok (.iconst 0, 1) := dk_3 (dk_at dksX0_lordsOn_4 7 rfl rfl)
theorem dX0_lordsOn_102 : decode cX0_lordsOn 102 = .ok (.istore_n 1, 1) := dk_60 (dk_at dksX0_lordsOn_4 8 rfl rfl)
theorem dX0_lordsOn_103 : decode cX0_lordsOn 103 = .ok (.iinc 2 1, 3) := dk_132 2 1 (dk_at dksX0_lordsOn_4 9 rfl rfl)
theorem dX0_lordsOn_106 : decode cX0_lordsOn 106 = .ok (.goto (-102), 3) := dk_167 255 154 (dk_at dksX0_lordsOn_4 12 rfl rfl)
theorem dX0_lordsOn_109 : decode cX0_lordsOn 109 = .ok (.iload_n 1, 1) := dk_27 (dk_at dksX0_lordsOn_4 15 rfl rfl)
theorem dX0_lordsOn_110 : decode cX0_lordsOn 110 = .ok (.ireturn, 1) := dk_172 (dk_at dksX0_lordsOn_4 16 rfl rfl)
abbrev cX0_status : ByteArray := prog_1_method_73_code
def yX0_status : MethodName := ⟨RX0, "status", "(I)I"⟩
def dkwX0_status_0 : List UInt8 := [27, 3, 8, 184, 0, 176, 153, 0, 12, 42, 180, 0, 62, 27, 46, 167, 0, 4, 2, 172]
abbrev dktX0_status_0 : List UInt8 := dkwX0_status_0 ++ []
theorem dksX0_status_0 : cX0_status.data.toList.drop 0 = dktX0_status_0 := by decide +kernel
theorem dX0_status_0 : decode cX0_status 0 = .ok (.iload_n 1, 1) := dk_27 (dk_at dksX0_status_0 0 rfl rfl)
theorem dX0_status_1 : decode cX0_status 1 = .ok (.iconst 0, 1) := dk_3 (dk_at dksX0_status_0 1 rfl rfl)
theorem dX0_status_2 : decode cX0_status 2 = .ok (.iconst 5, 1) := dk_8 (dk_at dksX0_status_0 2 rfl rfl)
theorem dX0_status_3 : decode cX0_status 3 = .ok (.invokestatic 176, 3) := dk_184 0 176 (dk_at dksX0_status_0 3 rfl rfl)
theorem dX0_status_6 : decode cX0_status 6 = .ok (.ifCond .eq 12, 3) := dk_153 0 12 (dk_at dksX0_status_0 6 rfl rfl)
theorem dX0_status_9 : decode cX0_status 9 = .ok (.aload_n 0, 1) := dk_42 (dk_at dksX0_status_0 9 rfl rfl)
theorem dX0_status_10 : decode cX0_status 10 = .ok (.getfield 62, 3) := dk_180 0 62 (dk_at dksX0_status_0 10 rfl rfl)
theorem dX0_status_13 : decode cX0_status 13 = .ok (.iload_n 1, 1) := dk_27 (dk_at dksX0_status_0 13 rfl rfl)
theorem dX0_status_14 : decode cX0_status 14 = .ok (.iaload, 1) := dk_46 (dk_at dksX0_status_0 14 rfl rfl)
theorem dX0_status_15 : decode cX0_status 15 = .ok (.goto 4, 3) := dk_167 0 4 (dk_at dksX0_status_0 15 rfl rfl)
theorem dX0_status_18 : decode cX0_status 18 = .ok (.iconst (-1), 1) := dk_2 (dk_at dksX0_status_0 18 rfl rfl)
theorem dX0_status_19 : decode cX0_status 19 = .ok (.ireturn, 1) := dk_172 (dk_at dksX0_status_0 19 rfl rfl)
theorem q174 : (Jvm.Cond.initialized "BentRiver") ∈ lw_all := lw_g (lw_at lw_m1 1 rfl) rfl
theorem q213 : (Jvm.Cond.instantiable "BentRiver" (25 : Nat)) ∈ lw_all := lw_g (lw_at lw_m1 40 rfl) rfl
theorem q215 : (Jvm.Cond.instanceMethod ({ cls := "BentRiver", name := "<init>", desc := "()V" } : Jvm.MethodName)) ∈ lw_all := lw_g (lw_at lw_m1 42 rfl) rfl
theorem q216 : (Jvm.Cond.code ({ cls := "BentRiver", name := "<init>", desc := "()V" } : Jvm.MethodName) prog_1_method_7_code (2 : Nat) (Option.none : Option Jvm.ClassFile.FieldType)) ∈ lw_all := lw_g (lw_at lw_m1 43 rfl) rfl
theorem q217 : (Jvm.Cond.methodLink "BentRiver" (22 : Nat) ({ cls := "java/lang/Object", name := "<init>", desc := "()V" } : Jvm.MethodName)) ∈ lw_all := lw_g (lw_at lw_m1 44 rfl) rfl
theorem q220 : (Jvm.Cond.classLink "BentRiver" (28 : Nat) "BentRiver$Valley") ∈ lw_all := lw_g (lw_at lw_m1 47 rfl) rfl
theorem q222 : (Jvm.Cond.methodLink "BentRiver" (30 : Nat) ({ cls := "BentRiver$Valley", name := "<init>", desc := "()V" } : Jvm.MethodName)) ∈ lw_all := lw_g (lw_at lw_m1 49 rfl) rfl
theorem q257 : (Jvm.Cond.fieldLinkNest "BentRiver" (154 : Nat) "BentRiver$Valley" "statements" "I" "BentRiver") ∈ lw_tbl := lw_at lw_m1 84 rfl
theorem q260 : (Jvm.Cond.fieldLinkNest "BentRiver" (157 : Nat) "BentRiver$Valley" "columns" "I" "BentRiver") ∈ lw_tbl := lw_at lw_m1 87 rfl
theorem q263 : (Jvm.Cond.fieldLinkNest "BentRiver" (175 : Nat) "BentRiver$Valley" "rows" "I" "BentRiver") ∈ lw_tbl := lw_at lw_m1 90 rfl
theorem q266 : (Jvm.Cond.fieldLinkNest "BentRiver" (337 : Nat) "BentRiver$Valley" "reach" "I" "BentRiver") ∈ lw_tbl := lw_at lw_m1 93 rfl
theorem q268 : (Jvm.Cond.fieldLinkNest "BentRiver" (383 : Nat) "BentRiver$Valley" "spate" "I" "BentRiver") ∈ lw_tbl := lw_at lw_m1 95 rfl
theorem q275 : (Jvm.Cond.fieldLinkNest "BentRiver" (254 : Nat) "BentRiver$Valley" "soil" "[[I" "BentRiver") ∈ lw_tbl := lw_at lw_m1 102 rfl
theorem q280 : (Jvm.Cond.fieldLinkNest "BentRiver" (160 : Nat) "BentRiver$Valley" "lords" "Ljava/util/List;" "BentRiver") ∈ lw_tbl := lw_at lw_m1 107 rfl
theorem q285 : (Jvm.Cond.fieldLinkNest "BentRiver" (195 : Nat) "BentRiver$Valley" "bend" "LBentRiver$Test;" "BentRiver") ∈ lw_tbl := lw_at lw_m1 112 rfl
theorem q309 : (Jvm.Cond.classLink "BentRiver" (43 : Nat) "BentRiver$Reader") ∈ lw_all := lw_g (lw_at lw_m1 136 rfl) rfl
theorem q311 : (Jvm.Cond.methodLinkNest "BentRiver" (45 : Nat) ({ cls := "BentRiver$Reader", name := "<init>", desc := "(LBentRiver;)V" } : Jvm.MethodName) "BentRiver") ∈ lw_tbl := lw_at lw_m1 138 rfl
theorem q367 : (Jvm.Cond.fieldLinkNest "BentRiver" (139 : Nat) "BentRiver$Fault" "kind" "I" "BentRiver") ∈ lw_tbl := lw_at lw_m1 194 rfl
theorem q369 : (Jvm.Cond.fieldLinkNest "BentRiver" (142 : Nat) "BentRiver$Fault" "place" "I" "BentRiver") ∈ lw_tbl := lw_at lw_m1 196 rfl
theorem q413 : (Jvm.Cond.classLink "BentRiver" (52 : Nat) "BentRiver$Moment") ∈ lw_all := lw_g (lw_at lw_m2 0 rfl) rfl
theorem q415 : (Jvm.Cond.methodLinkNest "BentRiver" (54 : Nat) ({ cls := "BentRiver$Moment", name := "<init>", desc := "()V" } : Jvm.MethodName) "BentRiver") ∈ lw_tbl := lw_at lw_m2 2 rfl
theorem q422 : (Jvm.Cond.fieldLinkNest "BentRiver" (199 : Nat) "BentRiver$Moment" "of" "[J" "BentRiver") ∈ lw_tbl := lw_at lw_m2 9 rfl
theorem q427 : (Jvm.Cond.classLink "BentRiver" (66 : Nat) "BentRiver$State") ∈ lw_all := lw_g (lw_at lw_m2 14 rfl) rfl
theorem q429 : (Jvm.Cond.methodLinkNest "BentRiver" (68 : Nat) ({ cls := "BentRiver$State", name := "<init>", desc := "(LBentRiver;)V" } : Jvm.MethodName) "BentRiver") ∈ lw_tbl := lw_at lw_m2 16 rfl
theorem q435 : (Jvm.Cond.fieldLinkNest "BentRiver" (209 : Nat) "BentRiver$State" "season" "I" "BentRiver") ∈ lw_tbl := lw_at lw_m2 22 rfl
theorem q437 : (Jvm.Cond.fieldLinkNest "BentRiver" (212 : Nat) "BentRiver$State" "fund" "I" "BentRiver") ∈ lw_tbl := lw_at lw_m2 24 rfl
theorem q439 : (Jvm.Cond.fieldLinkNest "BentRiver" (225 : Nat) "BentRiver$State" "keeps" "I" "BentRiver") ∈ lw_tbl := lw_at lw_m2 26 rfl
theorem q441 : (Jvm.Cond.fieldLinkNest "BentRiver" (238 : Nat) "BentRiver$State" "row" "[I" "BentRiver") ∈ lw_tbl := lw_at lw_m2 28 rfl
theorem q443 : (Jvm.Cond.fieldLinkNest "BentRiver" (277 : Nat) "BentRiver$State" "purse" "[I" "BentRiver") ∈ lw_tbl := lw_at lw_m2 30 rfl
theorem q445 : (Jvm.Cond.fieldLinkNest "BentRiver" (218 : Nat) "BentRiver$State" "offers" "[Z" "BentRiver") ∈ lw_tbl := lw_at lw_m2 32 rfl
theorem q447 : (Jvm.Cond.fieldLinkNest "BentRiver" (222 : Nat) "BentRiver$State" "willows" "[[I" "BentRiver") ∈ lw_tbl := lw_at lw_m2 34 rfl
theorem q449 : (Jvm.Cond.fieldLinkNest "BentRiver" (257 : Nat) "BentRiver$State" "ever" "[[I" "BentRiver") ∈ lw_tbl := lw_at lw_m2 36 rfl
theorem q451 : (Jvm.Cond.fieldLinkNest "BentRiver" (283 : Nat) "BentRiver$State" "rows" "[[I" "BentRiver") ∈ lw_tbl := lw_at lw_m2 38 rfl
theorem q453 : (Jvm.Cond.fieldLinkNest "BentRiver" (321 : Nat) "BentRiver$State" "has" "[I" "BentRiver") ∈ lw_tbl := lw_at lw_m2 40 rfl
theorem q479 : (Jvm.Cond.classLink "BentRiver" (79 : Nat) "[[I") ∈ lw_all := lw_g (lw_at lw_m2 66 rfl) rfl
theorem q480 : (Jvm.Cond.classLink "BentRiver" (84 : Nat) "[[[I") ∈ lw_all := lw_g (lw_at lw_m2 67 rfl) rfl
theorem q484 : (Jvm.Cond.fieldLink "BentRiver" (31 : Nat) "BentRiver" "valley" "LBentRiver$Valley;") ∈ lw_all := lw_g (lw_at lw_m2 71 rfl) rfl
theorem q486 : (Jvm.Cond.fieldLink "BentRiver" (35 : Nat) "BentRiver" "tape" "[B") ∈ lw_all := lw_g (lw_at lw_m2 73 rfl) rfl
theorem q487 : (Jvm.Cond.fieldLink "BentRiver" (115 : Nat) "BentRiver" "taped" "I") ∈ lw_all := lw_g (lw_at lw_m2 74 rfl) rfl
theorem q488 : (Jvm.Cond.fieldLink "BentRiver" (126 : Nat) "BentRiver" "faultKind" "I") ∈ lw_all := lw_g (lw_at lw_m2 75 rfl) rfl
theorem q489 : (Jvm.Cond.fieldLink "BentRiver" (39 : Nat) "BentRiver" "faultPlace" "I") ∈ lw_all := lw_g (lw_at lw_m2 76 rfl) rfl
theorem q490 : (Jvm.Cond.fieldLink "BentRiver" (48 : Nat) "BentRiver" "reader" "LBentRiver$Reader;") ∈ lw_all := lw_g (lw_at lw_m2 77 rfl) rfl
theorem q491 : (Jvm.Cond.fieldLink "BentRiver" (55 : Nat) "BentRiver" "moment" "LBentRiver$Moment;") ∈ lw_all := lw_g (lw_at lw_m2 78 rfl) rfl
theorem q493 : (Jvm.Cond.fieldLink "BentRiver" (59 : Nat) "BentRiver" "asked" "LBentRiver$Moment;") ∈ lw_all := lw_g (lw_at lw_m2 80 rfl) rfl
theorem q494 : (Jvm.Cond.fieldLink "BentRiver" (62 : Nat) "BentRiver" "refused" "[I") ∈ lw_all := lw_g (lw_at lw_m2 81 rfl) rfl
theorem q495 : (Jvm.Cond.fieldLink "BentRiver" (69 : Nat) "BentRiver" "now" "LBentRiver$State;") ∈ lw_all := lw_g (lw_at lw_m2 82 rfl) rfl
theorem q496 : (Jvm.Cond.fieldLink "BentRiver" (73 : Nat) "BentRiver" "tried" "LBentRiver$State;") ∈ lw_all := lw_g (lw_at lw_m2 83 rfl) rfl
theorem q497 : (Jvm.Cond.fieldLink "BentRiver" (76 : Nat) "BentRiver" "works" "[I") ∈ lw_all := lw_g (lw_at lw_m2 84 rfl) rfl
theorem q498 : (Jvm.Cond.fieldLink "BentRiver" (81 : Nat) "BentRiver" "hasBy" "[[I") ∈ lw_all := lw_g (lw_at lw_m2 85 rfl) rfl
theorem q499 : (Jvm.Cond.fieldLink "BentRiver" (86 : Nat) "BentRiver" "pays" "[[[I") ∈ lw_all := lw_g (lw_at lw_m2 86 rfl) rfl
theorem q500 : (Jvm.Cond.fieldLink "BentRiver" (89 : Nat) "BentRiver" "course" "[I") ∈ lw_all := lw_g (lw_at lw_m2 87 rfl) rfl
theorem q501 : (Jvm.Cond.fieldLink "BentRiver" (92 : Nat) "BentRiver" "rowSeason" "[I") ∈ lw_all := lw_g (lw_at lw_m2 88 rfl) rfl
theorem q502 : (Jvm.Cond.fieldLink "BentRiver" (95 : Nat) "BentRiver" "rowColumn" "[I") ∈ lw_all := lw_g (lw_at lw_m2 89 rfl) rfl
theorem q503 : (Jvm.Cond.fieldLink "BentRiver" (98 : Nat) "BentRiver" "rowRow" "[I") ∈ lw_all := lw_g (lw_at lw_m2 90 rfl) rfl
theorem q504 : (Jvm.Cond.fieldLink "BentRiver" (151 : Nat) "BentRiver" "rows" "I") ∈ lw_all := lw_g (lw_at lw_m2 91 rfl) rfl
theorem q505 : (Jvm.Cond.fieldLink "BentRiver" (101 : Nat) "BentRiver" "rowsBy" "[[I") ∈ lw_all := lw_g (lw_at lw_m2 92 rfl) rfl
theorem q506 : (Jvm.Cond.fieldLink "BentRiver" (104 : Nat) "BentRiver" "kept" "[LBentRiver$State;") ∈ lw_all := lw_g (lw_at lw_m2 93 rfl) rfl
theorem q507 : (Jvm.Cond.fieldLink "BentRiver" (148 : Nat) "BentRiver" "undos" "I") ∈ lw_all := lw_g (lw_at lw_m2 94 rfl) rfl
theorem q508 : (Jvm.Cond.fieldLink "BentRiver" (108 : Nat) "BentRiver" "seeds" "J") ∈ lw_all := lw_g (lw_at lw_m2 95 rfl) rfl
theorem q509 : (Jvm.Cond.fieldLink "BentRiver" (112 : Nat) "BentRiver" "out" "[B") ∈ lw_all := lw_g (lw_at lw_m2 96 rfl) rfl
theorem q510 : (Jvm.Cond.fieldLink "BentRiver" (402 : Nat) "BentRiver" "outs" "I") ∈ lw_all := lw_g (lw_at lw_m2 97 rfl) rfl
theorem q511 : (Jvm.Cond.lays "BentRiver" "BentRiver" "valley" "LBentRiver$Valley;") ∈ lw_all := lw_g (lw_at lw_m2 98 rfl) rfl
theorem q512 : (Jvm.Cond.soleField "BentRiver" "valley") ∈ lw_all := lw_g (lw_at lw_m2 99 rfl) rfl
theorem q513 : (Jvm.Cond.laysFinal "BentRiver" "BentRiver" "tape" "[B") ∈ lw_all := lw_g (lw_at lw_m2 100 rfl) rfl
theorem q514 : (Jvm.Cond.soleField "BentRiver" "tape") ∈ lw_all := lw_g (lw_at lw_m2 101 rfl) rfl
theorem q515 : (Jvm.Cond.lays "BentRiver" "BentRiver" "taped" "I") ∈ lw_all := lw_g (lw_at lw_m2 102 rfl) rfl
theorem q516 : (Jvm.Cond.soleField "BentRiver" "taped") ∈ lw_all := lw_g (lw_at lw_m2 103 rfl) rfl
theorem q517 : (Jvm.Cond.lays "BentRiver" "BentRiver" "faultKind" "I") ∈ lw_all := lw_g (lw_at lw_m2 104 rfl) rfl
theorem q518 : (Jvm.Cond.soleField "BentRiver" "faultKind") ∈ lw_all := lw_g (lw_at lw_m2 105 rfl) rfl
theorem q519 : (Jvm.Cond.lays "BentRiver" "BentRiver" "faultPlace" "I") ∈ lw_all := lw_g (lw_at lw_m2 106 rfl) rfl
theorem q520 : (Jvm.Cond.soleField "BentRiver" "faultPlace") ∈ lw_all := lw_g (lw_at lw_m2 107 rfl) rfl
theorem q521 : (Jvm.Cond.laysFinal "BentRiver" "BentRiver" "reader" "LBentRiver$Reader;") ∈ lw_all := lw_g (lw_at lw_m2 108 rfl) rfl
theorem q522 : (Jvm.Cond.soleField "BentRiver" "reader") ∈ lw_all := lw_g (lw_at lw_m2 109 rfl) rfl
theorem q523 : (Jvm.Cond.laysFinal "BentRiver" "BentRiver" "moment" "LBentRiver$Moment;") ∈ lw_all := lw_g (lw_at lw_m2 110 rfl) rfl
theorem q524 : (Jvm.Cond.soleField "BentRiver" "moment") ∈ lw_all := lw_g (lw_at lw_m2 111 rfl) rfl
theorem q525 : (Jvm.Cond.laysFinal "BentRiver" "BentRiver" "asked" "LBentRiver$Moment;") ∈ lw_all := lw_g (lw_at lw_m2 112 rfl) rfl
theorem q526 : (Jvm.Cond.soleField "BentRiver" "asked") ∈ lw_all := lw_g (lw_at lw_m2 113 rfl) rfl
theorem q527 : (Jvm.Cond.laysFinal "BentRiver" "BentRiver" "refused" "[I") ∈ lw_all := lw_g (lw_at lw_m2 114 rfl) rfl
theorem q528 : (Jvm.Cond.soleField "BentRiver" "refused") ∈ lw_all := lw_g (lw_at lw_m2 115 rfl) rfl
theorem q529 : (Jvm.Cond.laysFinal "BentRiver" "BentRiver" "now" "LBentRiver$State;") ∈ lw_all := lw_g (lw_at lw_m2 116 rfl) rfl
theorem q530 : (Jvm.Cond.soleField "BentRiver" "now") ∈ lw_all := lw_g (lw_at lw_m2 117 rfl) rfl
theorem q531 : (Jvm.Cond.laysFinal "BentRiver" "BentRiver" "tried" "LBentRiver$State;") ∈ lw_all := lw_g (lw_at lw_m2 118 rfl) rfl
theorem q532 : (Jvm.Cond.soleField "BentRiver" "tried") ∈ lw_all := lw_g (lw_at lw_m2 119 rfl) rfl
theorem q533 : (Jvm.Cond.laysFinal "BentRiver" "BentRiver" "works" "[I") ∈ lw_all := lw_g (lw_at lw_m2 120 rfl) rfl
theorem q534 : (Jvm.Cond.soleField "BentRiver" "works") ∈ lw_all := lw_g (lw_at lw_m2 121 rfl) rfl
theorem q535 : (Jvm.Cond.laysFinal "BentRiver" "BentRiver" "hasBy" "[[I") ∈ lw_all := lw_g (lw_at lw_m2 122 rfl) rfl
theorem q536 : (Jvm.Cond.soleField "BentRiver" "hasBy") ∈ lw_all := lw_g (lw_at lw_m2 123 rfl) rfl
theorem q537 : (Jvm.Cond.laysFinal "BentRiver" "BentRiver" "pays" "[[[I") ∈ lw_all := lw_g (lw_at lw_m2 124 rfl) rfl
theorem q538 : (Jvm.Cond.soleField "BentRiver" "pays") ∈ lw_all := lw_g (lw_at lw_m2 125 rfl) rfl
theorem q539 : (Jvm.Cond.laysFinal "BentRiver" "BentRiver" "course" "[I") ∈ lw_all := lw_g (lw_at lw_m2 126 rfl) rfl
theorem q540 : (Jvm.Cond.soleField "BentRiver" "course") ∈ lw_all := lw_g (lw_at lw_m2 127 rfl) rfl
theorem q541 : (Jvm.Cond.laysFinal "BentRiver" "BentRiver" "rowSeason" "[I") ∈ lw_all := lw_g (lw_at lw_m2 128 rfl) rfl
theorem q542 : (Jvm.Cond.soleField "BentRiver" "rowSeason") ∈ lw_all := lw_g (lw_at lw_m2 129 rfl) rfl
theorem q543 : (Jvm.Cond.laysFinal "BentRiver" "BentRiver" "rowColumn" "[I") ∈ lw_all := lw_g (lw_at lw_m2 130 rfl) rfl
theorem q544 : (Jvm.Cond.soleField "BentRiver" "rowColumn") ∈ lw_all := lw_g (lw_at lw_m2 131 rfl) rfl
theorem q545 : (Jvm.Cond.laysFinal "BentRiver" "BentRiver" "rowRow" "[I") ∈ lw_all := lw_g (lw_at lw_m2 132 rfl) rfl
theorem q546 : (Jvm.Cond.soleField "BentRiver" "rowRow") ∈ lw_all := lw_g (lw_at lw_m2 133 rfl) rfl
theorem q547 : (Jvm.Cond.lays "BentRiver" "BentRiver" "rows" "I") ∈ lw_all := lw_g (lw_at lw_m2 134 rfl) rfl
theorem q548 : (Jvm.Cond.soleField "BentRiver" "rows") ∈ lw_all := lw_g (lw_at lw_m2 135 rfl) rfl
theorem q549 : (Jvm.Cond.laysFinal "BentRiver" "BentRiver" "rowsBy" "[[I") ∈ lw_all := lw_g (lw_at lw_m2 136 rfl) rfl
theorem q550 : (Jvm.Cond.soleField "BentRiver" "rowsBy") ∈ lw_all := lw_g (lw_at lw_m2 137 rfl) rfl
theorem q551 : (Jvm.Cond.laysFinal "BentRiver" "BentRiver" "kept" "[LBentRiver$State;") ∈ lw_all := lw_g (lw_at lw_m2 138 rfl) rfl
theorem q552 : (Jvm.Cond.soleField "BentRiver" "kept") ∈ lw_all := lw_g (lw_at lw_m2 139 rfl) rfl
theorem q553 : (Jvm.Cond.lays "BentRiver" "BentRiver" "undos" "I") ∈ lw_all := lw_g (lw_at lw_m2 140 rfl) rfl
theorem q554 : (Jvm.Cond.soleField "BentRiver" "undos") ∈ lw_all := lw_g (lw_at lw_m2 141 rfl) rfl
theorem q555 : (Jvm.Cond.lays "BentRiver" "BentRiver" "seeds" "J") ∈ lw_all := lw_g (lw_at lw_m2 142 rfl) rfl
theorem q556 : (Jvm.Cond.soleField "BentRiver" "seeds") ∈ lw_all := lw_g (lw_at lw_m2 143 rfl) rfl
theorem q557 : (Jvm.Cond.laysFinal "BentRiver" "BentRiver" "out" "[B") ∈ lw_all := lw_g (lw_at lw_m2 144 rfl) rfl
theorem q558 : (Jvm.Cond.soleField "BentRiver" "out") ∈ lw_all := lw_g (lw_at lw_m2 145 rfl) rfl
theorem q559 : (Jvm.Cond.lays "BentRiver" "BentRiver" "outs" "I") ∈ lw_all := lw_g (lw_at lw_m2 146 rfl) rfl
theorem q560 : (Jvm.Cond.soleField "BentRiver" "outs") ∈ lw_all := lw_g (lw_at lw_m2 147 rfl) rfl
theorem q561 : (Jvm.Cond.superclass "BentRiver" "java/lang/Object") ∈ lw_all := lw_g (lw_at lw_m2 148 rfl) rfl
theorem q563 : (Jvm.Cond.instanceMethod ({ cls := "BentRiver", name := "feed", desc := "(IIIII)I" } : Jvm.MethodName)) ∈ lw_all := lw_g (lw_at lw_m2 150 rfl) rfl
theorem q564 : (Jvm.Cond.selects "BentRiver" ({ cls := "BentRiver", name := "feed", desc := "(IIIII)I" } : Jvm.MethodName) ({ cls := "BentRiver", name := "feed", desc := "(IIIII)I" } : Jvm.MethodName)) ∈ lw_all := lw_g (lw_at lw_m2 151 rfl) rfl
theorem q565 : (Jvm.Cond.code ({ cls := "BentRiver", name := "feed", desc := "(IIIII)I" } : Jvm.MethodName) prog_1_method_10_code (6 : Nat) (Option.some Jvm.ClassFile.FieldType.int)) ∈ lw_all := lw_g (lw_at lw_m2 152 rfl) rfl
theorem q566 : (Jvm.Cond.methodLink "BentRiver" (118 : Nat) ({ cls := "BentRiver", name := "refuses", desc := "(I)I" } : Jvm.MethodName)) ∈ lw_all := lw_g (lw_at lw_m2 153 rfl) rfl
theorem q567 : (Jvm.Cond.privateMethod ({ cls := "BentRiver", name := "refuses", desc := "(I)I" } : Jvm.MethodName)) ∈ lw_tbl := lw_at lw_m2 154 rfl
theorem q568 : (Jvm.Cond.instanceMethod ({ cls := "BentRiver", name := "refuses", desc := "(I)I" } : Jvm.MethodName)) ∈ lw_all := lw_g (lw_at lw_m2 155 rfl) rfl
theorem q569 : (Jvm.Cond.code ({ cls := "BentRiver", name := "refuses", desc := "(I)I" } : Jvm.MethodName) prog_1_method_8_code (2 : Nat) (Option.some Jvm.ClassFile.FieldType.int)) ∈ lw_all := lw_g (lw_at lw_m2 156 rfl) rfl
theorem q570 : (Jvm.Cond.methodLink "BentRiver" (122 : Nat) ({ cls := "BentRiver", name := "put", desc := "(I)V" } : Jvm.MethodName)) ∈ lw_all := lw_g (lw_at lw_m2 157 rfl) rfl
theorem q571 : (Jvm.Cond.privateMethod ({ cls := "BentRiver", name := "put", desc := "(I)V" } : Jvm.MethodName)) ∈ lw_tbl := lw_at lw_m2 158 rfl
theorem q572 : (Jvm.Cond.instanceMethod ({ cls := "BentRiver", name := "put", desc := "(I)V" } : Jvm.MethodName)) ∈ lw_all := lw_g (lw_at lw_m2 159 rfl) rfl
theorem q573 : (Jvm.Cond.code ({ cls := "BentRiver", name := "put", desc := "(I)V" } : Jvm.MethodName) prog_1_method_9_code (3 : Nat) (Option.none : Option Jvm.ClassFile.FieldType)) ∈ lw_all := lw_g (lw_at lw_m2 160 rfl) rfl
theorem q575 : (Jvm.Cond.instanceMethod ({ cls := "BentRiver", name := "end", desc := "(I)Z" } : Jvm.MethodName)) ∈ lw_all := lw_g (lw_at lw_m2 162 rfl) rfl
theorem q576 : (Jvm.Cond.selects "BentRiver" ({ cls := "BentRiver", name := "end", desc := "(I)Z" } : Jvm.MethodName) ({ cls := "BentRiver", name := "end", desc := "(I)Z" } : Jvm.MethodName)) ∈ lw_all := lw_g (lw_at lw_m2 163 rfl) rfl
theorem q577 : (Jvm.Cond.code ({ cls := "BentRiver", name := "end", desc := "(I)Z" } : Jvm.MethodName) prog_1_method_11_code (2 : Nat) (Option.some Jvm.ClassFile.FieldType.boolean)) ∈ lw_all := lw_g (lw_at lw_m2 164 rfl) rfl
theorem q579 : (Jvm.Cond.instanceMethod ({ cls := "BentRiver", name := "valley", desc := "()I" } : Jvm.MethodName)) ∈ lw_all := lw_g (lw_at lw_m2 166 rfl) rfl
theorem q580 : (Jvm.Cond.selects "BentRiver" ({ cls := "BentRiver", name := "valley", desc := "()I" } : Jvm.MethodName) ({ cls := "BentRiver", name := "valley", desc := "()I" } : Jvm.MethodName)) ∈ lw_all := lw_g (lw_at lw_m2 167 rfl) rfl
theorem q581 : (Jvm.Cond.codeWith ({ cls := "BentRiver", name := "valley", desc := "()I" } : Jvm.MethodName) prog_1_method_13_code (2 : Nat) (Option.some Jvm.ClassFile.FieldType.int) [((10 : Nat), (25 : Nat), (28 : Nat), (137 : Nat))]) ∈ lw_all := lw_g (lw_at lw_m2 168 rfl) rfl
theorem q582 : (Jvm.Cond.classLink "BentRiver" (137 : Nat) "BentRiver$Fault") ∈ lw_all := lw_g (lw_at lw_m2 169 rfl) rfl
theorem q583 : (Jvm.Cond.methodLink "BentRiver" (129 : Nat) ({ cls := "BentRiver", name := "taken", desc := "()I" } : Jvm.MethodName)) ∈ lw_all := lw_g (lw_at lw_m2 170 rfl) rfl
theorem q584 : (Jvm.Cond.privateMethod ({ cls := "BentRiver", name := "taken", desc := "()I" } : Jvm.MethodName)) ∈ lw_tbl := lw_at lw_m2 171 rfl
theorem q585 : (Jvm.Cond.instanceMethod ({ cls := "BentRiver", name := "taken", desc := "()I" } : Jvm.MethodName)) ∈ lw_all := lw_g (lw_at lw_m2 172 rfl) rfl
theorem q586 : (Jvm.Cond.code ({ cls := "BentRiver", name := "taken", desc := "()I" } : Jvm.MethodName) prog_1_method_12_code (2 : Nat) (Option.some Jvm.ClassFile.FieldType.int)) ∈ lw_all := lw_g (lw_at lw_m2 173 rfl) rfl
theorem q587 : (Jvm.Cond.methodLink "BentRiver" (133 : Nat) ({ cls := "BentRiver$Reader", name := "all", desc := "(I)LBentRiver$Valley;" } : Jvm.MethodName)) ∈ lw_all := lw_g (lw_at lw_m2 174 rfl) rfl
theorem q611 : (Jvm.Cond.static ({ cls := "BentRiver", name := "isLetter", desc := "(I)Z" } : Jvm.MethodName)) ∈ lw_all := lw_g (lw_at lw_m2 198 rfl) rfl
theorem q612 : (Jvm.Cond.code ({ cls := "BentRiver", name := "isLetter", desc := "(I)Z" } : Jvm.MethodName) prog_1_method_4_code (1 : Nat) (Option.some Jvm.ClassFile.FieldType.boolean)) ∈ lw_all := lw_g (lw_at lw_m2 199 rfl) rfl
theorem q622 : (Jvm.Cond.static ({ cls := "BentRiver", name := "isDigit", desc := "(I)Z" } : Jvm.MethodName)) ∈ lw_all := lw_g (lw_at lw_m2 209 rfl) rfl
theorem q623 : (Jvm.Cond.code ({ cls := "BentRiver", name := "isDigit", desc := "(I)Z" } : Jvm.MethodName) prog_1_method_5_code (1 : Nat) (Option.some Jvm.ClassFile.FieldType.boolean)) ∈ lw_all := lw_g (lw_at lw_m2 210 rfl) rfl
theorem q714 : (Jvm.Cond.static ({ cls := "BentRiver", name := "is", desc := "(III)Z" } : Jvm.MethodName)) ∈ lw_all := lw_g (lw_at lw_m3 61 rfl) rfl
theorem q715 : (Jvm.Cond.code ({ cls := "BentRiver", name := "is", desc := "(III)Z" } : Jvm.MethodName) prog_1_method_1_code (3 : Nat) (Option.some Jvm.ClassFile.FieldType.boolean)) ∈ lw_all := lw_g (lw_at lw_m3 62 rfl) rfl
theorem q818 : (Jvm.Cond.laysStatic "BentRiver" "OWN" "[Ljava/lang/String;") ∈ lw_tbl := lw_at lw_m3 165 rfl
theorem q820 : (Jvm.Cond.static ({ cls := "BentRiver", name := "find", desc := "(Ljava/lang/String;[Ljava/lang/String;)I" } : Jvm.MethodName)) ∈ lw_all := lw_g (lw_at lw_m3 167 rfl) rfl
theorem q821 : (Jvm.Cond.code ({ cls := "BentRiver", name := "find", desc := "(Ljava/lang/String;[Ljava/lang/String;)I" } : Jvm.MethodName) prog_1_method_6_code (3 : Nat) (Option.some Jvm.ClassFile.FieldType.int)) ∈ lw_all := lw_g (lw_at lw_m3 168 rfl) rfl
theorem q822 : (Jvm.Cond.methodLink "BentRiver" (16 : Nat) ({ cls := "java/lang/String", name := "equals", desc := "(Ljava/lang/Object;)Z" } : Jvm.MethodName)) ∈ lw_all := lw_g (lw_at lw_m3 169 rfl) rfl
theorem q873 : (Jvm.Cond.fieldLinkNest "BentRiver" (266 : Nat) "BentRiver$Lord" "from" "I" "BentRiver") ∈ lw_tbl := lw_at lw_m3 220 rfl
theorem q876 : (Jvm.Cond.fieldLinkNest "BentRiver" (269 : Nat) "BentRiver$Lord" "to" "I" "BentRiver") ∈ lw_tbl := lw_at lw_m3 223 rfl
theorem q879 : (Jvm.Cond.fieldLinkNest "BentRiver" (272 : Nat) "BentRiver$Lord" "pays" "I" "BentRiver") ∈ lw_tbl := lw_at lw_m3 226 rfl
theorem q882 : (Jvm.Cond.fieldLinkNest "BentRiver" (274 : Nat) "BentRiver$Lord" "joy" "I" "BentRiver") ∈ lw_tbl := lw_at lw_m3 229 rfl
theorem q937 : (Jvm.Cond.selects "BentRiver" ({ cls := "java/lang/Object", name := "getClass", desc := "()Ljava/lang/Class;" } : Jvm.MethodName) ({ cls := "java/lang/Object", name := "getClass", desc := "()Ljava/lang/Class;" } : Jvm.MethodName)) ∈ lw_all := lw_g (lw_at lw_m4 44 rfl) rfl
theorem q1067 : (Jvm.Cond.laysStatic "BentRiver" "ASKED" "[Ljava/lang/String;") ∈ lw_tbl := lw_at lw_m4 174 rfl
theorem q1069 : (Jvm.Cond.static ({ cls := "BentRiver", name := "has", desc := "(II)Z" } : Jvm.MethodName)) ∈ lw_all := lw_g (lw_at lw_m4 176 rfl) rfl
theorem q1070 : (Jvm.Cond.code ({ cls := "BentRiver", name := "has", desc := "(II)Z" } : Jvm.MethodName) prog_1_method_2_code (2 : Nat) (Option.some Jvm.ClassFile.FieldType.boolean)) ∈ lw_all := lw_g (lw_at lw_m4 177 rfl) rfl
theorem q1083 : (Jvm.Cond.laysStatic "BentRiver" "LOOKED" "[Ljava/lang/String;") ∈ lw_tbl := lw_at lw_m4 190 rfl
theorem q1243 : (Jvm.Cond.methodLink "BentRiver" (145 : Nat) ({ cls := "BentRiver$State", name := "begins", desc := "()V" } : Jvm.MethodName)) ∈ lw_all := lw_g (lw_at lw_m5 110 rfl) rfl
theorem q1248 : (Jvm.Cond.privateMethod ({ cls := "BentRiver", name := "lords", desc := "()I" } : Jvm.MethodName)) ∈ lw_tbl := lw_at lw_m5 115 rfl
theorem q1249 : (Jvm.Cond.instanceMethod ({ cls := "BentRiver", name := "lords", desc := "()I" } : Jvm.MethodName)) ∈ lw_all := lw_g (lw_at lw_m5 116 rfl) rfl
theorem q1250 : (Jvm.Cond.code ({ cls := "BentRiver", name := "lords", desc := "()I" } : Jvm.MethodName) prog_1_method_17_code (1 : Nat) (Option.some Jvm.ClassFile.FieldType.int)) ∈ lw_all := lw_g (lw_at lw_m5 117 rfl) rfl
theorem q1251 : (Jvm.Cond.interfaceEntry "BentRiver" (164 : Nat)) ∈ lw_tbl := lw_at lw_m5 118 rfl
theorem q1252 : (Jvm.Cond.methodLink "BentRiver" (164 : Nat) ({ cls := "java/util/List", name := "size", desc := "()I" } : Jvm.MethodName)) ∈ lw_all := lw_g (lw_at lw_m5 119 rfl) rfl
theorem q1254 : (Jvm.Cond.privateMethod ({ cls := "BentRiver", name := "lordOf", desc := "(I)LBentRiver$Lord;" } : Jvm.MethodName)) ∈ lw_tbl := lw_at lw_m5 121 rfl
theorem q1255 : (Jvm.Cond.instanceMethod ({ cls := "BentRiver", name := "lordOf", desc := "(I)LBentRiver$Lord;" } : Jvm.MethodName)) ∈ lw_all := lw_g (lw_at lw_m5 122 rfl) rfl
theorem q1256 : (Jvm.Cond.code ({ cls := "BentRiver", name := "lordOf", desc := "(I)LBentRiver$Lord;" } : Jvm.MethodName) prog_1_method_21_code (2 : Nat) (Option.some (Jvm.ClassFile.FieldType.object "BentRiver$Lord"))) ∈ lw_all := lw_g (lw_at lw_m5 123 rfl) rfl
theorem q1257 : (Jvm.Cond.interfaceEntry "BentRiver" (182 : Nat)) ∈ lw_tbl := lw_at lw_m5 124 rfl
theorem q1258 : (Jvm.Cond.methodLink "BentRiver" (182 : Nat) ({ cls := "java/util/List", name := "get", desc := "(I)Ljava/lang/Object;" } : Jvm.MethodName)) ∈ lw_all := lw_g (lw_at lw_m5 125 rfl) rfl
theorem q1259 : (Jvm.Cond.classLink "BentRiver" (186 : Nat) "BentRiver$Lord") ∈ lw_all := lw_g (lw_at lw_m5 126 rfl) rfl
theorem q1261 : (Jvm.Cond.instanceMethod ({ cls := "BentRiver", name := "fault", desc := "(I)I" } : Jvm.MethodName)) ∈ lw_all := lw_g (lw_at lw_m5 128 rfl) rfl
theorem q1262 : (Jvm.Cond.selects "BentRiver" ({ cls := "BentRiver", name := "fault", desc := "(I)I" } : Jvm.MethodName) ({ cls := "BentRiver", name := "fault", desc := "(I)I" } : Jvm.MethodName)) ∈ lw_all := lw_g (lw_at lw_m5 129 rfl) rfl
theorem q1263 : (Jvm.Cond.code ({ cls := "BentRiver", name := "fault", desc := "(I)I" } : Jvm.MethodName) prog_1_method_14_code (2 : Nat) (Option.some Jvm.ClassFile.FieldType.int)) ∈ lw_all := lw_g (lw_at lw_m5 130 rfl) rfl
theorem q1265 : (Jvm.Cond.instanceMethod ({ cls := "BentRiver", name := "has", desc := "(I)I" } : Jvm.MethodName)) ∈ lw_all := lw_g (lw_at lw_m5 132 rfl) rfl
theorem q1266 : (Jvm.Cond.selects "BentRiver" ({ cls := "BentRiver", name := "has", desc := "(I)I" } : Jvm.MethodName) ({ cls := "BentRiver", name := "has", desc := "(I)I" } : Jvm.MethodName)) ∈ lw_all := lw_g (lw_at lw_m5 133 rfl) rfl
theorem q1267 : (Jvm.Cond.code ({ cls := "BentRiver", name := "has", desc := "(I)I" } : Jvm.MethodName) prog_1_method_24_code (11 : Nat) (Option.some Jvm.ClassFile.FieldType.int)) ∈ lw_all := lw_g (lw_at lw_m5 134 rfl) rfl
theorem q1268 : (Jvm.Cond.methodLink "BentRiver" (169 : Nat) ({ cls := "BentRiver", name := "columns", desc := "()I" } : Jvm.MethodName)) ∈ lw_all := lw_g (lw_at lw_m5 135 rfl) rfl
theorem q1269 : (Jvm.Cond.privateMethod ({ cls := "BentRiver", name := "columns", desc := "()I" } : Jvm.MethodName)) ∈ lw_tbl := lw_at lw_m5 136 rfl
theorem q1270 : (Jvm.Cond.instanceMethod ({ cls := "BentRiver", name := "columns", desc := "()I" } : Jvm.MethodName)) ∈ lw_all := lw_g (lw_at lw_m5 137 rfl) rfl
theorem q1271 : (Jvm.Cond.code ({ cls := "BentRiver", name := "columns", desc := "()I" } : Jvm.MethodName) prog_1_method_16_code (1 : Nat) (Option.some Jvm.ClassFile.FieldType.int)) ∈ lw_all := lw_g (lw_at lw_m5 138 rfl) rfl
theorem q1272 : (Jvm.Cond.methodLink "BentRiver" (180 : Nat) ({ cls := "BentRiver", name := "lords", desc := "()I" } : Jvm.MethodName)) ∈ lw_all := lw_g (lw_at lw_m5 139 rfl) rfl
theorem q1273 : (Jvm.Cond.methodLink "BentRiver" (215 : Nat) ({ cls := "BentRiver$State", name := "bends", desc := "()I" } : Jvm.MethodName)) ∈ lw_all := lw_g (lw_at lw_m5 140 rfl) rfl
theorem q1293 : (Jvm.Cond.privateMethod ({ cls := "BentRiver", name := "isBendBy", desc := "(IIIII)Z" } : Jvm.MethodName)) ∈ lw_tbl := lw_at lw_m5 160 rfl
theorem q1294 : (Jvm.Cond.instanceMethod ({ cls := "BentRiver", name := "isBendBy", desc := "(IIIII)Z" } : Jvm.MethodName)) ∈ lw_all := lw_g (lw_at lw_m5 161 rfl) rfl
theorem q1295 : (Jvm.Cond.code ({ cls := "BentRiver", name := "isBendBy", desc := "(IIIII)Z" } : Jvm.MethodName) prog_1_method_23_code (7 : Nat) (Option.some Jvm.ClassFile.FieldType.boolean)) ∈ lw_all := lw_g (lw_at lw_m5 162 rfl) rfl
theorem q1296 : (Jvm.Cond.methodLink "BentRiver" (191 : Nat) ({ cls := "BentRiver", name := "turnOf", desc := "(IIII)I" } : Jvm.MethodName)) ∈ lw_all := lw_g (lw_at lw_m5 163 rfl) rfl
theorem q1297 : (Jvm.Cond.privateMethod ({ cls := "BentRiver", name := "turnOf", desc := "(IIII)I" } : Jvm.MethodName)) ∈ lw_tbl := lw_at lw_m5 164 rfl
theorem q1298 : (Jvm.Cond.instanceMethod ({ cls := "BentRiver", name := "turnOf", desc := "(IIII)I" } : Jvm.MethodName)) ∈ lw_all := lw_g (lw_at lw_m5 165 rfl) rfl
theorem q1299 : (Jvm.Cond.code ({ cls := "BentRiver", name := "turnOf", desc := "(IIII)I" } : Jvm.MethodName) prog_1_method_22_code (5 : Nat) (Option.some Jvm.ClassFile.FieldType.int)) ∈ lw_all := lw_g (lw_at lw_m5 166 rfl) rfl
theorem q1300 : (Jvm.Cond.methodLink "BentRiver" (188 : Nat) ({ cls := "java/lang/Math", name := "abs", desc := "(I)I" } : Jvm.MethodName)) ∈ lw_all := lw_g (lw_at lw_m5 167 rfl) rfl
theorem q1303 : (Jvm.Cond.methodLink "BentRiver" (203 : Nat) ({ cls := "BentRiver$Test", name := "holds", desc := "(LBentRiver$Moment;)Z" } : Jvm.MethodName)) ∈ lw_all := lw_g (lw_at lw_m5 170 rfl) rfl
theorem q1330 : (Jvm.Cond.static ({ cls := "BentRiver", name := "held", desc := "(J)J" } : Jvm.MethodName)) ∈ lw_all := lw_g (lw_at lw_m5 197 rfl) rfl
theorem q1331 : (Jvm.Cond.code ({ cls := "BentRiver", name := "held", desc := "(J)J" } : Jvm.MethodName) prog_1_method_3_code (2 : Nat) (Option.some Jvm.ClassFile.FieldType.long)) ∈ lw_all := lw_g (lw_at lw_m5 198 rfl) rfl
theorem q1332 : (Jvm.Cond.constantLong "BentRiver" (3 : Nat) (-1000000 : Int64)) ∈ lw_all := lw_g (lw_at lw_m5 199 rfl) rfl
theorem q1333 : (Jvm.Cond.constantLong "BentRiver" (5 : Nat) (1000000 : Int64)) ∈ lw_all := lw_g (lw_at lw_m5 200 rfl) rfl
theorem q1334 : (Jvm.Cond.methodLink "BentRiver" (7 : Nat) ({ cls := "java/lang/Math", name := "min", desc := "(JJ)J" } : Jvm.MethodName)) ∈ lw_all := lw_g (lw_at lw_m5 201 rfl) rfl
theorem q1337 : (Jvm.Cond.methodLink "BentRiver" (13 : Nat) ({ cls := "java/lang/Math", name := "max", desc := "(JJ)J" } : Jvm.MethodName)) ∈ lw_all := lw_g (lw_at lw_m5 204 rfl) rfl
theorem q1356 : (Jvm.Cond.privateMethod ({ cls := "BentRiver", name := "looked", desc := "(IJ)J" } : Jvm.MethodName)) ∈ lw_tbl := lw_at lw_m5 223 rfl
theorem q1357 : (Jvm.Cond.instanceMethod ({ cls := "BentRiver", name := "looked", desc := "(IJ)J" } : Jvm.MethodName)) ∈ lw_all := lw_g (lw_at lw_m5 224 rfl) rfl
theorem q1358 : (Jvm.Cond.code ({ cls := "BentRiver", name := "looked", desc := "(IJ)J" } : Jvm.MethodName) prog_1_method_64_code (4 : Nat) (Option.some Jvm.ClassFile.FieldType.long)) ∈ lw_all := lw_g (lw_at lw_m5 225 rfl) rfl
theorem q1359 : (Jvm.Cond.constantLong "BentRiver" (386 : Nat) (-1 : Int64)) ∈ lw_all := lw_g (lw_at lw_m5 226 rfl) rfl
theorem q1360 : (Jvm.Cond.methodLink "BentRiver" (241 : Nat) ({ cls := "BentRiver$State", name := "turn", desc := "(I)I" } : Jvm.MethodName)) ∈ lw_all := lw_g (lw_at lw_m5 227 rfl) rfl
theorem q1391 : (Jvm.Cond.instanceMethod ({ cls := "BentRiver", name := "letter", desc := "(II)I" } : Jvm.MethodName)) ∈ lw_all := lw_g (lw_at lw_m6 18 rfl) rfl
theorem q1392 : (Jvm.Cond.selects "BentRiver" ({ cls := "BentRiver", name := "letter", desc := "(II)I" } : Jvm.MethodName) ({ cls := "BentRiver", name := "letter", desc := "(II)I" } : Jvm.MethodName)) ∈ lw_all := lw_g (lw_at lw_m6 19 rfl) rfl
theorem q1393 : (Jvm.Cond.code ({ cls := "BentRiver", name := "letter", desc := "(II)I" } : Jvm.MethodName) prog_1_method_25_code (3 : Nat) (Option.some Jvm.ClassFile.FieldType.int)) ∈ lw_all := lw_g (lw_at lw_m6 20 rfl) rfl
theorem q1394 : (Jvm.Cond.methodLink "BentRiver" (228 : Nat) ({ cls := "BentRiver", name := "isLord", desc := "(I)Z" } : Jvm.MethodName)) ∈ lw_all := lw_g (lw_at lw_m6 21 rfl) rfl
theorem q1395 : (Jvm.Cond.privateMethod ({ cls := "BentRiver", name := "isLord", desc := "(I)Z" } : Jvm.MethodName)) ∈ lw_tbl := lw_at lw_m6 22 rfl
theorem q1396 : (Jvm.Cond.instanceMethod ({ cls := "BentRiver", name := "isLord", desc := "(I)Z" } : Jvm.MethodName)) ∈ lw_all := lw_g (lw_at lw_m6 23 rfl) rfl
theorem q1397 : (Jvm.Cond.code ({ cls := "BentRiver", name := "isLord", desc := "(I)Z" } : Jvm.MethodName) prog_1_method_20_code (2 : Nat) (Option.some Jvm.ClassFile.FieldType.boolean)) ∈ lw_all := lw_g (lw_at lw_m6 24 rfl) rfl
theorem q1398 : (Jvm.Cond.methodLink "BentRiver" (176 : Nat) ({ cls := "BentRiver", name := "is", desc := "(III)Z" } : Jvm.MethodName)) ∈ lw_all := lw_g (lw_at lw_m6 25 rfl) rfl
theorem q1399 : (Jvm.Cond.methodLink "BentRiver" (231 : Nat) ({ cls := "BentRiver", name := "lordOf", desc := "(I)LBentRiver$Lord;" } : Jvm.MethodName)) ∈ lw_all := lw_g (lw_at lw_m6 26 rfl) rfl
theorem q1400 : (Jvm.Cond.methodLink "BentRiver" (235 : Nat) ({ cls := "BentRiver$Lord", name := "letter", desc := "(I)I" } : Jvm.MethodName)) ∈ lw_all := lw_g (lw_at lw_m6 27 rfl) rfl
theorem q1417 : (Jvm.Cond.instanceMethod ({ cls := "BentRiver", name := "column", desc := "(II)I" } : Jvm.MethodName)) ∈ lw_all := lw_g (lw_at lw_m6 44 rfl) rfl
theorem q1418 : (Jvm.Cond.selects "BentRiver" ({ cls := "BentRiver", name := "column", desc := "(II)I" } : Jvm.MethodName) ({ cls := "BentRiver", name := "column", desc := "(II)I" } : Jvm.MethodName)) ∈ lw_all := lw_g (lw_at lw_m6 45 rfl) rfl
theorem q1419 : (Jvm.Cond.code ({ cls := "BentRiver", name := "column", desc := "(II)I" } : Jvm.MethodName) prog_1_method_26_code (3 : Nat) (Option.some Jvm.ClassFile.FieldType.int)) ∈ lw_all := lw_g (lw_at lw_m6 46 rfl) rfl
theorem q1420 : (Jvm.Cond.methodLink "BentRiver" (171 : Nat) ({ cls := "BentRiver", name := "isColumn", desc := "(I)Z" } : Jvm.MethodName)) ∈ lw_all := lw_g (lw_at lw_m6 47 rfl) rfl
theorem q1421 : (Jvm.Cond.privateMethod ({ cls := "BentRiver", name := "isColumn", desc := "(I)Z" } : Jvm.MethodName)) ∈ lw_tbl := lw_at lw_m6 48 rfl
theorem q1422 : (Jvm.Cond.instanceMethod ({ cls := "BentRiver", name := "isColumn", desc := "(I)Z" } : Jvm.MethodName)) ∈ lw_all := lw_g (lw_at lw_m6 49 rfl) rfl
theorem q1423 : (Jvm.Cond.code ({ cls := "BentRiver", name := "isColumn", desc := "(I)Z" } : Jvm.MethodName) prog_1_method_18_code (2 : Nat) (Option.some Jvm.ClassFile.FieldType.boolean)) ∈ lw_all := lw_g (lw_at lw_m6 50 rfl) rfl
theorem q1424 : (Jvm.Cond.methodLink "BentRiver" (244 : Nat) ({ cls := "BentRiver$State", name := "isBend", desc := "(I)Z" } : Jvm.MethodName)) ∈ lw_all := lw_g (lw_at lw_m6 51 rfl) rfl
theorem q1425 : (Jvm.Cond.methodLink "BentRiver" (247 : Nat) ({ cls := "BentRiver$State", name := "pay", desc := "(I)I" } : Jvm.MethodName)) ∈ lw_all := lw_g (lw_at lw_m6 52 rfl) rfl
theorem q1439 : (Jvm.Cond.instanceMethod ({ cls := "BentRiver", name := "cell", desc := "(III)I" } : Jvm.MethodName)) ∈ lw_all := lw_g (lw_at lw_m6 66 rfl) rfl
theorem q1440 : (Jvm.Cond.selects "BentRiver" ({ cls := "BentRiver", name := "cell", desc := "(III)I" } : Jvm.MethodName) ({ cls := "BentRiver", name := "cell", desc := "(III)I" } : Jvm.MethodName)) ∈ lw_all := lw_g (lw_at lw_m6 67 rfl) rfl
theorem q1441 : (Jvm.Cond.code ({ cls := "BentRiver", name := "cell", desc := "(III)I" } : Jvm.MethodName) prog_1_method_27_code (4 : Nat) (Option.some Jvm.ClassFile.FieldType.int)) ∈ lw_all := lw_g (lw_at lw_m6 68 rfl) rfl
theorem q1442 : (Jvm.Cond.methodLink "BentRiver" (250 : Nat) ({ cls := "BentRiver", name := "isCell", desc := "(II)Z" } : Jvm.MethodName)) ∈ lw_all := lw_g (lw_at lw_m6 69 rfl) rfl
theorem q1443 : (Jvm.Cond.privateMethod ({ cls := "BentRiver", name := "isCell", desc := "(II)Z" } : Jvm.MethodName)) ∈ lw_tbl := lw_at lw_m6 70 rfl
theorem q1444 : (Jvm.Cond.instanceMethod ({ cls := "BentRiver", name := "isCell", desc := "(II)Z" } : Jvm.MethodName)) ∈ lw_all := lw_g (lw_at lw_m6 71 rfl) rfl
theorem q1445 : (Jvm.Cond.code ({ cls := "BentRiver", name := "isCell", desc := "(II)Z" } : Jvm.MethodName) prog_1_method_19_code (3 : Nat) (Option.some Jvm.ClassFile.FieldType.boolean)) ∈ lw_all := lw_g (lw_at lw_m6 72 rfl) rfl
theorem q1447 : (Jvm.Cond.instanceMethod ({ cls := "BentRiver", name := "eats", desc := "(II)J" } : Jvm.MethodName)) ∈ lw_all := lw_g (lw_at lw_m6 74 rfl) rfl
theorem q1448 : (Jvm.Cond.selects "BentRiver" ({ cls := "BentRiver", name := "eats", desc := "(II)J" } : Jvm.MethodName) ({ cls := "BentRiver", name := "eats", desc := "(II)J" } : Jvm.MethodName)) ∈ lw_all := lw_g (lw_at lw_m6 75 rfl) rfl
theorem q1449 : (Jvm.Cond.code ({ cls := "BentRiver", name := "eats", desc := "(II)J" } : Jvm.MethodName) prog_1_method_28_code (3 : Nat) (Option.some Jvm.ClassFile.FieldType.long)) ∈ lw_all := lw_g (lw_at lw_m6 76 rfl) rfl
theorem q1450 : (Jvm.Cond.methodLink "BentRiver" (260 : Nat) ({ cls := "BentRiver$State", name := "eats", desc := "(II)J" } : Jvm.MethodName)) ∈ lw_all := lw_g (lw_at lw_m6 77 rfl) rfl
theorem q1457 : (Jvm.Cond.constantLong "BentRiver" (264 : Nat) (-1000000000000000 : Int64)) ∈ lw_all := lw_g (lw_at lw_m6 84 rfl) rfl
theorem q1459 : (Jvm.Cond.instanceMethod ({ cls := "BentRiver", name := "lord", desc := "(II)I" } : Jvm.MethodName)) ∈ lw_all := lw_g (lw_at lw_m6 86 rfl) rfl
theorem q1460 : (Jvm.Cond.selects "BentRiver" ({ cls := "BentRiver", name := "lord", desc := "(II)I" } : Jvm.MethodName) ({ cls := "BentRiver", name := "lord", desc := "(II)I" } : Jvm.MethodName)) ∈ lw_all := lw_g (lw_at lw_m6 87 rfl) rfl
theorem q1461 : (Jvm.Cond.code ({ cls := "BentRiver", name := "lord", desc := "(II)I" } : Jvm.MethodName) prog_1_method_29_code (4 : Nat) (Option.some Jvm.ClassFile.FieldType.int)) ∈ lw_all := lw_g (lw_at lw_m6 88 rfl) rfl
theorem q1462 : (Jvm.Cond.methodLink "BentRiver" (280 : Nat) ({ cls := "BentRiver$State", name := "bendsOf", desc := "(I)I" } : Jvm.MethodName)) ∈ lw_all := lw_g (lw_at lw_m6 89 rfl) rfl
theorem q1467 : (Jvm.Cond.instanceMethod ({ cls := "BentRiver", name := "kept", desc := "(II)I" } : Jvm.MethodName)) ∈ lw_all := lw_g (lw_at lw_m6 94 rfl) rfl
theorem q1468 : (Jvm.Cond.selects "BentRiver" ({ cls := "BentRiver", name := "kept", desc := "(II)I" } : Jvm.MethodName) ({ cls := "BentRiver", name := "kept", desc := "(II)I" } : Jvm.MethodName)) ∈ lw_all := lw_g (lw_at lw_m6 95 rfl) rfl
theorem q1469 : (Jvm.Cond.code ({ cls := "BentRiver", name := "kept", desc := "(II)I" } : Jvm.MethodName) prog_1_method_30_code (3 : Nat) (Option.some Jvm.ClassFile.FieldType.int)) ∈ lw_all := lw_g (lw_at lw_m6 96 rfl) rfl
theorem q1471 : (Jvm.Cond.instanceMethod ({ cls := "BentRiver", name := "later", desc := "(II)I" } : Jvm.MethodName)) ∈ lw_all := lw_g (lw_at lw_m6 98 rfl) rfl
theorem q1472 : (Jvm.Cond.selects "BentRiver" ({ cls := "BentRiver", name := "later", desc := "(II)I" } : Jvm.MethodName) ({ cls := "BentRiver", name := "later", desc := "(II)I" } : Jvm.MethodName)) ∈ lw_all := lw_g (lw_at lw_m6 99 rfl) rfl
theorem q1473 : (Jvm.Cond.code ({ cls := "BentRiver", name := "later", desc := "(II)I" } : Jvm.MethodName) prog_1_method_32_code (3 : Nat) (Option.some Jvm.ClassFile.FieldType.int)) ∈ lw_all := lw_g (lw_at lw_m6 100 rfl) rfl
theorem q1474 : (Jvm.Cond.methodLink "BentRiver" (289 : Nat) ({ cls := "BentRiver", name := "isAhead", desc := "(III)Z" } : Jvm.MethodName)) ∈ lw_all := lw_g (lw_at lw_m6 101 rfl) rfl
theorem q1475 : (Jvm.Cond.privateMethod ({ cls := "BentRiver", name := "isAhead", desc := "(III)Z" } : Jvm.MethodName)) ∈ lw_tbl := lw_at lw_m6 102 rfl
theorem q1476 : (Jvm.Cond.instanceMethod ({ cls := "BentRiver", name := "isAhead", desc := "(III)Z" } : Jvm.MethodName)) ∈ lw_all := lw_g (lw_at lw_m6 103 rfl) rfl
theorem q1477 : (Jvm.Cond.code ({ cls := "BentRiver", name := "isAhead", desc := "(III)Z" } : Jvm.MethodName) prog_1_method_31_code (4 : Nat) (Option.some Jvm.ClassFile.FieldType.boolean)) ∈ lw_all := lw_g (lw_at lw_m6 104 rfl) rfl
theorem q1478 : (Jvm.Cond.methodLink "BentRiver" (285 : Nat) ({ cls := "BentRiver", name := "isValley", desc := "()Z" } : Jvm.MethodName)) ∈ lw_all := lw_g (lw_at lw_m6 105 rfl) rfl
theorem q1479 : (Jvm.Cond.privateMethod ({ cls := "BentRiver", name := "isValley", desc := "()Z" } : Jvm.MethodName)) ∈ lw_tbl := lw_at lw_m6 106 rfl
theorem q1480 : (Jvm.Cond.instanceMethod ({ cls := "BentRiver", name := "isValley", desc := "()Z" } : Jvm.MethodName)) ∈ lw_all := lw_g (lw_at lw_m6 107 rfl) rfl
theorem q1481 : (Jvm.Cond.code ({ cls := "BentRiver", name := "isValley", desc := "()Z" } : Jvm.MethodName) prog_1_method_15_code (1 : Nat) (Option.some Jvm.ClassFile.FieldType.boolean)) ∈ lw_all := lw_g (lw_at lw_m6 108 rfl) rfl
theorem q1482 : (Jvm.Cond.methodLink "BentRiver" (292 : Nat) ({ cls := "BentRiver$State", name := "copy", desc := "(LBentRiver$State;)LBentRiver$State;" } : Jvm.MethodName)) ∈ lw_all := lw_g (lw_at lw_m6 109 rfl) rfl
theorem q1486 : (Jvm.Cond.methodLink "BentRiver" (296 : Nat) ({ cls := "BentRiver$State", name := "seasons", desc := "(I)LBentRiver$State;" } : Jvm.MethodName)) ∈ lw_all := lw_g (lw_at lw_m6 113 rfl) rfl
theorem q1516 : (Jvm.Cond.instanceMethod ({ cls := "BentRiver", name := "sums", desc := "(II)I" } : Jvm.MethodName)) ∈ lw_all := lw_g (lw_at lw_m6 143 rfl) rfl
theorem q1517 : (Jvm.Cond.selects "BentRiver" ({ cls := "BentRiver", name := "sums", desc := "(II)I" } : Jvm.MethodName) ({ cls := "BentRiver", name := "sums", desc := "(II)I" } : Jvm.MethodName)) ∈ lw_all := lw_g (lw_at lw_m6 144 rfl) rfl
theorem q1518 : (Jvm.Cond.code ({ cls := "BentRiver", name := "sums", desc := "(II)I" } : Jvm.MethodName) prog_1_method_33_code (5 : Nat) (Option.some Jvm.ClassFile.FieldType.int)) ∈ lw_all := lw_g (lw_at lw_m6 145 rfl) rfl
theorem q1520 : (Jvm.Cond.instanceMethod ({ cls := "BentRiver", name := "straight", desc := "()I" } : Jvm.MethodName)) ∈ lw_all := lw_g (lw_at lw_m6 147 rfl) rfl
theorem q1521 : (Jvm.Cond.selects "BentRiver" ({ cls := "BentRiver", name := "straight", desc := "()I" } : Jvm.MethodName) ({ cls := "BentRiver", name := "straight", desc := "()I" } : Jvm.MethodName)) ∈ lw_all := lw_g (lw_at lw_m6 148 rfl) rfl
theorem q1522 : (Jvm.Cond.code ({ cls := "BentRiver", name := "straight", desc := "()I" } : Jvm.MethodName) prog_1_method_34_code (2 : Nat) (Option.some Jvm.ClassFile.FieldType.int)) ∈ lw_all := lw_g (lw_at lw_m6 149 rfl) rfl
theorem q1523 : (Jvm.Cond.methodLink "BentRiver" (300 : Nat) ({ cls := "BentRiver$State", name := "passes", desc := "()I" } : Jvm.MethodName)) ∈ lw_all := lw_g (lw_at lw_m6 150 rfl) rfl
theorem q1525 : (Jvm.Cond.instanceMethod ({ cls := "BentRiver", name := "works", desc := "(IIII)I" } : Jvm.MethodName)) ∈ lw_all := lw_g (lw_at lw_m6 152 rfl) rfl
theorem q1526 : (Jvm.Cond.selects "BentRiver" ({ cls := "BentRiver", name := "works", desc := "(IIII)I" } : Jvm.MethodName) ({ cls := "BentRiver", name := "works", desc := "(IIII)I" } : Jvm.MethodName)) ∈ lw_all := lw_g (lw_at lw_m6 153 rfl) rfl
theorem q1527 : (Jvm.Cond.code ({ cls := "BentRiver", name := "works", desc := "(IIII)I" } : Jvm.MethodName) prog_1_method_39_code (6 : Nat) (Option.some Jvm.ClassFile.FieldType.int)) ∈ lw_all := lw_g (lw_at lw_m6 154 rfl) rfl
theorem q1528 : (Jvm.Cond.methodLink "BentRiver" (314 : Nat) ({ cls := "BentRiver", name := "runsBy", desc := "(IIII)Z" } : Jvm.MethodName)) ∈ lw_all := lw_g (lw_at lw_m6 155 rfl) rfl
theorem q1529 : (Jvm.Cond.privateMethod ({ cls := "BentRiver", name := "runsBy", desc := "(IIII)Z" } : Jvm.MethodName)) ∈ lw_tbl := lw_at lw_m6 156 rfl
theorem q1530 : (Jvm.Cond.instanceMethod ({ cls := "BentRiver", name := "runsBy", desc := "(IIII)Z" } : Jvm.MethodName)) ∈ lw_all := lw_g (lw_at lw_m6 157 rfl) rfl
theorem q1531 : (Jvm.Cond.code ({ cls := "BentRiver", name := "runsBy", desc := "(IIII)Z" } : Jvm.MethodName) prog_1_method_38_code (8 : Nat) (Option.some Jvm.ClassFile.FieldType.boolean)) ∈ lw_all := lw_g (lw_at lw_m6 158 rfl) rfl
theorem q1532 : (Jvm.Cond.methodLink "BentRiver" (303 : Nat) ({ cls := "BentRiver", name := "places", desc := "()I" } : Jvm.MethodName)) ∈ lw_all := lw_g (lw_at lw_m6 159 rfl) rfl
theorem q1533 : (Jvm.Cond.privateMethod ({ cls := "BentRiver", name := "places", desc := "()I" } : Jvm.MethodName)) ∈ lw_tbl := lw_at lw_m6 160 rfl
theorem q1534 : (Jvm.Cond.instanceMethod ({ cls := "BentRiver", name := "places", desc := "()I" } : Jvm.MethodName)) ∈ lw_all := lw_g (lw_at lw_m6 161 rfl) rfl
theorem q1535 : (Jvm.Cond.code ({ cls := "BentRiver", name := "places", desc := "()I" } : Jvm.MethodName) prog_1_method_35_code (1 : Nat) (Option.some Jvm.ClassFile.FieldType.int)) ∈ lw_all := lw_g (lw_at lw_m6 162 rfl) rfl
theorem q1536 : (Jvm.Cond.methodLink "BentRiver" (306 : Nat) ({ cls := "BentRiver", name := "isFull", desc := "(LBentRiver$State;I)Z" } : Jvm.MethodName)) ∈ lw_all := lw_g (lw_at lw_m6 163 rfl) rfl
theorem q1537 : (Jvm.Cond.privateMethod ({ cls := "BentRiver", name := "isFull", desc := "(LBentRiver$State;I)Z" } : Jvm.MethodName)) ∈ lw_tbl := lw_at lw_m6 164 rfl
theorem q1538 : (Jvm.Cond.instanceMethod ({ cls := "BentRiver", name := "isFull", desc := "(LBentRiver$State;I)Z" } : Jvm.MethodName)) ∈ lw_all := lw_g (lw_at lw_m6 165 rfl) rfl
theorem q1539 : (Jvm.Cond.code ({ cls := "BentRiver", name := "isFull", desc := "(LBentRiver$State;I)Z" } : Jvm.MethodName) prog_1_method_37_code (3 : Nat) (Option.some Jvm.ClassFile.FieldType.boolean)) ∈ lw_all := lw_g (lw_at lw_m6 166 rfl) rfl
theorem q1540 : (Jvm.Cond.methodLink "BentRiver" (310 : Nat) ({ cls := "BentRiver", name := "plants", desc := "(LBentRiver$State;I)V" } : Jvm.MethodName)) ∈ lw_all := lw_g (lw_at lw_m6 167 rfl) rfl
theorem q1541 : (Jvm.Cond.privateMethod ({ cls := "BentRiver", name := "plants", desc := "(LBentRiver$State;I)V" } : Jvm.MethodName)) ∈ lw_tbl := lw_at lw_m6 168 rfl
theorem q1542 : (Jvm.Cond.instanceMethod ({ cls := "BentRiver", name := "plants", desc := "(LBentRiver$State;I)V" } : Jvm.MethodName)) ∈ lw_all := lw_g (lw_at lw_m6 169 rfl) rfl
theorem q1543 : (Jvm.Cond.code ({ cls := "BentRiver", name := "plants", desc := "(LBentRiver$State;I)V" } : Jvm.MethodName) prog_1_method_36_code (3 : Nat) (Option.none : Option Jvm.ClassFile.FieldType)) ∈ lw_all := lw_g (lw_at lw_m6 170 rfl) rfl
theorem q1545 : (Jvm.Cond.instanceMethod ({ cls := "BentRiver", name := "rest", desc := "(I)I" } : Jvm.MethodName)) ∈ lw_all := lw_g (lw_at lw_m6 172 rfl) rfl
theorem q1546 : (Jvm.Cond.selects "BentRiver" ({ cls := "BentRiver", name := "rest", desc := "(I)I" } : Jvm.MethodName) ({ cls := "BentRiver", name := "rest", desc := "(I)I" } : Jvm.MethodName)) ∈ lw_all := lw_g (lw_at lw_m6 173 rfl) rfl
theorem q1547 : (Jvm.Cond.code ({ cls := "BentRiver", name := "rest", desc := "(I)I" } : Jvm.MethodName) prog_1_method_41_code (4 : Nat) (Option.some Jvm.ClassFile.FieldType.int)) ∈ lw_all := lw_g (lw_at lw_m6 174 rfl) rfl
theorem q1548 : (Jvm.Cond.methodLink "BentRiver" (318 : Nat) ({ cls := "BentRiver", name := "has", desc := "(II)Z" } : Jvm.MethodName)) ∈ lw_all := lw_g (lw_at lw_m6 175 rfl) rfl
theorem q1549 : (Jvm.Cond.methodLink "BentRiver" (323 : Nat) ({ cls := "java/lang/Integer", name := "bitCount", desc := "(I)I" } : Jvm.MethodName)) ∈ lw_all := lw_g (lw_at lw_m6 176 rfl) rfl
theorem q1555 : (Jvm.Cond.methodLink "BentRiver" (328 : Nat) ({ cls := "BentRiver", name := "isRest", desc := "(I)Z" } : Jvm.MethodName)) ∈ lw_all := lw_g (lw_at lw_m6 182 rfl) rfl
theorem q1556 : (Jvm.Cond.privateMethod ({ cls := "BentRiver", name := "isRest", desc := "(I)Z" } : Jvm.MethodName)) ∈ lw_tbl := lw_at lw_m6 183 rfl
theorem q1557 : (Jvm.Cond.instanceMethod ({ cls := "BentRiver", name := "isRest", desc := "(I)Z" } : Jvm.MethodName)) ∈ lw_all := lw_g (lw_at lw_m6 184 rfl) rfl
theorem q1558 : (Jvm.Cond.code ({ cls := "BentRiver", name := "isRest", desc := "(I)Z" } : Jvm.MethodName) prog_1_method_40_code (3 : Nat) (Option.some Jvm.ClassFile.FieldType.boolean)) ∈ lw_all := lw_g (lw_at lw_m6 185 rfl) rfl
theorem q1560 : (Jvm.Cond.instanceMethod ({ cls := "BentRiver", name := "barge", desc := "()I" } : Jvm.MethodName)) ∈ lw_all := lw_g (lw_at lw_m6 187 rfl) rfl
theorem q1561 : (Jvm.Cond.selects "BentRiver" ({ cls := "BentRiver", name := "barge", desc := "()I" } : Jvm.MethodName) ({ cls := "BentRiver", name := "barge", desc := "()I" } : Jvm.MethodName)) ∈ lw_all := lw_g (lw_at lw_m6 188 rfl) rfl
theorem q1562 : (Jvm.Cond.code ({ cls := "BentRiver", name := "barge", desc := "()I" } : Jvm.MethodName) prog_1_method_42_code (1 : Nat) (Option.some Jvm.ClassFile.FieldType.int)) ∈ lw_all := lw_g (lw_at lw_m6 189 rfl) rfl
theorem q1563 : (Jvm.Cond.methodLink "BentRiver" (331 : Nat) ({ cls := "BentRiver$State", name := "barge", desc := "()I" } : Jvm.MethodName)) ∈ lw_all := lw_g (lw_at lw_m6 190 rfl) rfl
theorem q1568 : (Jvm.Cond.instanceMethod ({ cls := "BentRiver", name := "cuts", desc := "()I" } : Jvm.MethodName)) ∈ lw_all := lw_g (lw_at lw_m6 195 rfl) rfl
theorem q1569 : (Jvm.Cond.selects "BentRiver" ({ cls := "BentRiver", name := "cuts", desc := "()I" } : Jvm.MethodName) ({ cls := "BentRiver", name := "cuts", desc := "()I" } : Jvm.MethodName)) ∈ lw_all := lw_g (lw_at lw_m6 196 rfl) rfl
theorem q1570 : (Jvm.Cond.code ({ cls := "BentRiver", name := "cuts", desc := "()I" } : Jvm.MethodName) prog_1_method_43_code (4 : Nat) (Option.some Jvm.ClassFile.FieldType.int)) ∈ lw_all := lw_g (lw_at lw_m6 197 rfl) rfl
theorem q1571 : (Jvm.Cond.methodLink "BentRiver" (334 : Nat) ({ cls := "BentRiver$State", name := "half", desc := "(I)I" } : Jvm.MethodName)) ∈ lw_all := lw_g (lw_at lw_m6 198 rfl) rfl
theorem q1576 : (Jvm.Cond.instanceMethod ({ cls := "BentRiver", name := "dream", desc := "(I)I" } : Jvm.MethodName)) ∈ lw_all := lw_g (lw_at lw_m6 203 rfl) rfl
theorem q1577 : (Jvm.Cond.selects "BentRiver" ({ cls := "BentRiver", name := "dream", desc := "(I)I" } : Jvm.MethodName) ({ cls := "BentRiver", name := "dream", desc := "(I)I" } : Jvm.MethodName)) ∈ lw_all := lw_g (lw_at lw_m6 204 rfl) rfl
theorem q1578 : (Jvm.Cond.code ({ cls := "BentRiver", name := "dream", desc := "(I)I" } : Jvm.MethodName) prog_1_method_48_code (3 : Nat) (Option.some Jvm.ClassFile.FieldType.int)) ∈ lw_all := lw_g (lw_at lw_m6 205 rfl) rfl
theorem q1579 : (Jvm.Cond.methodLink "BentRiver" (357 : Nat) ({ cls := "BentRiver", name := "dreams", desc := "()I" } : Jvm.MethodName)) ∈ lw_all := lw_g (lw_at lw_m6 206 rfl) rfl
theorem q1580 : (Jvm.Cond.privateMethod ({ cls := "BentRiver", name := "dreams", desc := "()I" } : Jvm.MethodName)) ∈ lw_tbl := lw_at lw_m6 207 rfl
theorem q1581 : (Jvm.Cond.instanceMethod ({ cls := "BentRiver", name := "dreams", desc := "()I" } : Jvm.MethodName)) ∈ lw_all := lw_g (lw_at lw_m6 208 rfl) rfl
theorem q1582 : (Jvm.Cond.code ({ cls := "BentRiver", name := "dreams", desc := "()I" } : Jvm.MethodName) prog_1_method_47_code (6 : Nat) (Option.some Jvm.ClassFile.FieldType.int)) ∈ lw_all := lw_g (lw_at lw_m6 209 rfl) rfl
theorem q1583 : (Jvm.Cond.methodLink "BentRiver" (353 : Nat) ({ cls := "BentRiver", name := "mostFrom", desc := "(III)I" } : Jvm.MethodName)) ∈ lw_all := lw_g (lw_at lw_m6 210 rfl) rfl
theorem q1584 : (Jvm.Cond.privateMethod ({ cls := "BentRiver", name := "mostFrom", desc := "(III)I" } : Jvm.MethodName)) ∈ lw_tbl := lw_at lw_m6 211 rfl
theorem q1585 : (Jvm.Cond.instanceMethod ({ cls := "BentRiver", name := "mostFrom", desc := "(III)I" } : Jvm.MethodName)) ∈ lw_all := lw_g (lw_at lw_m6 212 rfl) rfl
theorem q1586 : (Jvm.Cond.code ({ cls := "BentRiver", name := "mostFrom", desc := "(III)I" } : Jvm.MethodName) prog_1_method_46_code (6 : Nat) (Option.some Jvm.ClassFile.FieldType.int)) ∈ lw_all := lw_g (lw_at lw_m6 213 rfl) rfl
theorem q1587 : (Jvm.Cond.methodLink "BentRiver" (344 : Nat) ({ cls := "BentRiver", name := "paidBy", desc := "(IIII)I" } : Jvm.MethodName)) ∈ lw_all := lw_g (lw_at lw_m6 214 rfl) rfl
theorem q1588 : (Jvm.Cond.privateMethod ({ cls := "BentRiver", name := "paidBy", desc := "(IIII)I" } : Jvm.MethodName)) ∈ lw_tbl := lw_at lw_m6 215 rfl
theorem q1589 : (Jvm.Cond.instanceMethod ({ cls := "BentRiver", name := "paidBy", desc := "(IIII)I" } : Jvm.MethodName)) ∈ lw_all := lw_g (lw_at lw_m6 216 rfl) rfl
theorem q1590 : (Jvm.Cond.code ({ cls := "BentRiver", name := "paidBy", desc := "(IIII)I" } : Jvm.MethodName) prog_1_method_45_code (5 : Nat) (Option.some Jvm.ClassFile.FieldType.int)) ∈ lw_all := lw_g (lw_at lw_m6 217 rfl) rfl
theorem q1591 : (Jvm.Cond.methodLink "BentRiver" (340 : Nat) ({ cls := "BentRiver", name := "isBendBy", desc := "(IIIII)Z" } : Jvm.MethodName)) ∈ lw_all := lw_g (lw_at lw_m6 218 rfl) rfl
theorem q1592 : (Jvm.Cond.methodLink "BentRiver" (347 : Nat) ({ cls := "BentRiver", name := "areNear", desc := "(II)Z" } : Jvm.MethodName)) ∈ lw_all := lw_g (lw_at lw_m6 219 rfl) rfl
theorem q1593 : (Jvm.Cond.privateMethod ({ cls := "BentRiver", name := "areNear", desc := "(II)Z" } : Jvm.MethodName)) ∈ lw_tbl := lw_at lw_m6 220 rfl
theorem q1594 : (Jvm.Cond.instanceMethod ({ cls := "BentRiver", name := "areNear", desc := "(II)Z" } : Jvm.MethodName)) ∈ lw_all := lw_g (lw_at lw_m6 221 rfl) rfl
theorem q1595 : (Jvm.Cond.code ({ cls := "BentRiver", name := "areNear", desc := "(II)Z" } : Jvm.MethodName) prog_1_method_44_code (3 : Nat) (Option.some Jvm.ClassFile.FieldType.boolean)) ∈ lw_all := lw_g (lw_at lw_m6 222 rfl) rfl
theorem q1596 : (Jvm.Cond.methodLink "BentRiver" (350 : Nat) ({ cls := "java/lang/Math", name := "max", desc := "(II)I" } : Jvm.MethodName)) ∈ lw_all := lw_g (lw_at lw_m6 223 rfl) rfl
theorem q1598 : (Jvm.Cond.instanceMethod ({ cls := "BentRiver", name := "see", desc := "()I" } : Jvm.MethodName)) ∈ lw_all := lw_g (lw_at lw_m6 225 rfl) rfl
theorem q1599 : (Jvm.Cond.selects "BentRiver" ({ cls := "BentRiver", name := "see", desc := "()I" } : Jvm.MethodName) ({ cls := "BentRiver", name := "see", desc := "()I" } : Jvm.MethodName)) ∈ lw_all := lw_g (lw_at lw_m6 226 rfl) rfl
theorem q1600 : (Jvm.Cond.code ({ cls := "BentRiver", name := "see", desc := "()I" } : Jvm.MethodName) prog_1_method_51_code (4 : Nat) (Option.some Jvm.ClassFile.FieldType.int)) ∈ lw_all := lw_g (lw_at lw_m6 227 rfl) rfl
theorem q1601 : (Jvm.Cond.methodLink "BentRiver" (360 : Nat) ({ cls := "BentRiver", name := "byteAt", desc := "(I)I" } : Jvm.MethodName)) ∈ lw_all := lw_g (lw_at lw_m6 228 rfl) rfl
theorem q1602 : (Jvm.Cond.privateMethod ({ cls := "BentRiver", name := "byteAt", desc := "(I)I" } : Jvm.MethodName)) ∈ lw_tbl := lw_at lw_m6 229 rfl
theorem q1603 : (Jvm.Cond.instanceMethod ({ cls := "BentRiver", name := "byteAt", desc := "(I)I" } : Jvm.MethodName)) ∈ lw_all := lw_g (lw_at lw_m6 230 rfl) rfl
theorem q1604 : (Jvm.Cond.code ({ cls := "BentRiver", name := "byteAt", desc := "(I)I" } : Jvm.MethodName) prog_1_method_49_code (2 : Nat) (Option.some Jvm.ClassFile.FieldType.int)) ∈ lw_all := lw_g (lw_at lw_m6 231 rfl) rfl
theorem q1606 : (Jvm.Cond.instanceMethod ({ cls := "BentRiver", name := "ran", desc := "(I)I" } : Jvm.MethodName)) ∈ lw_all := lw_g (lw_at lw_m6 233 rfl) rfl
theorem q1607 : (Jvm.Cond.selects "BentRiver" ({ cls := "BentRiver", name := "ran", desc := "(I)I" } : Jvm.MethodName) ({ cls := "BentRiver", name := "ran", desc := "(I)I" } : Jvm.MethodName)) ∈ lw_all := lw_g (lw_at lw_m6 234 rfl) rfl
theorem q1608 : (Jvm.Cond.code ({ cls := "BentRiver", name := "ran", desc := "(I)I" } : Jvm.MethodName) prog_1_method_53_code (4 : Nat) (Option.some Jvm.ClassFile.FieldType.int)) ∈ lw_all := lw_g (lw_at lw_m6 235 rfl) rfl
theorem q1609 : (Jvm.Cond.methodLink "BentRiver" (363 : Nat) ({ cls := "BentRiver", name := "canRun", desc := "(II)Z" } : Jvm.MethodName)) ∈ lw_all := lw_g (lw_at lw_m6 236 rfl) rfl
theorem q1610 : (Jvm.Cond.privateMethod ({ cls := "BentRiver", name := "canRun", desc := "(II)Z" } : Jvm.MethodName)) ∈ lw_tbl := lw_at lw_m6 237 rfl
theorem q1611 : (Jvm.Cond.instanceMethod ({ cls := "BentRiver", name := "canRun", desc := "(II)Z" } : Jvm.MethodName)) ∈ lw_all := lw_g (lw_at lw_m6 238 rfl) rfl
theorem q1612 : (Jvm.Cond.code ({ cls := "BentRiver", name := "canRun", desc := "(II)Z" } : Jvm.MethodName) prog_1_method_52_code (6 : Nat) (Option.some Jvm.ClassFile.FieldType.boolean)) ∈ lw_all := lw_g (lw_at lw_m6 239 rfl) rfl
theorem q1614 : (Jvm.Cond.instanceMethod ({ cls := "BentRiver", name := "tells", desc := "(II)I" } : Jvm.MethodName)) ∈ lw_all := lw_g (lw_at lw_m7 1 rfl) rfl
theorem q1615 : (Jvm.Cond.selects "BentRiver" ({ cls := "BentRiver", name := "tells", desc := "(II)I" } : Jvm.MethodName) ({ cls := "BentRiver", name := "tells", desc := "(II)I" } : Jvm.MethodName)) ∈ lw_all := lw_g (lw_at lw_m7 2 rfl) rfl
theorem q1616 : (Jvm.Cond.code ({ cls := "BentRiver", name := "tells", desc := "(II)I" } : Jvm.MethodName) prog_1_method_54_code (11 : Nat) (Option.some Jvm.ClassFile.FieldType.int)) ∈ lw_all := lw_g (lw_at lw_m7 3 rfl) rfl
theorem q1617 : (Jvm.Cond.methodLink "BentRiver" (366 : Nat) ({ cls := "BentRiver", name := "ran", desc := "(I)I" } : Jvm.MethodName)) ∈ lw_all := lw_g (lw_at lw_m7 4 rfl) rfl
theorem q1618 : (Jvm.Cond.constant "BentRiver" (369 : Nat) (100000000 : Int32)) ∈ lw_all := lw_g (lw_at lw_m7 5 rfl) rfl
theorem q1620 : (Jvm.Cond.instanceMethod ({ cls := "BentRiver", name := "undo", desc := "()Z" } : Jvm.MethodName)) ∈ lw_all := lw_g (lw_at lw_m7 7 rfl) rfl
theorem q1621 : (Jvm.Cond.selects "BentRiver" ({ cls := "BentRiver", name := "undo", desc := "()Z" } : Jvm.MethodName) ({ cls := "BentRiver", name := "undo", desc := "()Z" } : Jvm.MethodName)) ∈ lw_all := lw_g (lw_at lw_m7 8 rfl) rfl
theorem q1622 : (Jvm.Cond.code ({ cls := "BentRiver", name := "undo", desc := "()Z" } : Jvm.MethodName) prog_1_method_56_code (1 : Nat) (Option.some Jvm.ClassFile.FieldType.boolean)) ∈ lw_all := lw_g (lw_at lw_m7 9 rfl) rfl
theorem q1624 : (Jvm.Cond.instanceMethod ({ cls := "BentRiver", name := "plant", desc := "(II)I" } : Jvm.MethodName)) ∈ lw_all := lw_g (lw_at lw_m7 11 rfl) rfl
theorem q1625 : (Jvm.Cond.selects "BentRiver" ({ cls := "BentRiver", name := "plant", desc := "(II)I" } : Jvm.MethodName) ({ cls := "BentRiver", name := "plant", desc := "(II)I" } : Jvm.MethodName)) ∈ lw_all := lw_g (lw_at lw_m7 12 rfl) rfl
theorem q1626 : (Jvm.Cond.code ({ cls := "BentRiver", name := "plant", desc := "(II)I" } : Jvm.MethodName) prog_1_method_57_code (3 : Nat) (Option.some Jvm.ClassFile.FieldType.int)) ∈ lw_all := lw_g (lw_at lw_m7 13 rfl) rfl
theorem q1627 : (Jvm.Cond.methodLink "BentRiver" (370 : Nat) ({ cls := "BentRiver", name := "keeps", desc := "()V" } : Jvm.MethodName)) ∈ lw_all := lw_g (lw_at lw_m7 14 rfl) rfl
theorem q1628 : (Jvm.Cond.privateMethod ({ cls := "BentRiver", name := "keeps", desc := "()V" } : Jvm.MethodName)) ∈ lw_tbl := lw_at lw_m7 15 rfl
theorem q1629 : (Jvm.Cond.instanceMethod ({ cls := "BentRiver", name := "keeps", desc := "()V" } : Jvm.MethodName)) ∈ lw_all := lw_g (lw_at lw_m7 16 rfl) rfl
theorem q1630 : (Jvm.Cond.code ({ cls := "BentRiver", name := "keeps", desc := "()V" } : Jvm.MethodName) prog_1_method_55_code (3 : Nat) (Option.none : Option Jvm.ClassFile.FieldType)) ∈ lw_all := lw_g (lw_at lw_m7 17 rfl) rfl
theorem q1632 : (Jvm.Cond.instanceMethod ({ cls := "BentRiver", name := "offer", desc := "(II)Z" } : Jvm.MethodName)) ∈ lw_all := lw_g (lw_at lw_m7 19 rfl) rfl
theorem q1633 : (Jvm.Cond.selects "BentRiver" ({ cls := "BentRiver", name := "offer", desc := "(II)Z" } : Jvm.MethodName) ({ cls := "BentRiver", name := "offer", desc := "(II)Z" } : Jvm.MethodName)) ∈ lw_all := lw_g (lw_at lw_m7 20 rfl) rfl
theorem q1634 : (Jvm.Cond.code ({ cls := "BentRiver", name := "offer", desc := "(II)Z" } : Jvm.MethodName) prog_1_method_58_code (3 : Nat) (Option.some Jvm.ClassFile.FieldType.boolean)) ∈ lw_all := lw_g (lw_at lw_m7 21 rfl) rfl
theorem q1636 : (Jvm.Cond.instanceMethod ({ cls := "BentRiver", name := "cut", desc := "(I)Z" } : Jvm.MethodName)) ∈ lw_all := lw_g (lw_at lw_m7 23 rfl) rfl
theorem q1637 : (Jvm.Cond.selects "BentRiver" ({ cls := "BentRiver", name := "cut", desc := "(I)Z" } : Jvm.MethodName) ({ cls := "BentRiver", name := "cut", desc := "(I)Z" } : Jvm.MethodName)) ∈ lw_all := lw_g (lw_at lw_m7 24 rfl) rfl
theorem q1638 : (Jvm.Cond.code ({ cls := "BentRiver", name := "cut", desc := "(I)Z" } : Jvm.MethodName) prog_1_method_59_code (2 : Nat) (Option.some Jvm.ClassFile.FieldType.boolean)) ∈ lw_all := lw_g (lw_at lw_m7 25 rfl) rfl
theorem q1640 : (Jvm.Cond.instanceMethod ({ cls := "BentRiver", name := "seasons", desc := "(I)I" } : Jvm.MethodName)) ∈ lw_all := lw_g (lw_at lw_m7 27 rfl) rfl
theorem q1641 : (Jvm.Cond.selects "BentRiver" ({ cls := "BentRiver", name := "seasons", desc := "(I)I" } : Jvm.MethodName) ({ cls := "BentRiver", name := "seasons", desc := "(I)I" } : Jvm.MethodName)) ∈ lw_all := lw_g (lw_at lw_m7 28 rfl) rfl
theorem q1642 : (Jvm.Cond.code ({ cls := "BentRiver", name := "seasons", desc := "(I)I" } : Jvm.MethodName) prog_1_method_60_code (4 : Nat) (Option.some Jvm.ClassFile.FieldType.int)) ∈ lw_all := lw_g (lw_at lw_m7 29 rfl) rfl
theorem q1644 : (Jvm.Cond.instanceMethod ({ cls := "BentRiver", name := "chance", desc := "(I)I" } : Jvm.MethodName)) ∈ lw_all := lw_g (lw_at lw_m7 31 rfl) rfl
theorem q1645 : (Jvm.Cond.selects "BentRiver" ({ cls := "BentRiver", name := "chance", desc := "(I)I" } : Jvm.MethodName) ({ cls := "BentRiver", name := "chance", desc := "(I)I" } : Jvm.MethodName)) ∈ lw_all := lw_g (lw_at lw_m7 32 rfl) rfl
theorem q1646 : (Jvm.Cond.code ({ cls := "BentRiver", name := "chance", desc := "(I)I" } : Jvm.MethodName) prog_1_method_62_code (6 : Nat) (Option.some Jvm.ClassFile.FieldType.int)) ∈ lw_all := lw_g (lw_at lw_m7 33 rfl) rfl
theorem q1647 : (Jvm.Cond.methodLink "BentRiver" (380 : Nat) ({ cls := "BentRiver", name := "draw", desc := "(I)I" } : Jvm.MethodName)) ∈ lw_all := lw_g (lw_at lw_m7 34 rfl) rfl
theorem q1648 : (Jvm.Cond.privateMethod ({ cls := "BentRiver", name := "draw", desc := "(I)I" } : Jvm.MethodName)) ∈ lw_tbl := lw_at lw_m7 35 rfl
theorem q1649 : (Jvm.Cond.instanceMethod ({ cls := "BentRiver", name := "draw", desc := "(I)I" } : Jvm.MethodName)) ∈ lw_all := lw_g (lw_at lw_m7 36 rfl) rfl
theorem q1650 : (Jvm.Cond.code ({ cls := "BentRiver", name := "draw", desc := "(I)I" } : Jvm.MethodName) prog_1_method_61_code (2 : Nat) (Option.some Jvm.ClassFile.FieldType.int)) ∈ lw_all := lw_g (lw_at lw_m7 37 rfl) rfl
theorem q1651 : (Jvm.Cond.constantLong "BentRiver" (372 : Nat) (1103515245 : Int64)) ∈ lw_all := lw_g (lw_at lw_m7 38 rfl) rfl
theorem q1652 : (Jvm.Cond.constantLong "BentRiver" (374 : Nat) (12345 : Int64)) ∈ lw_all := lw_g (lw_at lw_m7 39 rfl) rfl
theorem q1653 : (Jvm.Cond.constantLong "BentRiver" (376 : Nat) (2147483648 : Int64)) ∈ lw_all := lw_g (lw_at lw_m7 40 rfl) rfl
theorem q1654 : (Jvm.Cond.constantLong "BentRiver" (378 : Nat) (64 : Int64)) ∈ lw_all := lw_g (lw_at lw_m7 41 rfl) rfl
theorem q1656 : (Jvm.Cond.instanceMethod ({ cls := "BentRiver", name := "seed", desc := "(I)Z" } : Jvm.MethodName)) ∈ lw_all := lw_g (lw_at lw_m7 43 rfl) rfl
theorem q1657 : (Jvm.Cond.selects "BentRiver" ({ cls := "BentRiver", name := "seed", desc := "(I)Z" } : Jvm.MethodName) ({ cls := "BentRiver", name := "seed", desc := "(I)Z" } : Jvm.MethodName)) ∈ lw_all := lw_g (lw_at lw_m7 44 rfl) rfl
theorem q1658 : (Jvm.Cond.code ({ cls := "BentRiver", name := "seed", desc := "(I)Z" } : Jvm.MethodName) prog_1_method_63_code (2 : Nat) (Option.some Jvm.ClassFile.FieldType.boolean)) ∈ lw_all := lw_g (lw_at lw_m7 45 rfl) rfl
theorem q1660 : (Jvm.Cond.instanceMethod ({ cls := "BentRiver", name := "ask", desc := "()J" } : Jvm.MethodName)) ∈ lw_all := lw_g (lw_at lw_m7 47 rfl) rfl
theorem q1661 : (Jvm.Cond.selects "BentRiver" ({ cls := "BentRiver", name := "ask", desc := "()J" } : Jvm.MethodName) ({ cls := "BentRiver", name := "ask", desc := "()J" } : Jvm.MethodName)) ∈ lw_all := lw_g (lw_at lw_m7 48 rfl) rfl
theorem q1662 : (Jvm.Cond.codeWith ({ cls := "BentRiver", name := "ask", desc := "()J" } : Jvm.MethodName) prog_1_method_65_code (4 : Nat) (Option.some Jvm.ClassFile.FieldType.long) [((26 : Nat), (35 : Nat), (38 : Nat), (137 : Nat))]) ∈ lw_all := lw_g (lw_at lw_m7 49 rfl) rfl
theorem q1663 : (Jvm.Cond.methodLink "BentRiver" (388 : Nat) ({ cls := "BentRiver$Reader", name := "question", desc := "(I)LBentRiver$Question;" } : Jvm.MethodName)) ∈ lw_all := lw_g (lw_at lw_m7 50 rfl) rfl
theorem q1668 : (Jvm.Cond.laysStatic "BentRiver" "TOLD_OF" "[Ljava/lang/String;") ∈ lw_tbl := lw_at lw_m7 55 rfl
theorem q1692 : (Jvm.Cond.methodLink "BentRiver" (392 : Nat) ({ cls := "BentRiver$Question", name := "meets", desc := "(ILBentRiver$Moment;)V" } : Jvm.MethodName)) ∈ lw_all := lw_g (lw_at lw_m7 79 rfl) rfl
theorem q1700 : (Jvm.Cond.methodLink "BentRiver" (398 : Nat) ({ cls := "BentRiver$Question", name := "answer", desc := "()J" } : Jvm.MethodName)) ∈ lw_all := lw_g (lw_at lw_m7 87 rfl) rfl
theorem q1705 : (Jvm.Cond.instanceMethod ({ cls := "BentRiver", name := "image", desc := "()I" } : Jvm.MethodName)) ∈ lw_all := lw_g (lw_at lw_m7 92 rfl) rfl
theorem q1706 : (Jvm.Cond.selects "BentRiver" ({ cls := "BentRiver", name := "image", desc := "()I" } : Jvm.MethodName) ({ cls := "BentRiver", name := "image", desc := "()I" } : Jvm.MethodName)) ∈ lw_all := lw_g (lw_at lw_m7 93 rfl) rfl
theorem q1707 : (Jvm.Cond.code ({ cls := "BentRiver", name := "image", desc := "()I" } : Jvm.MethodName) prog_1_method_68_code (2 : Nat) (Option.some Jvm.ClassFile.FieldType.int)) ∈ lw_all := lw_g (lw_at lw_m7 94 rfl) rfl
theorem q1708 : (Jvm.Cond.methodLink "BentRiver" (405 : Nat) ({ cls := "BentRiver", name := "writes", desc := "(II)V" } : Jvm.MethodName)) ∈ lw_all := lw_g (lw_at lw_m7 95 rfl) rfl
theorem q1709 : (Jvm.Cond.privateMethod ({ cls := "BentRiver", name := "writes", desc := "(II)V" } : Jvm.MethodName)) ∈ lw_tbl := lw_at lw_m7 96 rfl
theorem q1710 : (Jvm.Cond.instanceMethod ({ cls := "BentRiver", name := "writes", desc := "(II)V" } : Jvm.MethodName)) ∈ lw_all := lw_g (lw_at lw_m7 97 rfl) rfl
theorem q1711 : (Jvm.Cond.code ({ cls := "BentRiver", name := "writes", desc := "(II)V" } : Jvm.MethodName) prog_1_method_66_code (4 : Nat) (Option.none : Option Jvm.ClassFile.FieldType)) ∈ lw_all := lw_g (lw_at lw_m7 98 rfl) rfl
theorem q1712 : (Jvm.Cond.methodLink "BentRiver" (409 : Nat) ({ cls := "BentRiver", name := "check", desc := "([BI)I" } : Jvm.MethodName)) ∈ lw_all := lw_g (lw_at lw_m7 99 rfl) rfl
theorem q1713 : (Jvm.Cond.static ({ cls := "BentRiver", name := "check", desc := "([BI)I" } : Jvm.MethodName)) ∈ lw_all := lw_g (lw_at lw_m7 100 rfl) rfl
theorem q1714 : (Jvm.Cond.code ({ cls := "BentRiver", name := "check", desc := "([BI)I" } : Jvm.MethodName) prog_1_method_67_code (4 : Nat) (Option.some Jvm.ClassFile.FieldType.int)) ∈ lw_all := lw_g (lw_at lw_m7 101 rfl) rfl
theorem q1716 : (Jvm.Cond.instanceMethod ({ cls := "BentRiver", name := "octet", desc := "(I)I" } : Jvm.MethodName)) ∈ lw_all := lw_g (lw_at lw_m7 103 rfl) rfl
theorem q1717 : (Jvm.Cond.selects "BentRiver" ({ cls := "BentRiver", name := "octet", desc := "(I)I" } : Jvm.MethodName) ({ cls := "BentRiver", name := "octet", desc := "(I)I" } : Jvm.MethodName)) ∈ lw_all := lw_g (lw_at lw_m7 104 rfl) rfl
theorem q1718 : (Jvm.Cond.code ({ cls := "BentRiver", name := "octet", desc := "(I)I" } : Jvm.MethodName) prog_1_method_69_code (2 : Nat) (Option.some Jvm.ClassFile.FieldType.int)) ∈ lw_all := lw_g (lw_at lw_m7 105 rfl) rfl
theorem q1720 : (Jvm.Cond.instanceMethod ({ cls := "BentRiver", name := "on", desc := "()Z" } : Jvm.MethodName)) ∈ lw_all := lw_g (lw_at lw_m7 107 rfl) rfl
theorem q1721 : (Jvm.Cond.selects "BentRiver" ({ cls := "BentRiver", name := "on", desc := "()Z" } : Jvm.MethodName) ({ cls := "BentRiver", name := "on", desc := "()Z" } : Jvm.MethodName)) ∈ lw_all := lw_g (lw_at lw_m7 108 rfl) rfl
theorem q1722 : (Jvm.Cond.code ({ cls := "BentRiver", name := "on", desc := "()Z" } : Jvm.MethodName) prog_1_method_72_code (4 : Nat) (Option.some Jvm.ClassFile.FieldType.boolean)) ∈ lw_all := lw_g (lw_at lw_m7 109 rfl) rfl
theorem q1723 : (Jvm.Cond.methodLink "BentRiver" (413 : Nat) ({ cls := "BentRiver", name := "twoAt", desc := "(I)I" } : Jvm.MethodName)) ∈ lw_all := lw_g (lw_at lw_m7 110 rfl) rfl
theorem q1724 : (Jvm.Cond.privateMethod ({ cls := "BentRiver", name := "twoAt", desc := "(I)I" } : Jvm.MethodName)) ∈ lw_tbl := lw_at lw_m7 111 rfl
theorem q1725 : (Jvm.Cond.instanceMethod ({ cls := "BentRiver", name := "twoAt", desc := "(I)I" } : Jvm.MethodName)) ∈ lw_all := lw_g (lw_at lw_m7 112 rfl) rfl
theorem q1726 : (Jvm.Cond.code ({ cls := "BentRiver", name := "twoAt", desc := "(I)I" } : Jvm.MethodName) prog_1_method_50_code (2 : Nat) (Option.some Jvm.ClassFile.FieldType.int)) ∈ lw_all := lw_g (lw_at lw_m7 113 rfl) rfl
theorem q1727 : (Jvm.Cond.constant "BentRiver" (416 : Nat) (999999 : Int32)) ∈ lw_all := lw_g (lw_at lw_m7 114 rfl) rfl
theorem q1728 : (Jvm.Cond.methodLink "BentRiver" (417 : Nat) ({ cls := "BentRiver", name := "riverOn", desc := "()Z" } : Jvm.MethodName)) ∈ lw_all := lw_g (lw_at lw_m7 115 rfl) rfl
theorem q1729 : (Jvm.Cond.privateMethod ({ cls := "BentRiver", name := "riverOn", desc := "()Z" } : Jvm.MethodName)) ∈ lw_tbl := lw_at lw_m7 116 rfl
theorem q1730 : (Jvm.Cond.instanceMethod ({ cls := "BentRiver", name := "riverOn", desc := "()Z" } : Jvm.MethodName)) ∈ lw_all := lw_g (lw_at lw_m7 117 rfl) rfl
theorem q1731 : (Jvm.Cond.code ({ cls := "BentRiver", name := "riverOn", desc := "()Z" } : Jvm.MethodName) prog_1_method_70_code (4 : Nat) (Option.some Jvm.ClassFile.FieldType.boolean)) ∈ lw_all := lw_g (lw_at lw_m7 118 rfl) rfl
theorem q1732 : (Jvm.Cond.methodLink "BentRiver" (420 : Nat) ({ cls := "BentRiver", name := "lordsOn", desc := "()Z" } : Jvm.MethodName)) ∈ lw_all := lw_g (lw_at lw_m7 119 rfl) rfl
theorem q1733 : (Jvm.Cond.privateMethod ({ cls := "BentRiver", name := "lordsOn", desc := "()Z" } : Jvm.MethodName)) ∈ lw_tbl := lw_at lw_m7 120 rfl
theorem q1734 : (Jvm.Cond.instanceMethod ({ cls := "BentRiver", name := "lordsOn", desc := "()Z" } : Jvm.MethodName)) ∈ lw_all := lw_g (lw_at lw_m7 121 rfl) rfl
theorem q1735 : (Jvm.Cond.code ({ cls := "BentRiver", name := "lordsOn", desc := "()Z" } : Jvm.MethodName) prog_1_method_71_code (4 : Nat) (Option.some Jvm.ClassFile.FieldType.boolean)) ∈ lw_all := lw_g (lw_at lw_m7 122 rfl) rfl
theorem q1737 : (Jvm.Cond.instanceMethod ({ cls := "BentRiver", name := "status", desc := "(I)I" } : Jvm.MethodName)) ∈ lw_all := lw_g (lw_at lw_m7 124 rfl) rfl
theorem q1738 : (Jvm.Cond.selects "BentRiver" ({ cls := "BentRiver", name := "status", desc := "(I)I" } : Jvm.MethodName) ({ cls := "BentRiver", name := "status", desc := "(I)I" } : Jvm.MethodName)) ∈ lw_all := lw_g (lw_at lw_m7 125 rfl) rfl
theorem q1739 : (Jvm.Cond.code ({ cls := "BentRiver", name := "status", desc := "(I)I" } : Jvm.MethodName) prog_1_method_73_code (2 : Nat) (Option.some Jvm.ClassFile.FieldType.int)) ∈ lw_all := lw_g (lw_at lw_m7 126 rfl) rfl
theorem q2765 : (Jvm.Cond.castable "BentRiver" "java/lang/Object") ∈ lw_tbl := lw_at lw_m11 192 rfl
theorem q2800 : (Jvm.Cond.stringRef "BentRiver" (468 : Nat) "valley") ∈ lw_tbl := lw_at lw_m11 227 rfl
theorem q2801 : (Jvm.Cond.stringRef "BentRiver" (469 : Nat) "by") ∈ lw_tbl := lw_at lw_m11 228 rfl
theorem q2802 : (Jvm.Cond.stringRef "BentRiver" (471 : Nat) "reach") ∈ lw_tbl := lw_at lw_m11 229 rfl
theorem q2803 : (Jvm.Cond.stringRef "BentRiver" (472 : Nat) "runs") ∈ lw_tbl := lw_at lw_m11 230 rfl
theorem q2804 : (Jvm.Cond.stringRef "BentRiver" (428 : Nat) "soil") ∈ lw_tbl := lw_at lw_m11 231 rfl
theorem q2805 : (Jvm.Cond.stringRef "BentRiver" (474 : Nat) "willow") ∈ lw_tbl := lw_at lw_m11 232 rfl
theorem q2806 : (Jvm.Cond.stringRef "BentRiver" (476 : Nat) "lord") ∈ lw_tbl := lw_at lw_m11 233 rfl
theorem q2807 : (Jvm.Cond.stringRef "BentRiver" (439 : Nat) "from") ∈ lw_tbl := lw_at lw_m11 234 rfl
theorem q2808 : (Jvm.Cond.stringRef "BentRiver" (440 : Nat) "to") ∈ lw_tbl := lw_at lw_m11 235 rfl
theorem q2809 : (Jvm.Cond.stringRef "BentRiver" (441 : Nat) "pays") ∈ lw_tbl := lw_at lw_m11 236 rfl
theorem q2810 : (Jvm.Cond.stringRef "BentRiver" (442 : Nat) "joy") ∈ lw_tbl := lw_at lw_m11 237 rfl
theorem q2811 : (Jvm.Cond.stringRef "BentRiver" (443 : Nat) "purse") ∈ lw_tbl := lw_at lw_m11 238 rfl
theorem q2812 : (Jvm.Cond.stringRef "BentRiver" (478 : Nat) "eats") ∈ lw_tbl := lw_at lw_m11 239 rfl
theorem q2813 : (Jvm.Cond.stringRef "BentRiver" (479 : Nat) "bend") ∈ lw_tbl := lw_at lw_m12 0 rfl
theorem q2814 : (Jvm.Cond.stringRef "BentRiver" (480 : Nat) "spate") ∈ lw_tbl := lw_at lw_m12 1 rfl
theorem q2815 : (Jvm.Cond.stringRef "BentRiver" (423 : Nat) "column") ∈ lw_tbl := lw_at lw_m12 2 rfl
theorem q2816 : (Jvm.Cond.stringRef "BentRiver" (425 : Nat) "row") ∈ lw_tbl := lw_at lw_m12 3 rfl
theorem q2817 : (Jvm.Cond.stringRef "BentRiver" (426 : Nat) "turn") ∈ lw_tbl := lw_at lw_m12 4 rfl
theorem q2818 : (Jvm.Cond.stringRef "BentRiver" (427 : Nat) "season") ∈ lw_tbl := lw_at lw_m12 5 rfl
theorem q2819 : (Jvm.Cond.stringRef "BentRiver" (429 : Nat) "roots") ∈ lw_tbl := lw_at lw_m12 6 rfl
theorem q2820 : (Jvm.Cond.stringRef "BentRiver" (431 : Nat) "pay") ∈ lw_tbl := lw_at lw_m12 7 rfl
theorem q2821 : (Jvm.Cond.stringRef "BentRiver" (432 : Nat) "ever") ∈ lw_tbl := lw_at lw_m12 8 rfl
theorem q2822 : (Jvm.Cond.stringRef "BentRiver" (433 : Nat) "before") ∈ lw_tbl := lw_at lw_m12 9 rfl
theorem q2823 : (Jvm.Cond.stringRef "BentRiver" (435 : Nat) "behind") ∈ lw_tbl := lw_at lw_m12 10 rfl
theorem q2824 : (Jvm.Cond.stringRef "BentRiver" (437 : Nat) "number") ∈ lw_tbl := lw_at lw_m12 11 rfl
theorem q2825 : (Jvm.Cond.stringRef "BentRiver" (444 : Nat) "offers") ∈ lw_tbl := lw_at lw_m12 12 rfl
theorem q2826 : (Jvm.Cond.stringRef "BentRiver" (445 : Nat) "bends") ∈ lw_tbl := lw_at lw_m12 13 rfl
theorem q2827 : (Jvm.Cond.stringRef "BentRiver" (481 : Nat) "or") ∈ lw_tbl := lw_at lw_m12 14 rfl
theorem q2828 : (Jvm.Cond.stringRef "BentRiver" (483 : Nat) "and") ∈ lw_tbl := lw_at lw_m12 15 rfl
theorem q2829 : (Jvm.Cond.stringRef "BentRiver" (485 : Nat) "not") ∈ lw_tbl := lw_at lw_m12 16 rfl
theorem q2830 : (Jvm.Cond.stringRef "BentRiver" (487 : Nat) "all") ∈ lw_tbl := lw_at lw_m12 17 rfl
theorem q2831 : (Jvm.Cond.stringRef "BentRiver" (488 : Nat) "min") ∈ lw_tbl := lw_at lw_m12 18 rfl
theorem q2832 : (Jvm.Cond.stringRef "BentRiver" (489 : Nat) "max") ∈ lw_tbl := lw_at lw_m12 19 rfl
theorem q2834 : (Jvm.Cond.stringRef "BentRiver" (453 : Nat) "first") ∈ lw_tbl := lw_at lw_m12 21 rfl
theorem q2835 : (Jvm.Cond.stringRef "BentRiver" (455 : Nat) "last") ∈ lw_tbl := lw_at lw_m12 22 rfl
theorem q2836 : (Jvm.Cond.stringRef "BentRiver" (457 : Nat) "often") ∈ lw_tbl := lw_at lw_m12 23 rfl
theorem q2837 : (Jvm.Cond.stringRef "BentRiver" (459 : Nat) "total") ∈ lw_tbl := lw_at lw_m12 24 rfl
theorem q2838 : (Jvm.Cond.stringRef "BentRiver" (461 : Nat) "most") ∈ lw_tbl := lw_at lw_m12 25 rfl
theorem q2839 : (Jvm.Cond.stringRef "BentRiver" (463 : Nat) "least") ∈ lw_tbl := lw_at lw_m12 26 rfl
theorem in_X0 : ∀ w ∈ wsX00, w ∈ lw_all := lw_in wsX00 [511, 513, 515, 517, 519, 521, 523, 525, 527, 529, 531, 533, 535, 537, 539, 541, 543, 545, 547, 549, 551, 553, 555, 557, 559] (by decide +kernel) (by decide +kernel)
