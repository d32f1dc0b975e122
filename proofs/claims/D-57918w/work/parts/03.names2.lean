/-! PrinterClaimsModel -/
set_option maxRecDepth 100000
def RX4 : String := "PrinterClaimsModel"
def TX4 : u_T := fun k => match k with
  | 0 => ("PrinterClaimsModel", "thrown", "I", false)
  | 1 => ("PrinterClaimsModel", "now", "[I", true)
  | 2 => ("PrinterClaimsModel", "loading", "[I", true)
  | 3 => ("PrinterClaimsModel", "saved", "[I", true)
  | 4 => ("PrinterClaimsModel", "aside", "[I", true)
  | 5 => ("PrinterClaimsModel", "before", "[I", true)
  | 6 => ("PrinterClaimsModel", "undoable", "I", false)
  | 7 => ("PrinterClaimsModel", "isSaved", "Z", false)
  | 8 => ("PrinterClaimsModel", "orders0", "[I", true)
  | 9 => ("PrinterClaimsModel", "buffer", "[I", true)
  | 10 => ("PrinterClaimsModel", "buffered", "I", false)
  | 11 => ("PrinterClaimsModel", "textEnd", "I", false)
  | 12 => ("PrinterClaimsModel", "at", "I", false)
  | 13 => ("PrinterClaimsModel", "begin", "I", false)
  | 14 => ("PrinterClaimsModel", "kind", "I", false)
  | 15 => ("PrinterClaimsModel", "value0", "I", false)
  | 16 => ("PrinterClaimsModel", "wrong", "I", false)
  | 17 => ("PrinterClaimsModel", "wrongAt", "I", false)
  | 18 => ("PrinterClaimsModel", "orderRow", "[I", true)
  | 19 => ("PrinterClaimsModel", "orders", "I", false)
  | 20 => ("PrinterClaimsModel", "line", "[I", true)
  | _ => ("PrinterClaimsModel", "lineSize", "I", false)
def tyX4 : Nat → FieldType := fun k => match k with
  | 0 => .int
  | 1 => .array .int
  | 2 => .array .int
  | 3 => .array .int
  | 4 => .array .int
  | 5 => .array .int
  | 6 => .int
  | 7 => .boolean
  | 8 => .array .int
  | 9 => .array .int
  | 10 => .int
  | 11 => .int
  | 12 => .int
  | 13 => .int
  | 14 => .int
  | 15 => .int
  | 16 => .int
  | 17 => .int
  | 18 => .array .int
  | 19 => .int
  | 20 => .array .int
  | _ => .int
abbrev wsX40 : List Cond := u_ws RX4 TX4 22
set_option maxRecDepth 100000 in
theorem nmX4 : ∀ a, a < 22 → ∀ b, b < 22 → a ≠ b → (TX4 a).2.1 ≠ (TX4 b).2.1 := by decide +kernel
set_option maxRecDepth 100000 in
theorem tyX4_ok : ∀ k, k < 22 → parseFieldDescriptor (TX4 k).2.2.1 = some (tyX4 k) := by decide +kernel
abbrev cX4_thrown : ByteArray := prog_33_method_1_code
def yX4_thrown : MethodName := ⟨RX4, "thrown", "()I"⟩
theorem dX4_thrown_0 : decode cX4_thrown 0 = .ok (.aload_n 0, 1) := by decide +kernel
theorem dX4_thrown_1 : decode cX4_thrown 1 = .ok (.getfield 1, 3) := by decide +kernel
theorem dX4_thrown_4 : decode cX4_thrown 4 = .ok (.ireturn, 1) := by decide +kernel
abbrev cX4_init : ByteArray := prog_33_method_6_code
def yX4_init : MethodName := ⟨RX4, "<init>", "()V"⟩
def dkwX4_init_5 : List UInt8 := [43, 182, 0, 46, 181, 0, 56, 42, 42, 180, 0, 56, 182, 0, 59, 61, 177]
abbrev dktX4_init_5 : List UInt8 := dkwX4_init_5 ++ []
def dkwX4_init_4 : List UInt8 := [182, 0, 46, 162, 0, 20, 42, 180, 0, 32, 28, 43, 28, 182, 0, 52, 79, 132, 2, 1, 167, 255, 234, 42]
abbrev dktX4_init_4 : List UInt8 := dkwX4_init_4 ++ dktX4_init_5
def dkwX4_init_3 : List UInt8 := [16, 80, 188, 10, 181, 0, 38, 42, 16, 40, 188, 10, 181, 0, 41, 18, 44, 76, 3, 61, 28, 43]
abbrev dktX4_init_3 : List UInt8 := dkwX4_init_3 ++ dktX4_init_4
def dkwX4_init_2 : List UInt8 := [17, 1, 0, 188, 10, 181, 0, 29, 42, 17, 1, 244, 188, 10, 181, 0, 32, 42, 2, 181, 0, 35, 42]
abbrev dktX4_init_2 : List UInt8 := dkwX4_init_2 ++ dktX4_init_3
def dkwX4_init_1 : List UInt8 := [188, 10, 181, 0, 20, 42, 16, 101, 188, 10, 181, 0, 23, 42, 17, 3, 40, 188, 10, 181, 0, 26, 42]
abbrev dktX4_init_1 : List UInt8 := dkwX4_init_1 ++ dktX4_init_2
def dkwX4_init_0 : List UInt8 := [42, 183, 0, 7, 42, 16, 101, 188, 10, 181, 0, 13, 42, 16, 101, 188, 10, 181, 0, 17, 42, 16, 101]
abbrev dktX4_init_0 : List UInt8 := dkwX4_init_0 ++ dktX4_init_1
theorem dksX4_init_0 : cX4_init.data.toList.drop 0 = dktX4_init_0 := by decide +kernel
theorem dksX4_init_1 : cX4_init.data.toList.drop 23 = dktX4_init_1 := dk_seg dksX4_init_0 23 rfl rfl
theorem dksX4_init_2 : cX4_init.data.toList.drop 46 = dktX4_init_2 := dk_seg dksX4_init_1 23 rfl rfl
theorem dksX4_init_3 : cX4_init.data.toList.drop 69 = dktX4_init_3 := dk_seg dksX4_init_2 23 rfl rfl
theorem dksX4_init_4 : cX4_init.data.toList.drop 91 = dktX4_init_4 := dk_seg dksX4_init_3 22 rfl rfl
theorem dksX4_init_5 : cX4_init.data.toList.drop 115 = dktX4_init_5 := dk_seg dksX4_init_4 24 rfl rfl
theorem dX4_init_0 : decode cX4_init 0 = .ok (.aload_n 0, 1) := dk_42 (dk_at dksX4_init_0 0 rfl rfl)
theorem dX4_init_1 : decode cX4_init 1 = .ok (.invokespecial 7, 3) := dk_183 0 7 (dk_at dksX4_init_0 1 rfl rfl)
theorem dX4_init_4 : decode cX4_init 4 = .ok (.aload_n 0, 1) := dk_42 (dk_at dksX4_init_0 4 rfl rfl)
theorem dX4_init_5 : decode cX4_init 5 = .ok (.bipush 101, 2) := dk_16 101 (dk_at dksX4_init_0 5 rfl rfl)
theorem dX4_init_7 : decode cX4_init 7 = .ok (.newarray .int, 2) := dk_188_10 (dk_at dksX4_init_0 7 rfl rfl)
theorem dX4_init_9 : decode cX4_init 9 = .ok (.putfield 13, 3) := dk_181 0 13 (dk_at dksX4_init_0 9 rfl rfl)
theorem dX4_init_12 : decode cX4_init 12 = .ok (.aload_n 0, 1) := dk_42 (dk_at dksX4_init_0 12 rfl rfl)
theorem dX4_init_13 : decode cX4_init 13 = .ok (.bipush 101, 2) := dk_16 101 (dk_at dksX4_init_0 13 rfl rfl)
theorem dX4_init_15 : decode cX4_init 15 = .ok (.newarray .int, 2) := dk_188_10 (dk_at dksX4_init_0 15 rfl rfl)
theorem dX4_init_17 : decode cX4_init 17 = .ok (.putfield 17, 3) := dk_181 0 17 (dk_at dksX4_init_0 17 rfl rfl)
theorem dX4_init_20 : decode cX4_init 20 = .ok (.aload_n 0, 1) := dk_42 (dk_at dksX4_init_0 20 rfl rfl)
theorem dX4_init_21 : decode cX4_init 21 = .ok (.bipush 101, 2) := dk_16 101 (dk_at dksX4_init_0 21 rfl rfl)
theorem dX4_init_23 : decode cX4_init 23 = .ok (.newarray .int, 2) := dk_188_10 (dk_at dksX4_init_1 0 rfl rfl)
theorem dX4_init_25 : decode cX4_init 25 = .ok (.putfield 20, 3) := dk_181 0 20 (dk_at dksX4_init_1 2 rfl rfl)
theorem dX4_init_28 : decode cX4_init 28 = .ok (.aload_n 0, 1) := dk_42 (dk_at dksX4_init_1 5 rfl rfl)
theorem dX4_init_29 : decode cX4_init 29 = .ok (.bipush 101, 2) := dk_16 101 (dk_at dksX4_init_1 6 rfl rfl)
theorem dX4_init_31 : decode cX4_init 31 = .ok (.newarray .int, 2) := dk_188_10 (dk_at dksX4_init_1 8 rfl rfl)
theorem dX4_init_33 : decode cX4_init 33 = .ok (.putfield 23, 3) := dk_181 0 23 (dk_at dksX4_init_1 10 rfl rfl)
theorem dX4_init_36 : decode cX4_init 36 = .ok (.aload_n 0, 1) := dk_42 (dk_at dksX4_init_1 13 rfl rfl)
theorem dX4_init_37 : decode cX4_init 37 = .ok (.sipush 808, 3) := dk_17 3 40 (dk_at dksX4_init_1 14 rfl rfl)
theorem dX4_init_40 : decode cX4_init 40 = .ok (.newarray .int, 2) := dk_188_10 (dk_at dksX4_init_1 17 rfl rfl)
theorem dX4_init_42 : decode cX4_init 42 = .ok (.putfield 26, 3) := dk_181 0 26 (dk_at dksX4_init_1 19 rfl rfl)
theorem dX4_init_45 : decode cX4_init 45 = .ok (.aload_n 0, 1) := dk_42 (dk_at dksX4_init_1 22 rfl rfl)
theorem dX4_init_46 : decode cX4_init 46 = .ok (.sipush 256, 3) := dk_17 1 0 (dk_at dksX4_init_2 0 rfl rfl)
theorem dX4_init_49 : decode cX4_init 49 = .ok (.newarray .int, 2) := dk_188_10 (dk_at dksX4_init_2 3 rfl rfl)
theorem dX4_init_51 : decode cX4_init 51 = .ok (.putfield 29, 3) := dk_181 0 29 (dk_at dksX4_init_2 5 rfl rfl)
theorem dX4_init_54 : decode cX4_init 54 = .ok (.aload_n 0, 1) := dk_42 (dk_at dksX4_init_2 8 rfl rfl)
theorem dX4_init_55 : decode cX4_init 55 = .ok (.sipush 500, 3) := dk_17 1 244 (dk_at dksX4_init_2 9 rfl rfl)
theorem dX4_init_58 : decode cX4_init 58 = .ok (.newarray .int, 2) := dk_188_10 (dk_at dksX4_init_2 12 rfl rfl)
theorem dX4_init_60 : decode cX4_init 60 = .ok (.putfield 32, 3) := dk_181 0 32 (dk_at dksX4_init_2 14 rfl rfl)
theorem dX4_init_63 : decode cX4_init 63 = .ok (.aload_n 0, 1) := dk_42 (dk_at dksX4_init_2 17 rfl rfl)
theorem dX4_init_64 : decode cX4_init 64 = .ok (.iconst (-1), 1) := dk_2 (dk_at dksX4_init_2 18 rfl rfl)
theorem dX4_init_65 : decode cX4_init 65 = .ok (.putfield 35, 3) := dk_181 0 35 (dk_at dksX4_init_2 19 rfl rfl)
theorem dX4_init_68 : decode cX4_init 68 = .ok (.aload_n 0, 1) := dk_42 (dk_at dksX4_init_2 22 rfl rfl)
theorem dX4_init_69 : decode cX4_init 69 = .ok (.bipush 80, 2) := dk_16 80 (dk_at dksX4_init_3 0 rfl rfl)
theorem dX4_init_71 : decode cX4_init 71 = .ok (.newarray .int, 2) := dk_188_10 (dk_at dksX4_init_3 2 rfl rfl)
theorem dX4_init_73 : decode cX4_init 73 = .ok (.putfield 38, 3) := dk_181 0 38 (dk_at dksX4_init_3 4 rfl rfl)
theorem dX4_init_76 : decode cX4_init 76 = .ok (.aload_n 0, 1) := dk_42 (dk_at dksX4_init_3 7 rfl rfl)
theorem dX4_init_77 : decode cX4_init 77 = .ok (.bipush 40, 2) := dk_16 40 (dk_at dksX4_init_3 8 rfl rfl)
theorem dX4_init_79 : decode cX4_init 79 = .ok (.newarray .int, 2) := dk_188_10 (dk_at dksX4_init_3 10 rfl rfl)
theorem dX4_init_81 : decode cX4_init 81 = .ok (.putfield 41, 3) := dk_181 0 41 (dk_at dksX4_init_3 12 rfl rfl)
theorem dX4_init_84 : decode cX4_init 84 = .ok (.ldc 44, 2) := dk_18 44 (dk_at dksX4_init_3 15 rfl rfl)
theorem dX4_init_86 : decode cX4_init 86 = .ok (.astore_n 1, 1) := dk_76 (dk_at dksX4_init_3 17 rfl rfl)
theorem dX4_init_87 : decode cX4_init 87 = .ok (.iconst 0, 1) := dk_3 (dk_at dksX4_init_3 18 rfl rfl)
theorem dX4_init_88 : decode cX4_init 88 = .ok (.istore_n 2, 1) := dk_61 (dk_at dksX4_init_3 19 rfl rfl)
theorem dX4_init_89 : decode cX4_init 89 = .ok (.iload_n 2, 1) := dk_28 (dk_at dksX4_init_3 20 rfl rfl)
theorem dX4_init_90 : decode cX4_init 90 = .ok (.aload_n 1, 1) := dk_43 (dk_at dksX4_init_3 21 rfl rfl)
theorem dX4_init_91 : decode cX4_init 91 = .ok (.invokevirtual 46, 3) := dk_182 0 46 (dk_at dksX4_init_4 0 rfl rfl)
theorem dX4_init_94 : decode cX4_init 94 = .ok (.if_icmp .ge 20, 3) := dk_162 0 20 (dk_at dksX4_init_4 3 rfl rfl)
theorem dX4_init_97 : decode cX4_init 97 = .ok (.aload_n 0, 1) := dk_42 (dk_at dksX4_init_4 6 rfl rfl)
theorem dX4_init_98 : decode cX4_init 98 = .ok (.getfield 32, 3) := dk_180 0 32 (dk_at dksX4_init_4 7 rfl rfl)
theorem dX4_init_101 : decode cX4_init 101 = .ok (.iload_n 2, 1) := dk_28 (dk_at dksX4_init_4 10 rfl rfl)
theorem dX4_init_102 : decode cX4_init 102 = .ok (.aload_n 1, 1) := dk_43 (dk_at dksX4_init_4 11 rfl rfl)
theorem dX4_init_103 : decode cX4_init 103 = .ok (.iload_n 2, 1) := dk_28 (dk_at dksX4_init_4 12 rfl rfl)
theorem dX4_init_104 : decode cX4_init 104 = .ok (.invokevirtual 52, 3) := dk_182 0 52 (dk_at dksX4_init_4 13 rfl rfl)
theorem dX4_init_107 : decode cX4_init 107 = .ok (.iastore, 1) := dk_79 (dk_at dksX4_init_4 16 rfl rfl)
theorem dX4_init_108 : decode cX4_init 108 = .ok (.iinc 2 1, 3) := dk_132 2 1 (dk_at dksX4_init_4 17 rfl rfl)
theorem dX4_init_111 : decode cX4_init 111 = .ok (.goto (-22), 3) := dk_167 255 234 (dk_at dksX4_init_4 20 rfl rfl)
theorem dX4_init_114 : decode cX4_init 114 = .ok (.aload_n 0, 1) := dk_42 (dk_at dksX4_init_4 23 rfl rfl)
theorem dX4_init_115 : decode cX4_init 115 = .ok (.aload_n 1, 1) := dk_43 (dk_at dksX4_init_5 0 rfl rfl)
theorem dX4_init_116 : decode cX4_init 116 = .ok (.invokevirtual 46, 3) := dk_182 0 46 (dk_at dksX4_init_5 1 rfl rfl)
theorem dX4_init_119 : decode cX4_init 119 = .ok (.putfield 56, 3) := dk_181 0 56 (dk_at dksX4_init_5 4 rfl rfl)
theorem dX4_init_122 : decode cX4_init 122 = .ok (.aload_n 0, 1) := dk_42 (dk_at dksX4_init_5 7 rfl rfl)
theorem dX4_init_123 : decode cX4_init 123 = .ok (.aload_n 0, 1) := dk_42 (dk_at dksX4_init_5 8 rfl rfl)
theorem dX4_init_124 : decode cX4_init 124 = .ok (.getfield 56, 3) := dk_180 0 56 (dk_at dksX4_init_5 9 rfl rfl)
theorem dX4_init_127 : decode cX4_init 127 = .ok (.invokevirtual 59, 3) := dk_182 0 59 (dk_at dksX4_init_5 12 rfl rfl)
theorem dX4_init_130 : decode cX4_init 130 = .ok (.istore_n 2, 1) := dk_61 (dk_at dksX4_init_5 15 rfl rfl)
theorem dX4_init_131 : decode cX4_init 131 = .ok (.return_, 1) := dk_177 (dk_at dksX4_init_5 16 rfl rfl)
abbrev cX4_loadSystem : ByteArray := prog_33_method_63_code
def yX4_loadSystem : MethodName := ⟨RX4, "loadSystem", "(I)I"⟩
def dkwX4_loadSystem_3 : List UInt8 := [42, 3, 181, 0, 255, 42, 3, 181, 1, 2, 42, 180, 0, 13, 4, 46, 172]
abbrev dktX4_loadSystem_3 : List UInt8 := dkwX4_loadSystem_3 ++ []
def dkwX4_loadSystem_2 : List UInt8 := [42, 180, 0, 168, 153, 0, 20, 42, 180, 0, 17, 3, 42, 180, 0, 13, 3, 16, 101, 184, 0, 245, 2, 172]
abbrev dktX4_loadSystem_2 : List UInt8 := dkwX4_loadSystem_2 ++ dktX4_loadSystem_3
def dkwX4_loadSystem_1 : List UInt8 := [42, 180, 0, 13, 3, 42, 180, 0, 17, 3, 16, 101, 184, 0, 245, 42, 27, 182, 0, 249, 42, 182, 0, 252]
abbrev dktX4_loadSystem_1 : List UInt8 := dkwX4_loadSystem_1 ++ dktX4_loadSystem_2
def dkwX4_loadSystem_0 : List UInt8 := [42, 3, 181, 0, 1, 42, 27, 3, 42, 180, 0, 56, 184, 0, 209, 4, 182, 0, 241, 153, 0, 5, 3, 172]
abbrev dktX4_loadSystem_0 : List UInt8 := dkwX4_loadSystem_0 ++ dktX4_loadSystem_1
theorem dksX4_loadSystem_0 : cX4_loadSystem.data.toList.drop 0 = dktX4_loadSystem_0 := by decide +kernel
theorem dksX4_loadSystem_1 : cX4_loadSystem.data.toList.drop 24 = dktX4_loadSystem_1 := dk_seg dksX4_loadSystem_0 24 rfl rfl
theorem dksX4_loadSystem_2 : cX4_loadSystem.data.toList.drop 48 = dktX4_loadSystem_2 := dk_seg dksX4_loadSystem_1 24 rfl rfl
theorem dksX4_loadSystem_3 : cX4_loadSystem.data.toList.drop 72 = dktX4_loadSystem_3 := dk_seg dksX4_loadSystem_2 24 rfl rfl
theorem dX4_loadSystem_0 : decode cX4_loadSystem 0 = .ok (.aload_n 0, 1) := dk_42 (dk_at dksX4_loadSystem_0 0 rfl rfl)
theorem dX4_loadSystem_1 : decode cX4_loadSystem 1 = .ok (.iconst 0, 1) := dk_3 (dk_at dksX4_loadSystem_0 1 rfl rfl)
theorem dX4_loadSystem_2 : decode cX4_loadSystem 2 = .ok (.putfield 1, 3) := dk_181 0 1 (dk_at dksX4_loadSystem_0 2 rfl rfl)
theorem dX4_loadSystem_5 : decode cX4_loadSystem 5 = .ok (.aload_n 0, 1) := dk_42 (dk_at dksX4_loadSystem_0 5 rfl rfl)
theorem dX4_loadSystem_6 : decode cX4_loadSystem 6 = .ok (.iload_n 1, 1) := dk_27 (dk_at dksX4_loadSystem_0 6 rfl rfl)
theorem dX4_loadSystem_7 : decode cX4_loadSystem 7 = .ok (.iconst 0, 1) := dk_3 (dk_at dksX4_loadSystem_0 7 rfl rfl)
theorem dX4_loadSystem_8 : decode cX4_loadSystem 8 = .ok (.aload_n 0, 1) := dk_42 (dk_at dksX4_loadSystem_0 8 rfl rfl)
theorem dX4_loadSystem_9 : decode cX4_loadSystem 9 = .ok (.getfield 56, 3) := dk_180 0 56 (dk_at dksX4_loadSystem_0 9 rfl rfl)
theorem dX4_loadSystem_12 : decode cX4_loadSystem 12 = .ok (.invokestatic 209, 3) := dk_184 0 209 (dk_at dksX4_loadSystem_0 12 rfl rfl)
theorem dX4_loadSystem_15 : decode cX4_loadSystem 15 = .ok (.iconst 1, 1) := dk_4 (dk_at dksX4_loadSystem_0 15 rfl rfl)
theorem dX4_loadSystem_16 : decode cX4_loadSystem 16 = .ok (.invokevirtual 241, 3) := dk_182 0 241 (dk_at dksX4_loadSystem_0 16 rfl rfl)
theorem dX4_loadSystem_19 : decode cX4_loadSystem 19 = .ok (.ifCond .eq 5, 3) := dk_153 0 5 (dk_at dksX4_loadSystem_0 19 rfl rfl)
theorem dX4_loadSystem_22 : decode cX4_loadSystem 22 = .ok (.iconst 0, 1) := dk_3 (dk_at dksX4_loadSystem_0 22 rfl rfl)
theorem dX4_loadSystem_23 : decode cX4_loadSystem 23 = .ok (.ireturn, 1) := dk_172 (dk_at dksX4_loadSystem_0 23 rfl rfl)
theorem dX4_loadSystem_24 : decode cX4_loadSystem 24 = .ok (.aload_n 0, 1) := dk_42 (dk_at dksX4_loadSystem_1 0 rfl rfl)
theorem dX4_loadSystem_25 : decode cX4_loadSystem 25 = .ok (.getfield 13, 3) := dk_180 0 13 (dk_at dksX4_loadSystem_1 1 rfl rfl)
theorem dX4_loadSystem_28 : decode cX4_loadSystem 28 = .ok (.iconst 0, 1) := dk_3 (dk_at dksX4_loadSystem_1 4 rfl rfl)
theorem dX4_loadSystem_29 : decode cX4_loadSystem 29 = .ok (.aload_n 0, 1) := dk_42 (dk_at dksX4_loadSystem_1 5 rfl rfl)
theorem dX4_loadSystem_30 : decode cX4_loadSystem 30 = .ok (.getfield 17, 3) := dk_180 0 17 (dk_at dksX4_loadSystem_1 6 rfl rfl)
theorem dX4_loadSystem_33 : decode cX4_loadSystem 33 = .ok (.iconst 0, 1) := dk_3 (dk_at dksX4_loadSystem_1 9 rfl rfl)
theorem dX4_loadSystem_34 : decode cX4_loadSystem 34 = .ok (.bipush 101, 2) := dk_16 101 (dk_at dksX4_loadSystem_1 10 rfl rfl)
theorem dX4_loadSystem_36 : decode cX4_loadSystem 36 = .ok (.invokestatic 245, 3) := dk_184 0 245 (dk_at dksX4_loadSystem_1 12 rfl rfl)
theorem dX4_loadSystem_39 : decode cX4_loadSystem 39 = .ok (.aload_n 0, 1) := dk_42 (dk_at dksX4_loadSystem_1 15 rfl rfl)
theorem dX4_loadSystem_40 : decode cX4_loadSystem 40 = .ok (.iload_n 1, 1) := dk_27 (dk_at dksX4_loadSystem_1 16 rfl rfl)
theorem dX4_loadSystem_41 : decode cX4_loadSystem 41 = .ok (.invokevirtual 249, 3) := dk_182 0 249 (dk_at dksX4_loadSystem_1 17 rfl rfl)
theorem dX4_loadSystem_44 : decode cX4_loadSystem 44 = .ok (.aload_n 0, 1) := dk_42 (dk_at dksX4_loadSystem_1 20 rfl rfl)
theorem dX4_loadSystem_45 : decode cX4_loadSystem 45 = .ok (.invokevirtual 252, 3) := dk_182 0 252 (dk_at dksX4_loadSystem_1 21 rfl rfl)
theorem dX4_loadSystem_48 : decode cX4_loadSystem 48 = .ok (.aload_n 0, 1) := dk_42 (dk_at dksX4_loadSystem_2 0 rfl rfl)
theorem dX4_loadSystem_49 : decode cX4_loadSystem 49 = .ok (.getfield 168, 3) := dk_180 0 168 (dk_at dksX4_loadSystem_2 1 rfl rfl)
theorem dX4_loadSystem_52 : decode cX4_loadSystem 52 = .ok (.ifCond .eq 20, 3) := dk_153 0 20 (dk_at dksX4_loadSystem_2 4 rfl rfl)
theorem dX4_loadSystem_55 : decode cX4_loadSystem 55 = .ok (.aload_n 0, 1) := dk_42 (dk_at dksX4_loadSystem_2 7 rfl rfl)
theorem dX4_loadSystem_56 : decode cX4_loadSystem 56 = .ok (.getfield 17, 3) := dk_180 0 17 (dk_at dksX4_loadSystem_2 8 rfl rfl)
theorem dX4_loadSystem_59 : decode cX4_loadSystem 59 = .ok (.iconst 0, 1) := dk_3 (dk_at dksX4_loadSystem_2 11 rfl rfl)
theorem dX4_loadSystem_60 : decode cX4_loadSystem 60 = .ok (.aload_n 0, 1) := dk_42 (dk_at dksX4_loadSystem_2 12 rfl rfl)
theorem dX4_loadSystem_61 : decode cX4_loadSystem 61 = .ok (.getfield 13, 3) := dk_180 0 13 (dk_at dksX4_loadSystem_2 13 rfl rfl)
theorem dX4_loadSystem_64 : decode cX4_loadSystem 64 = .ok (.iconst 0, 1) := dk_3 (dk_at dksX4_loadSystem_2 16 rfl rfl)
theorem dX4_loadSystem_65 : decode cX4_loadSystem 65 = .ok (.bipush 101, 2) := dk_16 101 (dk_at dksX4_loadSystem_2 17 rfl rfl)
theorem dX4_loadSystem_67 : decode cX4_loadSystem 67 = .ok (.invokestatic 245, 3) := dk_184 0 245 (dk_at dksX4_loadSystem_2 19 rfl rfl)
theorem dX4_loadSystem_70 : decode cX4_loadSystem 70 = .ok (.iconst (-1), 1) := dk_2 (dk_at dksX4_loadSystem_2 22 rfl rfl)
theorem dX4_loadSystem_71 : decode cX4_loadSystem 71 = .ok (.ireturn, 1) := dk_172 (dk_at dksX4_loadSystem_2 23 rfl rfl)
theorem dX4_loadSystem_72 : decode cX4_loadSystem 72 = .ok (.aload_n 0, 1) := dk_42 (dk_at dksX4_loadSystem_3 0 rfl rfl)
theorem dX4_loadSystem_73 : decode cX4_loadSystem 73 = .ok (.iconst 0, 1) := dk_3 (dk_at dksX4_loadSystem_3 1 rfl rfl)
theorem dX4_loadSystem_74 : decode cX4_loadSystem 74 = .ok (.putfield 255, 3) := dk_181 0 255 (dk_at dksX4_loadSystem_3 2 rfl rfl)
theorem dX4_loadSystem_77 : decode cX4_loadSystem 77 = .ok (.aload_n 0, 1) := dk_42 (dk_at dksX4_loadSystem_3 5 rfl rfl)
theorem dX4_loadSystem_78 : decode cX4_loadSystem 78 = .ok (.iconst 0, 1) := dk_3 (dk_at dksX4_loadSystem_3 6 rfl rfl)
theorem dX4_loadSystem_79 : decode cX4_loadSystem 79 = .ok (.putfield 258, 3) := dk_181 1 2 (dk_at dksX4_loadSystem_3 7 rfl rfl)
theorem dX4_loadSystem_82 : decode cX4_loadSystem 82 = .ok (.aload_n 0, 1) := dk_42 (dk_at dksX4_loadSystem_3 10 rfl rfl)
theorem dX4_loadSystem_83 : decode cX4_loadSystem 83 = .ok (.getfield 13, 3) := dk_180 0 13 (dk_at dksX4_loadSystem_3 11 rfl rfl)
theorem dX4_loadSystem_86 : decode cX4_loadSystem 86 = .ok (.iconst 1, 1) := dk_4 (dk_at dksX4_loadSystem_3 14 rfl rfl)
theorem dX4_loadSystem_87 : decode cX4_loadSystem 87 = .ok (.iaload, 1) := dk_46 (dk_at dksX4_loadSystem_3 15 rfl rfl)
theorem dX4_loadSystem_88 : decode cX4_loadSystem 88 = .ok (.ireturn, 1) := dk_172 (dk_at dksX4_loadSystem_3 16 rfl rfl)
abbrev cX4_in : ByteArray := prog_33_method_2_code
def yX4_in : MethodName := ⟨RX4, "in", "(III)Z"⟩
def dkwX4_in_0 : List UInt8 := [26, 27, 161, 0, 12, 26, 28, 163, 0, 7, 4, 167, 0, 4, 3, 172]
abbrev dktX4_in_0 : List UInt8 := dkwX4_in_0 ++ []
theorem dksX4_in_0 : cX4_in.data.toList.drop 0 = dktX4_in_0 := by decide +kernel
theorem dX4_in_0 : decode cX4_in 0 = .ok (.iload_n 0, 1) := dk_26 (dk_at dksX4_in_0 0 rfl rfl)
theorem dX4_in_1 : decode cX4_in 1 = .ok (.iload_n 1, 1) := dk_27 (dk_at dksX4_in_0 1 rfl rfl)
theorem dX4_in_2 : decode cX4_in 2 = .ok (.if_icmp .lt 12, 3) := dk_161 0 12 (dk_at dksX4_in_0 2 rfl rfl)
theorem dX4_in_5 : decode cX4_in 5 = .ok (.iload_n 0, 1) := dk_26 (dk_at dksX4_in_0 5 rfl rfl)
theorem dX4_in_6 : decode cX4_in 6 = .ok (.iload_n 2, 1) := dk_28 (dk_at dksX4_in_0 6 rfl rfl)
theorem dX4_in_7 : decode cX4_in 7 = .ok (.if_icmp .gt 7, 3) := dk_163 0 7 (dk_at dksX4_in_0 7 rfl rfl)
theorem dX4_in_10 : decode cX4_in 10 = .ok (.iconst 1, 1) := dk_4 (dk_at dksX4_in_0 10 rfl rfl)
theorem dX4_in_11 : decode cX4_in 11 = .ok (.goto 4, 3) := dk_167 0 4 (dk_at dksX4_in_0 11 rfl rfl)
theorem dX4_in_14 : decode cX4_in 14 = .ok (.iconst 0, 1) := dk_3 (dk_at dksX4_in_0 14 rfl rfl)
theorem dX4_in_15 : decode cX4_in 15 = .ok (.ireturn, 1) := dk_172 (dk_at dksX4_in_0 15 rfl rfl)
abbrev cX4_fails : ByteArray := prog_33_method_3_code
def yX4_fails : MethodName := ⟨RX4, "fails", "(ZI)Z"⟩
def dkwX4_fails_1 : List UInt8 := [167, 0, 4, 3, 172]
abbrev dktX4_fails_1 : List UInt8 := dkwX4_fails_1 ++ []
def dkwX4_fails_0 : List UInt8 := [27, 154, 0, 15, 42, 180, 0, 1, 154, 0, 8, 42, 28, 181, 0, 1, 42, 180, 0, 1, 153, 0, 7, 4]
abbrev dktX4_fails_0 : List UInt8 := dkwX4_fails_0 ++ dktX4_fails_1
theorem dksX4_fails_0 : cX4_fails.data.toList.drop 0 = dktX4_fails_0 := by decide +kernel
theorem dksX4_fails_1 : cX4_fails.data.toList.drop 24 = dktX4_fails_1 := dk_seg dksX4_fails_0 24 rfl rfl
theorem dX4_fails_0 : decode cX4_fails 0 = .ok (.iload_n 1, 1) := dk_27 (dk_at dksX4_fails_0 0 rfl rfl)
theorem dX4_fails_1 : decode cX4_fails 1 = .ok (.ifCond .ne 15, 3) := dk_154 0 15 (dk_at dksX4_fails_0 1 rfl rfl)
theorem dX4_fails_4 : decode cX4_fails 4 = .ok (.aload_n 0, 1) := dk_42 (dk_at dksX4_fails_0 4 rfl rfl)
theorem dX4_fails_5 : decode cX4_fails 5 = .ok (.getfield 1, 3) := dk_180 0 1 (dk_at dksX4_fails_0 5 rfl rfl)
theorem dX4_fails_8 : decode cX4_fails 8 = .ok (.ifCond .ne 8, 3) := dk_154 0 8 (dk_at dksX4_fails_0 8 rfl rfl)
theorem dX4_fails_11 : decode cX4_fails 11 = .ok (.aload_n 0, 1) := dk_42 (dk_at dksX4_fails_0 11 rfl rfl)
theorem dX4_fails_12 : decode cX4_fails 12 = .ok (.iload_n 2, 1) := dk_28 (dk_at dksX4_fails_0 12 rfl rfl)
theorem dX4_fails_13 : decode cX4_fails 13 = .ok (.putfield 1, 3) := dk_181 0 1 (dk_at dksX4_fails_0 13 rfl rfl)
theorem dX4_fails_16 : decode cX4_fails 16 = .ok (.aload_n 0, 1) := dk_42 (dk_at dksX4_fails_0 16 rfl rfl)
theorem dX4_fails_17 : decode cX4_fails 17 = .ok (.getfield 1, 3) := dk_180 0 1 (dk_at dksX4_fails_0 17 rfl rfl)
theorem dX4_fails_20 : decode cX4_fails 20 = .ok (.ifCond .eq 7, 3) := dk_153 0 7 (dk_at dksX4_fails_0 20 rfl rfl)
theorem dX4_fails_23 : decode cX4_fails 23 = .ok (.iconst 1, 1) := dk_4 (dk_at dksX4_fails_0 23 rfl rfl)
theorem dX4_fails_24 : decode cX4_fails 24 = .ok (.goto 4, 3) := dk_167 0 4 (dk_at dksX4_fails_1 0 rfl rfl)
theorem dX4_fails_27 : decode cX4_fails 27 = .ok (.iconst 0, 1) := dk_3 (dk_at dksX4_fails_1 3 rfl rfl)
theorem dX4_fails_28 : decode cX4_fails 28 = .ok (.ireturn, 1) := dk_172 (dk_at dksX4_fails_1 4 rfl rfl)
abbrev cX4_copies : ByteArray := prog_33_method_7_code
def yX4_copies : MethodName := ⟨RX4, "copies", "([II[III)V"⟩
def dkwX4_copies_1 : List UInt8 := [132, 5, 1, 167, 255, 234, 177]
abbrev dktX4_copies_1 : List UInt8 := dkwX4_copies_1 ++ []
def dkwX4_copies_0 : List UInt8 := [3, 54, 5, 21, 5, 21, 4, 162, 0, 21, 44, 29, 21, 5, 96, 42, 27, 21, 5, 96, 46, 79]
abbrev dktX4_copies_0 : List UInt8 := dkwX4_copies_0 ++ dktX4_copies_1
theorem dksX4_copies_0 : cX4_copies.data.toList.drop 0 = dktX4_copies_0 := by decide +kernel
theorem dksX4_copies_1 : cX4_copies.data.toList.drop 22 = dktX4_copies_1 := dk_seg dksX4_copies_0 22 rfl rfl
theorem dX4_copies_0 : decode cX4_copies 0 = .ok (.iconst 0, 1) := dk_3 (dk_at dksX4_copies_0 0 rfl rfl)
theorem dX4_copies_1 : decode cX4_copies 1 = .ok (.istore 5, 2) := dk_54 5 (dk_at dksX4_copies_0 1 rfl rfl)
theorem dX4_copies_3 : decode cX4_copies 3 = .ok (.iload 5, 2) := dk_21 5 (dk_at dksX4_copies_0 3 rfl rfl)
theorem dX4_copies_5 : decode cX4_copies 5 = .ok (.iload 4, 2) := dk_21 4 (dk_at dksX4_copies_0 5 rfl rfl)
theorem dX4_copies_7 : decode cX4_copies 7 = .ok (.if_icmp .ge 21, 3) := dk_162 0 21 (dk_at dksX4_copies_0 7 rfl rfl)
theorem dX4_copies_10 : decode cX4_copies 10 = .ok (.aload_n 2, 1) := dk_44 (dk_at dksX4_copies_0 10 rfl rfl)
theorem dX4_copies_11 : decode cX4_copies 11 = .ok (.iload_n 3, 1) := dk_29 (dk_at dksX4_copies_0 11 rfl rfl)
theorem dX4_copies_12 : decode cX4_copies 12 = .ok (.iload 5, 2) := dk_21 5 (dk_at dksX4_copies_0 12 rfl rfl)
theorem dX4_copies_14 : decode cX4_copies 14 = .ok (.iadd, 1) := dk_96 (dk_at dksX4_copies_0 14 rfl rfl)
theorem dX4_copies_15 : decode cX4_copies 15 = .ok (.aload_n 0, 1) := dk_42 (dk_at dksX4_copies_0 15 rfl rfl)
theorem dX4_copies_16 : decode cX4_copies 16 = .ok (.iload_n 1, 1) := dk_27 (dk_at dksX4_copies_0 16 rfl rfl)
theorem dX4_copies_17 : decode cX4_copies 17 = .ok (.iload 5, 2) := dk_21 5 (dk_at dksX4_copies_0 17 rfl rfl)
theorem dX4_copies_19 : decode cX4_copies 19 = .ok (.iadd, 1) := dk_96 (dk_at dksX4_copies_0 19 rfl rfl)
theorem dX4_copies_20 : decode cX4_copies 20 = .ok (.iaload, 1) := dk_46 (dk_at dksX4_copies_0 20 rfl rfl)
theorem dX4_copies_21 : decode cX4_copies 21 = .ok (.iastore, 1) := dk_79 (dk_at dksX4_copies_0 21 rfl rfl)
theorem dX4_copies_22 : decode cX4_copies 22 = .ok (.iinc 5 1, 3) := dk_132 5 1 (dk_at dksX4_copies_1 0 rfl rfl)
theorem dX4_copies_25 : decode cX4_copies 25 = .ok (.goto (-22), 3) := dk_167 255 234 (dk_at dksX4_copies_1 3 rfl rfl)
theorem dX4_copies_28 : decode cX4_copies 28 = .ok (.return_, 1) := dk_177 (dk_at dksX4_copies_1 6 rfl rfl)
abbrev cX4_starts : ByteArray := prog_33_method_52_code
def yX4_starts : MethodName := ⟨RX4, "starts", "(I)V"⟩
def dkwX4_starts_1 : List UInt8 := [181, 0, 35, 42, 182, 0, 199, 177]
abbrev dktX4_starts_1 : List UInt8 := dkwX4_starts_1 ++ []
def dkwX4_starts_0 : List UInt8 := [42, 27, 181, 0, 171, 42, 3, 181, 0, 56, 42, 3, 181, 0, 177, 42, 3, 181, 0, 168, 42, 2]
abbrev dktX4_starts_0 : List UInt8 := dkwX4_starts_0 ++ dktX4_starts_1
theorem dksX4_starts_0 : cX4_starts.data.toList.drop 0 = dktX4_starts_0 := by decide +kernel
theorem dksX4_starts_1 : cX4_starts.data.toList.drop 22 = dktX4_starts_1 := dk_seg dksX4_starts_0 22 rfl rfl
theorem dX4_starts_0 : decode cX4_starts 0 = .ok (.aload_n 0, 1) := dk_42 (dk_at dksX4_starts_0 0 rfl rfl)
theorem dX4_starts_1 : decode cX4_starts 1 = .ok (.iload_n 1, 1) := dk_27 (dk_at dksX4_starts_0 1 rfl rfl)
theorem dX4_starts_2 : decode cX4_starts 2 = .ok (.putfield 171, 3) := dk_181 0 171 (dk_at dksX4_starts_0 2 rfl rfl)
theorem dX4_starts_5 : decode cX4_starts 5 = .ok (.aload_n 0, 1) := dk_42 (dk_at dksX4_starts_0 5 rfl rfl)
theorem dX4_starts_6 : decode cX4_starts 6 = .ok (.iconst 0, 1) := dk_3 (dk_at dksX4_starts_0 6 rfl rfl)
theorem dX4_starts_7 : decode cX4_starts 7 = .ok (.putfield 56, 3) := dk_181 0 56 (dk_at dksX4_starts_0 7 rfl rfl)
theorem dX4_starts_10 : decode cX4_starts 10 = .ok (.aload_n 0, 1) := dk_42 (dk_at dksX4_starts_0 10 rfl rfl)
theorem dX4_starts_11 : decode cX4_starts 11 = .ok (.iconst 0, 1) := dk_3 (dk_at dksX4_starts_0 11 rfl rfl)
theorem dX4_starts_12 : decode cX4_starts 12 = .ok (.putfield 177, 3) := dk_181 0 177 (dk_at dksX4_starts_0 12 rfl rfl)
theorem dX4_starts_15 : decode cX4_starts 15 = .ok (.aload_n 0, 1) := dk_42 (dk_at dksX4_starts_0 15 rfl rfl)
theorem dX4_starts_16 : decode cX4_starts 16 = .ok (.iconst 0, 1) := dk_3 (dk_at dksX4_starts_0 16 rfl rfl)
theorem dX4_starts_17 : decode cX4_starts 17 = .ok (.putfield 168, 3) := dk_181 0 168 (dk_at dksX4_starts_0 17 rfl rfl)
theorem dX4_starts_20 : decode cX4_starts 20 = .ok (.aload_n 0, 1) := dk_42 (dk_at dksX4_starts_0 20 rfl rfl)
theorem dX4_starts_21 : decode cX4_starts 21 = .ok (.iconst (-1), 1) := dk_2 (dk_at dksX4_starts_0 21 rfl rfl)
theorem dX4_starts_22 : decode cX4_starts 22 = .ok (.putfield 35, 3) := dk_181 0 35 (dk_at dksX4_starts_1 0 rfl rfl)
theorem dX4_starts_25 : decode cX4_starts 25 = .ok (.aload_n 0, 1) := dk_42 (dk_at dksX4_starts_1 3 rfl rfl)
theorem dX4_starts_26 : decode cX4_starts 26 = .ok (.invokevirtual 199, 3) := dk_182 0 199 (dk_at dksX4_starts_1 4 rfl rfl)
theorem dX4_starts_29 : decode cX4_starts 29 = .ok (.return_, 1) := dk_177 (dk_at dksX4_starts_1 7 rfl rfl)
abbrev cX4_next : ByteArray := prog_33_method_51_code
def yX4_next : MethodName := ⟨RX4, "next", "()V"⟩
def dkwX4_next_6 : List UInt8 := [181, 0, 187, 42, 89, 180, 0, 177, 4, 96, 181, 0, 177, 177]
abbrev dktX4_next_6 : List UInt8 := dkwX4_next_6 ++ []
def dkwX4_next_5 : List UInt8 := [180, 0, 32, 42, 180, 0, 177, 46, 184, 0, 183, 153, 0, 10, 42, 182, 0, 196, 167, 0, 18, 42, 6]
abbrev dktX4_next_5 : List UInt8 := dkwX4_next_5 ++ dktX4_next_6
def dkwX4_next_4 : List UInt8 := [42, 89, 180, 0, 177, 4, 96, 181, 0, 177, 167, 255, 232, 42, 4, 181, 0, 187, 167, 0, 40, 42]
abbrev dktX4_next_4 : List UInt8 := dkwX4_next_4 ++ dktX4_next_5
def dkwX4_next_3 : List UInt8 := [180, 0, 177, 46, 184, 0, 193, 153, 0, 38, 42, 42, 180, 0, 177, 182, 0, 180, 184, 0, 193, 153, 0, 16]
abbrev dktX4_next_3 : List UInt8 := dkwX4_next_3 ++ dktX4_next_4
def dkwX4_next_2 : List UInt8 := [42, 180, 0, 177, 42, 180, 0, 171, 161, 0, 11, 42, 3, 181, 0, 187, 167, 0, 90, 42, 180, 0, 32, 42]
abbrev dktX4_next_2 : List UInt8 := dkwX4_next_2 ++ dktX4_next_3
def dkwX4_next_1 : List UInt8 := [160, 0, 16, 42, 89, 180, 0, 177, 4, 96, 181, 0, 177, 167, 255, 220, 42, 42, 180, 0, 177, 181, 0, 190]
abbrev dktX4_next_1 : List UInt8 := dkwX4_next_1 ++ dktX4_next_2
def dkwX4_next_0 : List UInt8 := [42, 42, 180, 0, 177, 182, 0, 180, 16, 32, 159, 0, 16, 42, 42, 180, 0, 177, 182, 0, 180, 16, 10]
abbrev dktX4_next_0 : List UInt8 := dkwX4_next_0 ++ dktX4_next_1
theorem dksX4_next_0 : cX4_next.data.toList.drop 0 = dktX4_next_0 := by decide +kernel
theorem dksX4_next_1 : cX4_next.data.toList.drop 23 = dktX4_next_1 := dk_seg dksX4_next_0 23 rfl rfl
theorem dksX4_next_2 : cX4_next.data.toList.drop 47 = dktX4_next_2 := dk_seg dksX4_next_1 24 rfl rfl
theorem dksX4_next_3 : cX4_next.data.toList.drop 71 = dktX4_next_3 := dk_seg dksX4_next_2 24 rfl rfl
theorem dksX4_next_4 : cX4_next.data.toList.drop 95 = dktX4_next_4 := dk_seg dksX4_next_3 24 rfl rfl
theorem dksX4_next_5 : cX4_next.data.toList.drop 117 = dktX4_next_5 := dk_seg dksX4_next_4 22 rfl rfl
theorem dksX4_next_6 : cX4_next.data.toList.drop 140 = dktX4_next_6 := dk_seg dksX4_next_5 23 rfl rfl
theorem dX4_next_0 : decode cX4_next 0 = .ok (.aload_n 0, 1) := dk_42 (dk_at dksX4_next_0 0 rfl rfl)
theorem dX4_next_1 : decode cX4_next 1 = .ok (.aload_n 0, 1) := dk_42 (dk_at dksX4_next_0 1 rfl rfl)
theorem dX4_next_2 : decode cX4_next 2 = .ok (.getfield 177, 3) := dk_180 0 177 (dk_at dksX4_next_0 2 rfl rfl)
theorem dX4_next_5 : decode cX4_next 5 = .ok (.invokevirtual 180, 3) := dk_182 0 180 (dk_at dksX4_next_0 5 rfl rfl)
theorem dX4_next_8 : decode cX4_next 8 = .ok (.bipush 32, 2) := dk_16 32 (dk_at dksX4_next_0 8 rfl rfl)
theorem dX4_next_10 : decode cX4_next 10 = .ok (.if_icmp .eq 16, 3) := dk_159 0 16 (dk_at dksX4_next_0 10 rfl rfl)
theorem dX4_next_13 : decode cX4_next 13 = .ok (.aload_n 0, 1) := dk_42 (dk_at dksX4_next_0 13 rfl rfl)
theorem dX4_next_14 : decode cX4_next 14 = .ok (.aload_n 0, 1) := dk_42 (dk_at dksX4_next_0 14 rfl rfl)
theorem dX4_next_15 : decode cX4_next 15 = .ok (.getfield 177, 3) := dk_180 0 177 (dk_at dksX4_next_0 15 rfl rfl)
theorem dX4_next_18 : decode cX4_next 18 = .ok (.invokevirtual 180, 3) := dk_182 0 180 (dk_at dksX4_next_0 18 rfl rfl)
theorem dX4_next_21 : decode cX4_next 21 = .ok (.bipush 10, 2) := dk_16 10 (dk_at dksX4_next_0 21 rfl rfl)
theorem dX4_next_23 : decode cX4_next 23 = .ok (.if_icmp .ne 16, 3) := dk_160 0 16 (dk_at dksX4_next_1 0 rfl rfl)
theorem dX4_next_26 : decode cX4_next 26 = .ok (.aload_n 0, 1) := dk_42 (dk_at dksX4_next_1 3 rfl rfl)
theorem dX4_next_27 : decode cX4_next 27 = .ok (.dup, 1) := dk_89 (dk_at dksX4_next_1 4 rfl rfl)
theorem dX4_next_28 : decode cX4_next 28 = .ok (.getfield 177, 3) := dk_180 0 177 (dk_at dksX4_next_1 5 rfl rfl)
theorem dX4_next_31 : decode cX4_next 31 = .ok (.iconst 1, 1) := dk_4 (dk_at dksX4_next_1 8 rfl rfl)
theorem dX4_next_32 : decode cX4_next 32 = .ok (.iadd, 1) := dk_96 (dk_at dksX4_next_1 9 rfl rfl)
theorem dX4_next_33 : decode cX4_next 33 = .ok (.putfield 177, 3) := dk_181 0 177 (dk_at dksX4_next_1 10 rfl rfl)
theorem dX4_next_36 : decode cX4_next 36 = .ok (.goto (-36), 3) := dk_167 255 220 (dk_at dksX4_next_1 13 rfl rfl)
theorem dX4_next_39 : decode cX4_next 39 = .ok (.aload_n 0, 1) := dk_42 (dk_at dksX4_next_1 16 rfl rfl)
theorem dX4_next_40 : decode cX4_next 40 = .ok (.aload_n 0, 1) := dk_42 (dk_at dksX4_next_1 17 rfl rfl)
theorem dX4_next_41 : decode cX4_next 41 = .ok (.getfield 177, 3) := dk_180 0 177 (dk_at dksX4_next_1 18 rfl rfl)
theorem dX4_next_44 : decode cX4_next 44 = .ok (.putfield 190, 3) := dk_181 0 190 (dk_at dksX4_next_1 21 rfl rfl)
theorem dX4_next_47 : decode cX4_next 47 = .ok (.aload_n 0, 1) := dk_42 (dk_at dksX4_next_2 0 rfl rfl)
theorem dX4_next_48 : decode cX4_next 48 = .ok (.getfield 177, 3) := dk_180 0 177 (dk_at dksX4_next_2 1 rfl rfl)
theorem dX4_next_51 : decode cX4_next 51 = .ok (.aload_n 0, 1) := dk_42 (dk_at dksX4_next_2 4 rfl rfl)
theorem dX4_next_52 : decode cX4_next 52 = .ok (.getfield 171, 3) := dk_180 0 171 (dk_at dksX4_next_2 5 rfl rfl)
theorem dX4_next_55 : decode cX4_next 55 = .ok (.if_icmp .lt 11, 3) := dk_161 0 11 (dk_at dksX4_next_2 8 rfl rfl)
theorem dX4_next_58 : decode cX4_next 58 = .ok (.aload_n 0, 1) := dk_42 (dk_at dksX4_next_2 11 rfl rfl)
theorem dX4_next_59 : decode cX4_next 59 = .ok (.iconst 0, 1) := dk_3 (dk_at dksX4_next_2 12 rfl rfl)
theorem dX4_next_60 : decode cX4_next 60 = .ok (.putfield 187, 3) := dk_181 0 187 (dk_at dksX4_next_2 13 rfl rfl)
theorem dX4_next_63 : decode cX4_next 63 = .ok (.goto 90, 3) := dk_167 0 90 (dk_at dksX4_next_2 16 rfl rfl)
theorem dX4_next_66 : decode cX4_next 66 = .ok (.aload_n 0, 1) := dk_42 (dk_at dksX4_next_2 19 rfl rfl)
theorem dX4_next_67 : decode cX4_next 67 = .ok (.getfield 32, 3) := dk_180 0 32 (dk_at dksX4_next_2 20 rfl rfl)
theorem dX4_next_70 : decode cX4_next 70 = .ok (.aload_n 0, 1) := dk_42 (dk_at dksX4_next_2 23 rfl rfl)
theorem dX4_next_71 : decode cX4_next 71 = .ok (.getfield 177, 3) := dk_180 0 177 (dk_at dksX4_next_3 0 rfl rfl)
theorem dX4_next_74 : decode cX4_next 74 = .ok (.iaload, 1) := dk_46 (dk_at dksX4_next_3 3 rfl rfl)
theorem dX4_next_75 : decode cX4_next 75 = .ok (.invokestatic 193, 3) := dk_184 0 193 (dk_at dksX4_next_3 4 rfl rfl)
theorem dX4_next_78 : decode cX4_next 78 = .ok (.ifCond .eq 38, 3) := dk_153 0 38 (dk_at dksX4_next_3 7 rfl rfl)
theorem dX4_next_81 : decode cX4_next 81 = .ok (.aload_n 0, 1) := dk_42 (dk_at dksX4_next_3 10 rfl rfl)
theorem dX4_next_82 : decode cX4_next 82 = .ok (.aload_n 0, 1) := dk_42 (dk_at dksX4_next_3 11 rfl rfl)
theorem dX4_next_83 : decode cX4_next 83 = .ok (.getfield 177, 3) := dk_180 0 177 (dk_at dksX4_next_3 12 rfl rfl)
theorem dX4_next_86 : decode cX4_next 86 = .ok (.invokevirtual 180, 3) := dk_182 0 180 (dk_at dksX4_next_3 15 rfl rfl)
theorem dX4_next_89 : decode cX4_next 89 = .ok (.invokestatic 193, 3) := dk_184 0 193 (dk_at dksX4_next_3 18 rfl rfl)
theorem dX4_next_92 : decode cX4_next 92 = .ok (.ifCond .eq 16, 3) := dk_153 0 16 (dk_at dksX4_next_3 21 rfl rfl)
theorem dX4_next_95 : decode cX4_next 95 = .ok (.aload_n 0, 1) := dk_42 (dk_at dksX4_next_4 0 rfl rfl)
theorem dX4_next_96 : decode cX4_next 96 = .ok (.dup, 1) := dk_89 (dk_at dksX4_next_4 1 rfl rfl)
theorem dX4_next_97 : decode cX4_next 97 = .ok (.getfield 177, 3) := dk_180 0 177 (dk_at dksX4_next_4 2 rfl rfl)
theorem dX4_next_100 : decode cX4_next 100 = .ok (.iconst 1, 1) := dk_4 (dk_at dksX4_next_4 5 rfl rfl)
theorem dX4_next_101 : decode cX4_next 101 = .ok (.iadd, 1) := dk_96 (dk_at dksX4_next_4 6 rfl rfl)
theorem dX4_next_102 : decode cX4_next 102 = .ok (.putfield 177, 3) := dk_181 0 177 (dk_at dksX4_next_4 7 rfl rfl)
theorem dX4_next_105 : decode cX4_next 105 = .ok (.goto (-24), 3) := dk_167 255 232 (dk_at dksX4_next_4 10 rfl rfl)
theorem dX4_next_108 : decode cX4_next 108 = .ok (.aload_n 0, 1) := dk_42 (dk_at dksX4_next_4 13 rfl rfl)
theorem dX4_next_109 : decode cX4_next 109 = .ok (.iconst 1, 1) := dk_4 (dk_at dksX4_next_4 14 rfl rfl)
theorem dX4_next_110 : decode cX4_next 110 = .ok (.putfield 187, 3) := dk_181 0 187 (dk_at dksX4_next_4 15 rfl rfl)
theorem dX4_next_113 : decode cX4_next 113 = .ok (.goto 40, 3) := dk_167 0 40 (dk_at dksX4_next_4 18 rfl rfl)
theorem dX4_next_116 : decode cX4_next 116 = .ok (.aload_n 0, 1) := dk_42 (dk_at dksX4_next_4 21 rfl rfl)
theorem dX4_next_117 : decode cX4_next 117 = .ok (.getfield 32, 3) := dk_180 0 32 (dk_at dksX4_next_5 0 rfl rfl)
theorem dX4_next_120 : decode cX4_next 120 = .ok (.aload_n 0, 1) := dk_42 (dk_at dksX4_next_5 3 rfl rfl)
theorem dX4_next_121 : decode cX4_next 121 = .ok (.getfield 177, 3) := dk_180 0 177 (dk_at dksX4_next_5 4 rfl rfl)
theorem dX4_next_124 : decode cX4_next 124 = .ok (.iaload, 1) := dk_46 (dk_at dksX4_next_5 7 rfl rfl)
theorem dX4_next_125 : decode cX4_next 125 = .ok (.invokestatic 183, 3) := dk_184 0 183 (dk_at dksX4_next_5 8 rfl rfl)
theorem dX4_next_128 : decode cX4_next 128 = .ok (.ifCond .eq 10, 3) := dk_153 0 10 (dk_at dksX4_next_5 11 rfl rfl)
theorem dX4_next_131 : decode cX4_next 131 = .ok (.aload_n 0, 1) := dk_42 (dk_at dksX4_next_5 14 rfl rfl)
theorem dX4_next_132 : decode cX4_next 132 = .ok (.invokevirtual 196, 3) := dk_182 0 196 (dk_at dksX4_next_5 15 rfl rfl)
theorem dX4_next_135 : decode cX4_next 135 = .ok (.goto 18, 3) := dk_167 0 18 (dk_at dksX4_next_5 18 rfl rfl)
theorem dX4_next_138 : decode cX4_next 138 = .ok (.aload_n 0, 1) := dk_42 (dk_at dksX4_next_5 21 rfl rfl)
theorem dX4_next_139 : decode cX4_next 139 = .ok (.iconst 3, 1) := dk_6 (dk_at dksX4_next_5 22 rfl rfl)
theorem dX4_next_140 : decode cX4_next 140 = .ok (.putfield 187, 3) := dk_181 0 187 (dk_at dksX4_next_6 0 rfl rfl)
theorem dX4_next_143 : decode cX4_next 143 = .ok (.aload_n 0, 1) := dk_42 (dk_at dksX4_next_6 3 rfl rfl)
theorem dX4_next_144 : decode cX4_next 144 = .ok (.dup, 1) := dk_89 (dk_at dksX4_next_6 4 rfl rfl)
theorem dX4_next_145 : decode cX4_next 145 = .ok (.getfield 177, 3) := dk_180 0 177 (dk_at dksX4_next_6 5 rfl rfl)
theorem dX4_next_148 : decode cX4_next 148 = .ok (.iconst 1, 1) := dk_4 (dk_at dksX4_next_6 8 rfl rfl)
theorem dX4_next_149 : decode cX4_next 149 = .ok (.iadd, 1) := dk_96 (dk_at dksX4_next_6 9 rfl rfl)
theorem dX4_next_150 : decode cX4_next 150 = .ok (.putfield 177, 3) := dk_181 0 177 (dk_at dksX4_next_6 10 rfl rfl)
theorem dX4_next_153 : decode cX4_next 153 = .ok (.return_, 1) := dk_177 (dk_at dksX4_next_6 13 rfl rfl)
abbrev cX4_byteAt : ByteArray := prog_33_method_47_code
def yX4_byteAt : MethodName := ⟨RX4, "byteAt", "(I)I"⟩
def dkwX4_byteAt_0 : List UInt8 := [27, 42, 180, 0, 171, 162, 0, 12, 42, 180, 0, 32, 27, 46, 167, 0, 4, 2, 172]
abbrev dktX4_byteAt_0 : List UInt8 := dkwX4_byteAt_0 ++ []
theorem dksX4_byteAt_0 : cX4_byteAt.data.toList.drop 0 = dktX4_byteAt_0 := by decide +kernel
theorem dX4_byteAt_0 : decode cX4_byteAt 0 = .ok (.iload_n 1, 1) := dk_27 (dk_at dksX4_byteAt_0 0 rfl rfl)
theorem dX4_byteAt_1 : decode cX4_byteAt 1 = .ok (.aload_n 0, 1) := dk_42 (dk_at dksX4_byteAt_0 1 rfl rfl)
theorem dX4_byteAt_2 : decode cX4_byteAt 2 = .ok (.getfield 171, 3) := dk_180 0 171 (dk_at dksX4_byteAt_0 2 rfl rfl)
theorem dX4_byteAt_5 : decode cX4_byteAt 5 = .ok (.if_icmp .ge 12, 3) := dk_162 0 12 (dk_at dksX4_byteAt_0 5 rfl rfl)
theorem dX4_byteAt_8 : decode cX4_byteAt 8 = .ok (.aload_n 0, 1) := dk_42 (dk_at dksX4_byteAt_0 8 rfl rfl)
theorem dX4_byteAt_9 : decode cX4_byteAt 9 = .ok (.getfield 32, 3) := dk_180 0 32 (dk_at dksX4_byteAt_0 9 rfl rfl)
theorem dX4_byteAt_12 : decode cX4_byteAt 12 = .ok (.iload_n 1, 1) := dk_27 (dk_at dksX4_byteAt_0 12 rfl rfl)
theorem dX4_byteAt_13 : decode cX4_byteAt 13 = .ok (.iaload, 1) := dk_46 (dk_at dksX4_byteAt_0 13 rfl rfl)
theorem dX4_byteAt_14 : decode cX4_byteAt 14 = .ok (.goto 4, 3) := dk_167 0 4 (dk_at dksX4_byteAt_0 14 rfl rfl)
theorem dX4_byteAt_17 : decode cX4_byteAt 17 = .ok (.iconst (-1), 1) := dk_2 (dk_at dksX4_byteAt_0 17 rfl rfl)
theorem dX4_byteAt_18 : decode cX4_byteAt 18 = .ok (.ireturn, 1) := dk_172 (dk_at dksX4_byteAt_0 18 rfl rfl)
abbrev cX4_isLetter : ByteArray := prog_33_method_48_code
def yX4_isLetter : MethodName := ⟨RX4, "isLetter", "(I)Z"⟩
def dkwX4_isLetter_0 : List UInt8 := [26, 16, 97, 161, 0, 13, 26, 16, 122, 163, 0, 7, 4, 167, 0, 4, 3, 172]
abbrev dktX4_isLetter_0 : List UInt8 := dkwX4_isLetter_0 ++ []
theorem dksX4_isLetter_0 : cX4_isLetter.data.toList.drop 0 = dktX4_isLetter_0 := by decide +kernel
theorem dX4_isLetter_0 : decode cX4_isLetter 0 = .ok (.iload_n 0, 1) := dk_26 (dk_at dksX4_isLetter_0 0 rfl rfl)
theorem dX4_isLetter_1 : decode cX4_isLetter 1 = .ok (.bipush 97, 2) := dk_16 97 (dk_at dksX4_isLetter_0 1 rfl rfl)
theorem dX4_isLetter_3 : decode cX4_isLetter 3 = .ok (.if_icmp .lt 13, 3) := dk_161 0 13 (dk_at dksX4_isLetter_0 3 rfl rfl)
theorem dX4_isLetter_6 : decode cX4_isLetter 6 = .ok (.iload_n 0, 1) := dk_26 (dk_at dksX4_isLetter_0 6 rfl rfl)
theorem dX4_isLetter_7 : decode cX4_isLetter 7 = .ok (.bipush 122, 2) := dk_16 122 (dk_at dksX4_isLetter_0 7 rfl rfl)
theorem dX4_isLetter_9 : decode cX4_isLetter 9 = .ok (.if_icmp .gt 7, 3) := dk_163 0 7 (dk_at dksX4_isLetter_0 9 rfl rfl)
theorem dX4_isLetter_12 : decode cX4_isLetter 12 = .ok (.iconst 1, 1) := dk_4 (dk_at dksX4_isLetter_0 12 rfl rfl)
theorem dX4_isLetter_13 : decode cX4_isLetter 13 = .ok (.goto 4, 3) := dk_167 0 4 (dk_at dksX4_isLetter_0 13 rfl rfl)
theorem dX4_isLetter_16 : decode cX4_isLetter 16 = .ok (.iconst 0, 1) := dk_3 (dk_at dksX4_isLetter_0 16 rfl rfl)
theorem dX4_isLetter_17 : decode cX4_isLetter 17 = .ok (.ireturn, 1) := dk_172 (dk_at dksX4_isLetter_0 17 rfl rfl)
abbrev cX4_isFigure : ByteArray := prog_33_method_49_code
def yX4_isFigure : MethodName := ⟨RX4, "isFigure", "(I)Z"⟩
def dkwX4_isFigure_0 : List UInt8 := [26, 16, 48, 161, 0, 13, 26, 16, 57, 163, 0, 7, 4, 167, 0, 4, 3, 172]
abbrev dktX4_isFigure_0 : List UInt8 := dkwX4_isFigure_0 ++ []
theorem dksX4_isFigure_0 : cX4_isFigure.data.toList.drop 0 = dktX4_isFigure_0 := by decide +kernel
theorem dX4_isFigure_0 : decode cX4_isFigure 0 = .ok (.iload_n 0, 1) := dk_26 (dk_at dksX4_isFigure_0 0 rfl rfl)
theorem dX4_isFigure_1 : decode cX4_isFigure 1 = .ok (.bipush 48, 2) := dk_16 48 (dk_at dksX4_isFigure_0 1 rfl rfl)
theorem dX4_isFigure_3 : decode cX4_isFigure 3 = .ok (.if_icmp .lt 13, 3) := dk_161 0 13 (dk_at dksX4_isFigure_0 3 rfl rfl)
theorem dX4_isFigure_6 : decode cX4_isFigure 6 = .ok (.iload_n 0, 1) := dk_26 (dk_at dksX4_isFigure_0 6 rfl rfl)
theorem dX4_isFigure_7 : decode cX4_isFigure 7 = .ok (.bipush 57, 2) := dk_16 57 (dk_at dksX4_isFigure_0 7 rfl rfl)
theorem dX4_isFigure_9 : decode cX4_isFigure 9 = .ok (.if_icmp .gt 7, 3) := dk_163 0 7 (dk_at dksX4_isFigure_0 9 rfl rfl)
theorem dX4_isFigure_12 : decode cX4_isFigure 12 = .ok (.iconst 1, 1) := dk_4 (dk_at dksX4_isFigure_0 12 rfl rfl)
theorem dX4_isFigure_13 : decode cX4_isFigure 13 = .ok (.goto 4, 3) := dk_167 0 4 (dk_at dksX4_isFigure_0 13 rfl rfl)
theorem dX4_isFigure_16 : decode cX4_isFigure 16 = .ok (.iconst 0, 1) := dk_3 (dk_at dksX4_isFigure_0 16 rfl rfl)
theorem dX4_isFigure_17 : decode cX4_isFigure 17 = .ok (.ireturn, 1) := dk_172 (dk_at dksX4_isFigure_0 17 rfl rfl)
abbrev cX4_readsNumber : ByteArray := prog_33_method_50_code
def yX4_readsNumber : MethodName := ⟨RX4, "readsNumber", "()V"⟩
def dkwX4_readsNumber_3 : List UInt8 := [42, 5, 181, 0, 187, 177]
abbrev dktX4_readsNumber_3 : List UInt8 := dkwX4_readsNumber_3 ++ []
def dkwX4_readsNumber_2 : List UInt8 := [180, 0, 177, 46, 96, 16, 48, 100, 181, 0, 174, 42, 89, 180, 0, 177, 4, 96, 181, 0, 177, 167, 255, 192]
abbrev dktX4_readsNumber_2 : List UInt8 := dkwX4_readsNumber_2 ++ dktX4_readsNumber_3
def dkwX4_readsNumber_1 : List UInt8 := [18, 186, 164, 0, 10, 42, 180, 0, 174, 167, 0, 23, 16, 10, 42, 180, 0, 174, 104, 42, 180, 0, 32, 42]
abbrev dktX4_readsNumber_1 : List UInt8 := dkwX4_readsNumber_1 ++ dktX4_readsNumber_2
def dkwX4_readsNumber_0 : List UInt8 := [42, 3, 181, 0, 174, 42, 42, 180, 0, 177, 182, 0, 180, 184, 0, 183, 153, 0, 56, 42, 42, 180, 0, 174]
abbrev dktX4_readsNumber_0 : List UInt8 := dkwX4_readsNumber_0 ++ dktX4_readsNumber_1
theorem dksX4_readsNumber_0 : cX4_readsNumber.data.toList.drop 0 = dktX4_readsNumber_0 := by decide +kernel
theorem dksX4_readsNumber_1 : cX4_readsNumber.data.toList.drop 24 = dktX4_readsNumber_1 := dk_seg dksX4_readsNumber_0 24 rfl rfl
theorem dksX4_readsNumber_2 : cX4_readsNumber.data.toList.drop 48 = dktX4_readsNumber_2 := dk_seg dksX4_readsNumber_1 24 rfl rfl
theorem dksX4_readsNumber_3 : cX4_readsNumber.data.toList.drop 72 = dktX4_readsNumber_3 := dk_seg dksX4_readsNumber_2 24 rfl rfl
theorem dX4_readsNumber_0 : decode cX4_readsNumber 0 = .ok (.aload_n 0, 1) := dk_42 (dk_at dksX4_readsNumber_0 0 rfl rfl)
theorem dX4_readsNumber_1 : decode cX4_readsNumber 1 = .ok (.iconst 0, 1) := dk_3 (dk_at dksX4_readsNumber_0 1 rfl rfl)
theorem dX4_readsNumber_2 : decode cX4_readsNumber 2 = .ok (.putfield 174, 3) := dk_181 0 174 (dk_at dksX4_readsNumber_0 2 rfl rfl)
theorem dX4_readsNumber_5 : decode cX4_readsNumber 5 = .ok (.aload_n 0, 1) := dk_42 (dk_at dksX4_readsNumber_0 5 rfl rfl)
theorem dX4_readsNumber_6 : decode cX4_readsNumber 6 = .ok (.aload_n 0, 1) := dk_42 (dk_at dksX4_readsNumber_0 6 rfl rfl)
theorem dX4_readsNumber_7 : decode cX4_readsNumber 7 = .ok (.getfield 177, 3) := dk_180 0 177 (dk_at dksX4_readsNumber_0 7 rfl rfl)
theorem dX4_readsNumber_10 : decode cX4_readsNumber 10 = .ok (.invokevirtual 180, 3) := dk_182 0 180 (dk_at dksX4_readsNumber_0 10 rfl rfl)
theorem dX4_readsNumber_13 : decode cX4_readsNumber 13 = .ok (.invokestatic 183, 3) := dk_184 0 183 (dk_at dksX4_readsNumber_0 13 rfl rfl)
theorem dX4_readsNumber_16 : decode cX4_readsNumber 16 = .ok (.ifCond .eq 56, 3) := dk_153 0 56 (dk_at dksX4_readsNumber_0 16 rfl rfl)
theorem dX4_readsNumber_19 : decode cX4_readsNumber 19 = .ok (.aload_n 0, 1) := dk_42 (dk_at dksX4_readsNumber_0 19 rfl rfl)
theorem dX4_readsNumber_20 : decode cX4_readsNumber 20 = .ok (.aload_n 0, 1) := dk_42 (dk_at dksX4_readsNumber_0 20 rfl rfl)
theorem dX4_readsNumber_21 : decode cX4_readsNumber 21 = .ok (.getfield 174, 3) := dk_180 0 174 (dk_at dksX4_readsNumber_0 21 rfl rfl)
theorem dX4_readsNumber_24 : decode cX4_readsNumber 24 = .ok (.ldc 186, 2) := dk_18 186 (dk_at dksX4_readsNumber_1 0 rfl rfl)
theorem dX4_readsNumber_26 : decode cX4_readsNumber 26 = .ok (.if_icmp .le 10, 3) := dk_164 0 10 (dk_at dksX4_readsNumber_1 2 rfl rfl)
theorem dX4_readsNumber_29 : decode cX4_readsNumber 29 = .ok (.aload_n 0, 1) := dk_42 (dk_at dksX4_readsNumber_1 5 rfl rfl)
theorem dX4_readsNumber_30 : decode cX4_readsNumber 30 = .ok (.getfield 174, 3) := dk_180 0 174 (dk_at dksX4_readsNumber_1 6 rfl rfl)
theorem dX4_readsNumber_33 : decode cX4_readsNumber 33 = .ok (.goto 23, 3) := dk_167 0 23 (dk_at dksX4_readsNumber_1 9 rfl rfl)
theorem dX4_readsNumber_36 : decode cX4_readsNumber 36 = .ok (.bipush 10, 2) := dk_16 10 (dk_at dksX4_readsNumber_1 12 rfl rfl)
theorem dX4_readsNumber_38 : decode cX4_readsNumber 38 = .ok (.aload_n 0, 1) := dk_42 (dk_at dksX4_readsNumber_1 14 rfl rfl)
theorem dX4_readsNumber_39 : decode cX4_readsNumber 39 = .ok (.getfield 174, 3) := dk_180 0 174 (dk_at dksX4_readsNumber_1 15 rfl rfl)
theorem dX4_readsNumber_42 : decode cX4_readsNumber 42 = .ok (.imul, 1) := dk_104 (dk_at dksX4_readsNumber_1 18 rfl rfl)
theorem dX4_readsNumber_43 : decode cX4_readsNumber 43 = .ok (.aload_n 0, 1) := dk_42 (dk_at dksX4_readsNumber_1 19 rfl rfl)
theorem dX4_readsNumber_44 : decode cX4_readsNumber 44 = .ok (.getfield 32, 3) := dk_180 0 32 (dk_at dksX4_readsNumber_1 20 rfl rfl)
theorem dX4_readsNumber_47 : decode cX4_readsNumber 47 = .ok (.aload_n 0, 1) := dk_42 (dk_at dksX4_readsNumber_1 23 rfl rfl)
theorem dX4_readsNumber_48 : decode cX4_readsNumber 48 = .ok (.getfield 177, 3) := dk_180 0 177 (dk_at dksX4_readsNumber_2 0 rfl rfl)
theorem dX4_readsNumber_51 : decode cX4_readsNumber 51 = .ok (.iaload, 1) := dk_46 (dk_at dksX4_readsNumber_2 3 rfl rfl)
theorem dX4_readsNumber_52 : decode cX4_readsNumber 52 = .ok (.iadd, 1) := dk_96 (dk_at dksX4_readsNumber_2 4 rfl rfl)
theorem dX4_readsNumber_53 : decode cX4_readsNumber 53 = .ok (.bipush 48, 2) := dk_16 48 (dk_at dksX4_readsNumber_2 5 rfl rfl)
theorem dX4_readsNumber_55 : decode cX4_readsNumber 55 = .ok (.isub, 1) := dk_100 (dk_at dksX4_readsNumber_2 7 rfl rfl)
theorem dX4_readsNumber_56 : decode cX4_readsNumber 56 = .ok (.putfield 174, 3) := dk_181 0 174 (dk_at dksX4_readsNumber_2 8 rfl rfl)
theorem dX4_readsNumber_59 : decode cX4_readsNumber 59 = .ok (.aload_n 0, 1) := dk_42 (dk_at dksX4_readsNumber_2 11 rfl rfl)
theorem dX4_readsNumber_60 : decode cX4_readsNumber 60 = .ok (.dup, 1) := dk_89 (dk_at dksX4_readsNumber_2 12 rfl rfl)
theorem dX4_readsNumber_61 : decode cX4_readsNumber 61 = .ok (.getfield 177, 3) := dk_180 0 177 (dk_at dksX4_readsNumber_2 13 rfl rfl)
theorem dX4_readsNumber_64 : decode cX4_readsNumber 64 = .ok (.iconst 1, 1) := dk_4 (dk_at dksX4_readsNumber_2 16 rfl rfl)
theorem dX4_readsNumber_65 : decode cX4_readsNumber 65 = .ok (.iadd, 1) := dk_96 (dk_at dksX4_readsNumber_2 17 rfl rfl)
theorem dX4_readsNumber_66 : decode cX4_readsNumber 66 = .ok (.putfield 177, 3) := dk_181 0 177 (dk_at dksX4_readsNumber_2 18 rfl rfl)
theorem dX4_readsNumber_69 : decode cX4_readsNumber 69 = .ok (.goto (-64), 3) := dk_167 255 192 (dk_at dksX4_readsNumber_2 21 rfl rfl)
theorem dX4_readsNumber_72 : decode cX4_readsNumber 72 = .ok (.aload_n 0, 1) := dk_42 (dk_at dksX4_readsNumber_3 0 rfl rfl)
theorem dX4_readsNumber_73 : decode cX4_readsNumber 73 = .ok (.iconst 2, 1) := dk_5 (dk_at dksX4_readsNumber_3 1 rfl rfl)
theorem dX4_readsNumber_74 : decode cX4_readsNumber 74 = .ok (.putfield 187, 3) := dk_181 0 187 (dk_at dksX4_readsNumber_3 2 rfl rfl)
theorem dX4_readsNumber_77 : decode cX4_readsNumber 77 = .ok (.return_, 1) := dk_177 (dk_at dksX4_readsNumber_3 5 rfl rfl)
abbrev cX4_readsText : ByteArray := prog_33_method_59_code
def yX4_readsText : MethodName := ⟨RX4, "readsText", "()V"⟩
def dkwX4_readsText_5 : List UInt8 := [182, 0, 206, 177]
abbrev dktX4_readsText_5 : List UInt8 := dkwX4_readsText_5 ++ []
def dkwX4_readsText_4 : List UInt8 := [42, 182, 0, 224, 167, 255, 228, 42, 180, 0, 168, 154, 0, 15, 42, 182, 0, 99, 154, 0, 8, 42, 8]
abbrev dktX4_readsText_4 : List UInt8 := dkwX4_readsText_4 ++ dktX4_readsText_5
def dkwX4_readsText_3 : List UInt8 := [42, 180, 0, 168, 154, 0, 27, 42, 180, 0, 13, 4, 46, 4, 161, 0, 10, 42, 180, 0, 187, 153, 0, 10]
abbrev dktX4_readsText_3 : List UInt8 := dkwX4_readsText_3 ++ dktX4_readsText_4
def dkwX4_readsText_2 : List UInt8 := [46, 4, 161, 0, 11, 42, 180, 0, 187, 5, 160, 0, 10, 42, 182, 0, 218, 167, 255, 227, 42, 182, 0, 221]
abbrev dktX4_readsText_2 : List UInt8 := dkwX4_readsText_2 ++ dktX4_readsText_3
def dkwX4_readsText_1 : List UInt8 := [180, 0, 13, 27, 3, 79, 132, 1, 1, 167, 255, 233, 42, 180, 0, 168, 154, 0, 28, 42, 180, 0, 13, 3]
abbrev dktX4_readsText_1 : List UInt8 := dkwX4_readsText_1 ++ dktX4_readsText_2
def dkwX4_readsText_0 : List UInt8 := [42, 18, 212, 182, 0, 214, 3, 60, 27, 16, 101, 162, 0, 23, 42, 180, 0, 168, 154, 0, 16, 42]
abbrev dktX4_readsText_0 : List UInt8 := dkwX4_readsText_0 ++ dktX4_readsText_1
theorem dksX4_readsText_0 : cX4_readsText.data.toList.drop 0 = dktX4_readsText_0 := by decide +kernel
theorem dksX4_readsText_1 : cX4_readsText.data.toList.drop 22 = dktX4_readsText_1 := dk_seg dksX4_readsText_0 22 rfl rfl
theorem dksX4_readsText_2 : cX4_readsText.data.toList.drop 46 = dktX4_readsText_2 := dk_seg dksX4_readsText_1 24 rfl rfl
theorem dksX4_readsText_3 : cX4_readsText.data.toList.drop 70 = dktX4_readsText_3 := dk_seg dksX4_readsText_2 24 rfl rfl
theorem dksX4_readsText_4 : cX4_readsText.data.toList.drop 94 = dktX4_readsText_4 := dk_seg dksX4_readsText_3 24 rfl rfl
theorem dksX4_readsText_5 : cX4_readsText.data.toList.drop 117 = dktX4_readsText_5 := dk_seg dksX4_readsText_4 23 rfl rfl
theorem dX4_readsText_0 : decode cX4_readsText 0 = .ok (.aload_n 0, 1) := dk_42 (dk_at dksX4_readsText_0 0 rfl rfl)
theorem dX4_readsText_1 : decode cX4_readsText 1 = .ok (.ldc 212, 2) := dk_18 212 (dk_at dksX4_readsText_0 1 rfl rfl)
theorem dX4_readsText_3 : decode cX4_readsText 3 = .ok (.invokevirtual 214, 3) := dk_182 0 214 (dk_at dksX4_readsText_0 3 rfl rfl)
theorem dX4_readsText_6 : decode cX4_readsText 6 = .ok (.iconst 0, 1) := dk_3 (dk_at dksX4_readsText_0 6 rfl rfl)
theorem dX4_readsText_7 : decode cX4_readsText 7 = .ok (.istore_n 1, 1) := dk_60 (dk_at dksX4_readsText_0 7 rfl rfl)
theorem dX4_readsText_8 : decode cX4_readsText 8 = .ok (.iload_n 1, 1) := dk_27 (dk_at dksX4_readsText_0 8 rfl rfl)
theorem dX4_readsText_9 : decode cX4_readsText 9 = .ok (.bipush 101, 2) := dk_16 101 (dk_at dksX4_readsText_0 9 rfl rfl)
theorem dX4_readsText_11 : decode cX4_readsText 11 = .ok (.if_icmp .ge 23, 3) := dk_162 0 23 (dk_at dksX4_readsText_0 11 rfl rfl)
theorem dX4_readsText_14 : decode cX4_readsText 14 = .ok (.aload_n 0, 1) := dk_42 (dk_at dksX4_readsText_0 14 rfl rfl)
theorem dX4_readsText_15 : decode cX4_readsText 15 = .ok (.getfield 168, 3) := dk_180 0 168 (dk_at dksX4_readsText_0 15 rfl rfl)
theorem dX4_readsText_18 : decode cX4_readsText 18 = .ok (.ifCond .ne 16, 3) := dk_154 0 16 (dk_at dksX4_readsText_0 18 rfl rfl)
theorem dX4_readsText_21 : decode cX4_readsText 21 = .ok (.aload_n 0, 1) := dk_42 (dk_at dksX4_readsText_0 21 rfl rfl)
theorem dX4_readsText_22 : decode cX4_readsText 22 = .ok (.getfield 13, 3) := dk_180 0 13 (dk_at dksX4_readsText_1 0 rfl rfl)
theorem dX4_readsText_25 : decode cX4_readsText 25 = .ok (.iload_n 1, 1) := dk_27 (dk_at dksX4_readsText_1 3 rfl rfl)
theorem dX4_readsText_26 : decode cX4_readsText 26 = .ok (.iconst 0, 1) := dk_3 (dk_at dksX4_readsText_1 4 rfl rfl)
theorem dX4_readsText_27 : decode cX4_readsText 27 = .ok (.iastore, 1) := dk_79 (dk_at dksX4_readsText_1 5 rfl rfl)
theorem dX4_readsText_28 : decode cX4_readsText 28 = .ok (.iinc 1 1, 3) := dk_132 1 1 (dk_at dksX4_readsText_1 6 rfl rfl)
theorem dX4_readsText_31 : decode cX4_readsText 31 = .ok (.goto (-23), 3) := dk_167 255 233 (dk_at dksX4_readsText_1 9 rfl rfl)
theorem dX4_readsText_34 : decode cX4_readsText 34 = .ok (.aload_n 0, 1) := dk_42 (dk_at dksX4_readsText_1 12 rfl rfl)
theorem dX4_readsText_35 : decode cX4_readsText 35 = .ok (.getfield 168, 3) := dk_180 0 168 (dk_at dksX4_readsText_1 13 rfl rfl)
theorem dX4_readsText_38 : decode cX4_readsText 38 = .ok (.ifCond .ne 28, 3) := dk_154 0 28 (dk_at dksX4_readsText_1 16 rfl rfl)
theorem dX4_readsText_41 : decode cX4_readsText 41 = .ok (.aload_n 0, 1) := dk_42 (dk_at dksX4_readsText_1 19 rfl rfl)
theorem dX4_readsText_42 : decode cX4_readsText 42 = .ok (.getfield 13, 3) := dk_180 0 13 (dk_at dksX4_readsText_1 20 rfl rfl)
theorem dX4_readsText_45 : decode cX4_readsText 45 = .ok (.iconst 0, 1) := dk_3 (dk_at dksX4_readsText_1 23 rfl rfl)
theorem dX4_readsText_46 : decode cX4_readsText 46 = .ok (.iaload, 1) := dk_46 (dk_at dksX4_readsText_2 0 rfl rfl)
theorem dX4_readsText_47 : decode cX4_readsText 47 = .ok (.iconst 1, 1) := dk_4 (dk_at dksX4_readsText_2 1 rfl rfl)
theorem dX4_readsText_48 : decode cX4_readsText 48 = .ok (.if_icmp .lt 11, 3) := dk_161 0 11 (dk_at dksX4_readsText_2 2 rfl rfl)
theorem dX4_readsText_51 : decode cX4_readsText 51 = .ok (.aload_n 0, 1) := dk_42 (dk_at dksX4_readsText_2 5 rfl rfl)
theorem dX4_readsText_52 : decode cX4_readsText 52 = .ok (.getfield 187, 3) := dk_180 0 187 (dk_at dksX4_readsText_2 6 rfl rfl)
theorem dX4_readsText_55 : decode cX4_readsText 55 = .ok (.iconst 2, 1) := dk_5 (dk_at dksX4_readsText_2 9 rfl rfl)
theorem dX4_readsText_56 : decode cX4_readsText 56 = .ok (.if_icmp .ne 10, 3) := dk_160 0 10 (dk_at dksX4_readsText_2 10 rfl rfl)
theorem dX4_readsText_59 : decode cX4_readsText 59 = .ok (.aload_n 0, 1) := dk_42 (dk_at dksX4_readsText_2 13 rfl rfl)
theorem dX4_readsText_60 : decode cX4_readsText 60 = .ok (.invokevirtual 218, 3) := dk_182 0 218 (dk_at dksX4_readsText_2 14 rfl rfl)
theorem dX4_readsText_63 : decode cX4_readsText 63 = .ok (.goto (-29), 3) := dk_167 255 227 (dk_at dksX4_readsText_2 17 rfl rfl)
theorem dX4_readsText_66 : decode cX4_readsText 66 = .ok (.aload_n 0, 1) := dk_42 (dk_at dksX4_readsText_2 20 rfl rfl)
theorem dX4_readsText_67 : decode cX4_readsText 67 = .ok (.invokevirtual 221, 3) := dk_182 0 221 (dk_at dksX4_readsText_2 21 rfl rfl)
theorem dX4_readsText_70 : decode cX4_readsText 70 = .ok (.aload_n 0, 1) := dk_42 (dk_at dksX4_readsText_3 0 rfl rfl)
theorem dX4_readsText_71 : decode cX4_readsText 71 = .ok (.getfield 168, 3) := dk_180 0 168 (dk_at dksX4_readsText_3 1 rfl rfl)
theorem dX4_readsText_74 : decode cX4_readsText 74 = .ok (.ifCond .ne 27, 3) := dk_154 0 27 (dk_at dksX4_readsText_3 4 rfl rfl)
theorem dX4_readsText_77 : decode cX4_readsText 77 = .ok (.aload_n 0, 1) := dk_42 (dk_at dksX4_readsText_3 7 rfl rfl)
theorem dX4_readsText_78 : decode cX4_readsText 78 = .ok (.getfield 13, 3) := dk_180 0 13 (dk_at dksX4_readsText_3 8 rfl rfl)
theorem dX4_readsText_81 : decode cX4_readsText 81 = .ok (.iconst 1, 1) := dk_4 (dk_at dksX4_readsText_3 11 rfl rfl)
theorem dX4_readsText_82 : decode cX4_readsText 82 = .ok (.iaload, 1) := dk_46 (dk_at dksX4_readsText_3 12 rfl rfl)
theorem dX4_readsText_83 : decode cX4_readsText 83 = .ok (.iconst 1, 1) := dk_4 (dk_at dksX4_readsText_3 13 rfl rfl)
theorem dX4_readsText_84 : decode cX4_readsText 84 = .ok (.if_icmp .lt 10, 3) := dk_161 0 10 (dk_at dksX4_readsText_3 14 rfl rfl)
theorem dX4_readsText_87 : decode cX4_readsText 87 = .ok (.aload_n 0, 1) := dk_42 (dk_at dksX4_readsText_3 17 rfl rfl)
theorem dX4_readsText_88 : decode cX4_readsText 88 = .ok (.getfield 187, 3) := dk_180 0 187 (dk_at dksX4_readsText_3 18 rfl rfl)
theorem dX4_readsText_91 : decode cX4_readsText 91 = .ok (.ifCond .eq 10, 3) := dk_153 0 10 (dk_at dksX4_readsText_3 21 rfl rfl)
theorem dX4_readsText_94 : decode cX4_readsText 94 = .ok (.aload_n 0, 1) := dk_42 (dk_at dksX4_readsText_4 0 rfl rfl)
theorem dX4_readsText_95 : decode cX4_readsText 95 = .ok (.invokevirtual 224, 3) := dk_182 0 224 (dk_at dksX4_readsText_4 1 rfl rfl)
theorem dX4_readsText_98 : decode cX4_readsText 98 = .ok (.goto (-28), 3) := dk_167 255 228 (dk_at dksX4_readsText_4 4 rfl rfl)
theorem dX4_readsText_101 : decode cX4_readsText 101 = .ok (.aload_n 0, 1) := dk_42 (dk_at dksX4_readsText_4 7 rfl rfl)
theorem dX4_readsText_102 : decode cX4_readsText 102 = .ok (.getfield 168, 3) := dk_180 0 168 (dk_at dksX4_readsText_4 8 rfl rfl)
theorem dX4_readsText_105 : decode cX4_readsText 105 = .ok (.ifCond .ne 15, 3) := dk_154 0 15 (dk_at dksX4_readsText_4 11 rfl rfl)
theorem dX4_readsText_108 : decode cX4_readsText 108 = .ok (.aload_n 0, 1) := dk_42 (dk_at dksX4_readsText_4 14 rfl rfl)
theorem dX4_readsText_109 : decode cX4_readsText 109 = .ok (.invokevirtual 99, 3) := dk_182 0 99 (dk_at dksX4_readsText_4 15 rfl rfl)
theorem dX4_readsText_112 : decode cX4_readsText 112 = .ok (.ifCond .ne 8, 3) := dk_154 0 8 (dk_at dksX4_readsText_4 18 rfl rfl)
theorem dX4_readsText_115 : decode cX4_readsText 115 = .ok (.aload_n 0, 1) := dk_42 (dk_at dksX4_readsText_4 21 rfl rfl)
theorem dX4_readsText_116 : decode cX4_readsText 116 = .ok (.iconst 5, 1) := dk_8 (dk_at dksX4_readsText_4 22 rfl rfl)
theorem dX4_readsText_117 : decode cX4_readsText 117 = .ok (.invokevirtual 206, 3) := dk_182 0 206 (dk_at dksX4_readsText_5 0 rfl rfl)
theorem dX4_readsText_120 : decode cX4_readsText 120 = .ok (.return_, 1) := dk_177 (dk_at dksX4_readsText_5 3 rfl rfl)
abbrev cX4_mustWord : ByteArray := prog_33_method_55_code
def yX4_mustWord : MethodName := ⟨RX4, "mustWord", "(Ljava/lang/String;)V"⟩
def dkwX4_mustWord_1 : List UInt8 := [177]
abbrev dktX4_mustWord_1 : List UInt8 := dkwX4_mustWord_1 ++ []
def dkwX4_mustWord_0 : List UInt8 := [42, 43, 182, 0, 202, 154, 0, 8, 42, 4, 182, 0, 206, 42, 180, 0, 168, 154, 0, 7, 42, 182, 0, 199]
abbrev dktX4_mustWord_0 : List UInt8 := dkwX4_mustWord_0 ++ dktX4_mustWord_1
theorem dksX4_mustWord_0 : cX4_mustWord.data.toList.drop 0 = dktX4_mustWord_0 := by decide +kernel
theorem dksX4_mustWord_1 : cX4_mustWord.data.toList.drop 24 = dktX4_mustWord_1 := dk_seg dksX4_mustWord_0 24 rfl rfl
theorem dX4_mustWord_0 : decode cX4_mustWord 0 = .ok (.aload_n 0, 1) := dk_42 (dk_at dksX4_mustWord_0 0 rfl rfl)
theorem dX4_mustWord_1 : decode cX4_mustWord 1 = .ok (.aload_n 1, 1) := dk_43 (dk_at dksX4_mustWord_0 1 rfl rfl)
theorem dX4_mustWord_2 : decode cX4_mustWord 2 = .ok (.invokevirtual 202, 3) := dk_182 0 202 (dk_at dksX4_mustWord_0 2 rfl rfl)
theorem dX4_mustWord_5 : decode cX4_mustWord 5 = .ok (.ifCond .ne 8, 3) := dk_154 0 8 (dk_at dksX4_mustWord_0 5 rfl rfl)
theorem dX4_mustWord_8 : decode cX4_mustWord 8 = .ok (.aload_n 0, 1) := dk_42 (dk_at dksX4_mustWord_0 8 rfl rfl)
theorem dX4_mustWord_9 : decode cX4_mustWord 9 = .ok (.iconst 1, 1) := dk_4 (dk_at dksX4_mustWord_0 9 rfl rfl)
theorem dX4_mustWord_10 : decode cX4_mustWord 10 = .ok (.invokevirtual 206, 3) := dk_182 0 206 (dk_at dksX4_mustWord_0 10 rfl rfl)
theorem dX4_mustWord_13 : decode cX4_mustWord 13 = .ok (.aload_n 0, 1) := dk_42 (dk_at dksX4_mustWord_0 13 rfl rfl)
theorem dX4_mustWord_14 : decode cX4_mustWord 14 = .ok (.getfield 168, 3) := dk_180 0 168 (dk_at dksX4_mustWord_0 14 rfl rfl)
theorem dX4_mustWord_17 : decode cX4_mustWord 17 = .ok (.ifCond .ne 7, 3) := dk_154 0 7 (dk_at dksX4_mustWord_0 17 rfl rfl)
theorem dX4_mustWord_20 : decode cX4_mustWord 20 = .ok (.aload_n 0, 1) := dk_42 (dk_at dksX4_mustWord_0 20 rfl rfl)
theorem dX4_mustWord_21 : decode cX4_mustWord 21 = .ok (.invokevirtual 199, 3) := dk_182 0 199 (dk_at dksX4_mustWord_0 21 rfl rfl)
theorem dX4_mustWord_24 : decode cX4_mustWord 24 = .ok (.return_, 1) := dk_177 (dk_at dksX4_mustWord_1 0 rfl rfl)
abbrev cX4_isWord : ByteArray := prog_33_method_54_code
def yX4_isWord : MethodName := ⟨RX4, "isWord", "(Ljava/lang/String;)Z"⟩
def dkwX4_isWord_2 : List UInt8 := [180, 0, 190, 28, 96, 46, 43, 28, 182, 0, 52, 159, 0, 5, 3, 172, 132, 2, 1, 167, 255, 224, 4, 172]
abbrev dktX4_isWord_2 : List UInt8 := dkwX4_isWord_2 ++ []
def dkwX4_isWord_1 : List UInt8 := [43, 182, 0, 46, 159, 0, 5, 3, 172, 3, 61, 28, 43, 182, 0, 46, 162, 0, 30, 42, 180, 0, 32, 42]
abbrev dktX4_isWord_1 : List UInt8 := dkwX4_isWord_1 ++ dktX4_isWord_2
def dkwX4_isWord_0 : List UInt8 := [42, 180, 0, 168, 154, 0, 27, 42, 180, 0, 187, 4, 160, 0, 19, 42, 180, 0, 177, 42, 180, 0, 190, 100]
abbrev dktX4_isWord_0 : List UInt8 := dkwX4_isWord_0 ++ dktX4_isWord_1
theorem dksX4_isWord_0 : cX4_isWord.data.toList.drop 0 = dktX4_isWord_0 := by decide +kernel
theorem dksX4_isWord_1 : cX4_isWord.data.toList.drop 24 = dktX4_isWord_1 := dk_seg dksX4_isWord_0 24 rfl rfl
theorem dksX4_isWord_2 : cX4_isWord.data.toList.drop 48 = dktX4_isWord_2 := dk_seg dksX4_isWord_1 24 rfl rfl
theorem dX4_isWord_0 : decode cX4_isWord 0 = .ok (.aload_n 0, 1) := dk_42 (dk_at dksX4_isWord_0 0 rfl rfl)
theorem dX4_isWord_1 : decode cX4_isWord 1 = .ok (.getfield 168, 3) := dk_180 0 168 (dk_at dksX4_isWord_0 1 rfl rfl)
theorem dX4_isWord_4 : decode cX4_isWord 4 = .ok (.ifCond .ne 27, 3) := dk_154 0 27 (dk_at dksX4_isWord_0 4 rfl rfl)
theorem dX4_isWord_7 : decode cX4_isWord 7 = .ok (.aload_n 0, 1) := dk_42 (dk_at dksX4_isWord_0 7 rfl rfl)
theorem dX4_isWord_8 : decode cX4_isWord 8 = .ok (.getfield 187, 3) := dk_180 0 187 (dk_at dksX4_isWord_0 8 rfl rfl)
theorem dX4_isWord_11 : decode cX4_isWord 11 = .ok (.iconst 1, 1) := dk_4 (dk_at dksX4_isWord_0 11 rfl rfl)
theorem dX4_isWord_12 : decode cX4_isWord 12 = .ok (.if_icmp .ne 19, 3) := dk_160 0 19 (dk_at dksX4_isWord_0 12 rfl rfl)
theorem dX4_isWord_15 : decode cX4_isWord 15 = .ok (.aload_n 0, 1) := dk_42 (dk_at dksX4_isWord_0 15 rfl rfl)
theorem dX4_isWord_16 : decode cX4_isWord 16 = .ok (.getfield 177, 3) := dk_180 0 177 (dk_at dksX4_isWord_0 16 rfl rfl)
theorem dX4_isWord_19 : decode cX4_isWord 19 = .ok (.aload_n 0, 1) := dk_42 (dk_at dksX4_isWord_0 19 rfl rfl)
theorem dX4_isWord_20 : decode cX4_isWord 20 = .ok (.getfield 190, 3) := dk_180 0 190 (dk_at dksX4_isWord_0 20 rfl rfl)
theorem dX4_isWord_23 : decode cX4_isWord 23 = .ok (.isub, 1) := dk_100 (dk_at dksX4_isWord_0 23 rfl rfl)
theorem dX4_isWord_24 : decode cX4_isWord 24 = .ok (.aload_n 1, 1) := dk_43 (dk_at dksX4_isWord_1 0 rfl rfl)
theorem dX4_isWord_25 : decode cX4_isWord 25 = .ok (.invokevirtual 46, 3) := dk_182 0 46 (dk_at dksX4_isWord_1 1 rfl rfl)
theorem dX4_isWord_28 : decode cX4_isWord 28 = .ok (.if_icmp .eq 5, 3) := dk_159 0 5 (dk_at dksX4_isWord_1 4 rfl rfl)
theorem dX4_isWord_31 : decode cX4_isWord 31 = .ok (.iconst 0, 1) := dk_3 (dk_at dksX4_isWord_1 7 rfl rfl)
theorem dX4_isWord_32 : decode cX4_isWord 32 = .ok (.ireturn, 1) := dk_172 (dk_at dksX4_isWord_1 8 rfl rfl)
theorem dX4_isWord_33 : decode cX4_isWord 33 = .ok (.iconst 0, 1) := dk_3 (dk_at dksX4_isWord_1 9 rfl rfl)
theorem dX4_isWord_34 : decode cX4_isWord 34 = .ok (.istore_n 2, 1) := dk_61 (dk_at dksX4_isWord_1 10 rfl rfl)
theorem dX4_isWord_35 : decode cX4_isWord 35 = .ok (.iload_n 2, 1) := dk_28 (dk_at dksX4_isWord_1 11 rfl rfl)
theorem dX4_isWord_36 : decode cX4_isWord 36 = .ok (.aload_n 1, 1) := dk_43 (dk_at dksX4_isWord_1 12 rfl rfl)
theorem dX4_isWord_37 : decode cX4_isWord 37 = .ok (.invokevirtual 46, 3) := dk_182 0 46 (dk_at dksX4_isWord_1 13 rfl rfl)
theorem dX4_isWord_40 : decode cX4_isWord 40 = .ok (.if_icmp .ge 30, 3) := dk_162 0 30 (dk_at dksX4_isWord_1 16 rfl rfl)
theorem dX4_isWord_43 : decode cX4_isWord 43 = .ok (.aload_n 0, 1) := dk_42 (dk_at dksX4_isWord_1 19 rfl rfl)
theorem dX4_isWord_44 : decode cX4_isWord 44 = .ok (.getfield 32, 3) := dk_180 0 32 (dk_at dksX4_isWord_1 20 rfl rfl)
theorem dX4_isWord_47 : decode cX4_isWord 47 = .ok (.aload_n 0, 1) := dk_42 (dk_at dksX4_isWord_1 23 rfl rfl)
theorem dX4_isWord_48 : decode cX4_isWord 48 = .ok (.getfield 190, 3) := dk_180 0 190 (dk_at dksX4_isWord_2 0 rfl rfl)
theorem dX4_isWord_51 : decode cX4_isWord 51 = .ok (.iload_n 2, 1) := dk_28 (dk_at dksX4_isWord_2 3 rfl rfl)
theorem dX4_isWord_52 : decode cX4_isWord 52 = .ok (.iadd, 1) := dk_96 (dk_at dksX4_isWord_2 4 rfl rfl)
theorem dX4_isWord_53 : decode cX4_isWord 53 = .ok (.iaload, 1) := dk_46 (dk_at dksX4_isWord_2 5 rfl rfl)
theorem dX4_isWord_54 : decode cX4_isWord 54 = .ok (.aload_n 1, 1) := dk_43 (dk_at dksX4_isWord_2 6 rfl rfl)
theorem dX4_isWord_55 : decode cX4_isWord 55 = .ok (.iload_n 2, 1) := dk_28 (dk_at dksX4_isWord_2 7 rfl rfl)
theorem dX4_isWord_56 : decode cX4_isWord 56 = .ok (.invokevirtual 52, 3) := dk_182 0 52 (dk_at dksX4_isWord_2 8 rfl rfl)
theorem dX4_isWord_59 : decode cX4_isWord 59 = .ok (.if_icmp .eq 5, 3) := dk_159 0 5 (dk_at dksX4_isWord_2 11 rfl rfl)
theorem dX4_isWord_62 : decode cX4_isWord 62 = .ok (.iconst 0, 1) := dk_3 (dk_at dksX4_isWord_2 14 rfl rfl)
theorem dX4_isWord_63 : decode cX4_isWord 63 = .ok (.ireturn, 1) := dk_172 (dk_at dksX4_isWord_2 15 rfl rfl)
theorem dX4_isWord_64 : decode cX4_isWord 64 = .ok (.iinc 2 1, 3) := dk_132 2 1 (dk_at dksX4_isWord_2 16 rfl rfl)
theorem dX4_isWord_67 : decode cX4_isWord 67 = .ok (.goto (-32), 3) := dk_167 255 224 (dk_at dksX4_isWord_2 19 rfl rfl)
theorem dX4_isWord_70 : decode cX4_isWord 70 = .ok (.iconst 1, 1) := dk_4 (dk_at dksX4_isWord_2 22 rfl rfl)
theorem dX4_isWord_71 : decode cX4_isWord 71 = .ok (.ireturn, 1) := dk_172 (dk_at dksX4_isWord_2 23 rfl rfl)
abbrev cX4_errs : ByteArray := prog_33_method_53_code
def yX4_errs : MethodName := ⟨RX4, "errs", "(I)V"⟩
def dkwX4_errs_0 : List UInt8 := [42, 180, 0, 168, 153, 0, 4, 177, 42, 27, 181, 0, 168, 42, 42, 180, 0, 190, 181, 0, 35, 177]
abbrev dktX4_errs_0 : List UInt8 := dkwX4_errs_0 ++ []
theorem dksX4_errs_0 : cX4_errs.data.toList.drop 0 = dktX4_errs_0 := by decide +kernel
theorem dX4_errs_0 : decode cX4_errs 0 = .ok (.aload_n 0, 1) := dk_42 (dk_at dksX4_errs_0 0 rfl rfl)
theorem dX4_errs_1 : decode cX4_errs 1 = .ok (.getfield 168, 3) := dk_180 0 168 (dk_at dksX4_errs_0 1 rfl rfl)
theorem dX4_errs_4 : decode cX4_errs 4 = .ok (.ifCond .eq 4, 3) := dk_153 0 4 (dk_at dksX4_errs_0 4 rfl rfl)
theorem dX4_errs_7 : decode cX4_errs 7 = .ok (.return_, 1) := dk_177 (dk_at dksX4_errs_0 7 rfl rfl)
theorem dX4_errs_8 : decode cX4_errs 8 = .ok (.aload_n 0, 1) := dk_42 (dk_at dksX4_errs_0 8 rfl rfl)
theorem dX4_errs_9 : decode cX4_errs 9 = .ok (.iload_n 1, 1) := dk_27 (dk_at dksX4_errs_0 9 rfl rfl)
theorem dX4_errs_10 : decode cX4_errs 10 = .ok (.putfield 168, 3) := dk_181 0 168 (dk_at dksX4_errs_0 10 rfl rfl)
theorem dX4_errs_13 : decode cX4_errs 13 = .ok (.aload_n 0, 1) := dk_42 (dk_at dksX4_errs_0 13 rfl rfl)
theorem dX4_errs_14 : decode cX4_errs 14 = .ok (.aload_n 0, 1) := dk_42 (dk_at dksX4_errs_0 14 rfl rfl)
theorem dX4_errs_15 : decode cX4_errs 15 = .ok (.getfield 190, 3) := dk_180 0 190 (dk_at dksX4_errs_0 15 rfl rfl)
theorem dX4_errs_18 : decode cX4_errs 18 = .ok (.putfield 35, 3) := dk_181 0 35 (dk_at dksX4_errs_0 18 rfl rfl)
theorem dX4_errs_21 : decode cX4_errs 21 = .ok (.return_, 1) := dk_177 (dk_at dksX4_errs_0 21 rfl rfl)
abbrev cX4_readsTotal : ByteArray := prog_33_method_60_code
def yX4_readsTotal : MethodName := ⟨RX4, "readsTotal", "()V"⟩
def dkwX4_readsTotal_3 : List UInt8 := [16, 9, 42, 180, 0, 13, 3, 46, 96, 27, 79, 42, 180, 0, 13, 3, 92, 46, 4, 96, 79, 177]
abbrev dktX4_readsTotal_3 : List UInt8 := dkwX4_readsTotal_3 ++ []
def dkwX4_readsTotal_2 : List UInt8 := [182, 0, 206, 42, 4, 16, 20, 182, 0, 227, 60, 42, 180, 0, 168, 153, 0, 4, 177, 42, 180, 0, 13]
abbrev dktX4_readsTotal_2 : List UInt8 := dkwX4_readsTotal_2 ++ dktX4_readsTotal_3
def dkwX4_readsTotal_1 : List UInt8 := [182, 0, 206, 42, 180, 0, 187, 5, 160, 0, 18, 42, 180, 0, 13, 3, 46, 7, 160, 0, 8, 42, 6]
abbrev dktX4_readsTotal_1 : List UInt8 := dkwX4_readsTotal_1 ++ dktX4_readsTotal_2
def dkwX4_readsTotal_0 : List UInt8 := [42, 180, 0, 187, 5, 160, 0, 21, 42, 180, 0, 174, 4, 16, 20, 184, 0, 209, 154, 0, 8, 42, 5]
abbrev dktX4_readsTotal_0 : List UInt8 := dkwX4_readsTotal_0 ++ dktX4_readsTotal_1
theorem dksX4_readsTotal_0 : cX4_readsTotal.data.toList.drop 0 = dktX4_readsTotal_0 := by decide +kernel
theorem dksX4_readsTotal_1 : cX4_readsTotal.data.toList.drop 23 = dktX4_readsTotal_1 := dk_seg dksX4_readsTotal_0 23 rfl rfl
theorem dksX4_readsTotal_2 : cX4_readsTotal.data.toList.drop 46 = dktX4_readsTotal_2 := dk_seg dksX4_readsTotal_1 23 rfl rfl
theorem dksX4_readsTotal_3 : cX4_readsTotal.data.toList.drop 69 = dktX4_readsTotal_3 := dk_seg dksX4_readsTotal_2 23 rfl rfl
theorem dX4_readsTotal_0 : decode cX4_readsTotal 0 = .ok (.aload_n 0, 1) := dk_42 (dk_at dksX4_readsTotal_0 0 rfl rfl)
theorem dX4_readsTotal_1 : decode cX4_readsTotal 1 = .ok (.getfield 187, 3) := dk_180 0 187 (dk_at dksX4_readsTotal_0 1 rfl rfl)
theorem dX4_readsTotal_4 : decode cX4_readsTotal 4 = .ok (.iconst 2, 1) := dk_5 (dk_at dksX4_readsTotal_0 4 rfl rfl)
theorem dX4_readsTotal_5 : decode cX4_readsTotal 5 = .ok (.if_icmp .ne 21, 3) := dk_160 0 21 (dk_at dksX4_readsTotal_0 5 rfl rfl)
theorem dX4_readsTotal_8 : decode cX4_readsTotal 8 = .ok (.aload_n 0, 1) := dk_42 (dk_at dksX4_readsTotal_0 8 rfl rfl)
theorem dX4_readsTotal_9 : decode cX4_readsTotal 9 = .ok (.getfield 174, 3) := dk_180 0 174 (dk_at dksX4_readsTotal_0 9 rfl rfl)
theorem dX4_readsTotal_12 : decode cX4_readsTotal 12 = .ok (.iconst 1, 1) := dk_4 (dk_at dksX4_readsTotal_0 12 rfl rfl)
theorem dX4_readsTotal_13 : decode cX4_readsTotal 13 = .ok (.bipush 20, 2) := dk_16 20 (dk_at dksX4_readsTotal_0 13 rfl rfl)
theorem dX4_readsTotal_15 : decode cX4_readsTotal 15 = .ok (.invokestatic 209, 3) := dk_184 0 209 (dk_at dksX4_readsTotal_0 15 rfl rfl)
theorem dX4_readsTotal_18 : decode cX4_readsTotal 18 = .ok (.ifCond .ne 8, 3) := dk_154 0 8 (dk_at dksX4_readsTotal_0 18 rfl rfl)
theorem dX4_readsTotal_21 : decode cX4_readsTotal 21 = .ok (.aload_n 0, 1) := dk_42 (dk_at dksX4_readsTotal_0 21 rfl rfl)
theorem dX4_readsTotal_22 : decode cX4_readsTotal 22 = .ok (.iconst 2, 1) := dk_5 (dk_at dksX4_readsTotal_0 22 rfl rfl)
theorem dX4_readsTotal_23 : decode cX4_readsTotal 23 = .ok (.invokevirtual 206, 3) := dk_182 0 206 (dk_at dksX4_readsTotal_1 0 rfl rfl)
theorem dX4_readsTotal_26 : decode cX4_readsTotal 26 = .ok (.aload_n 0, 1) := dk_42 (dk_at dksX4_readsTotal_1 3 rfl rfl)
theorem dX4_readsTotal_27 : decode cX4_readsTotal 27 = .ok (.getfield 187, 3) := dk_180 0 187 (dk_at dksX4_readsTotal_1 4 rfl rfl)
theorem dX4_readsTotal_30 : decode cX4_readsTotal 30 = .ok (.iconst 2, 1) := dk_5 (dk_at dksX4_readsTotal_1 7 rfl rfl)
theorem dX4_readsTotal_31 : decode cX4_readsTotal 31 = .ok (.if_icmp .ne 18, 3) := dk_160 0 18 (dk_at dksX4_readsTotal_1 8 rfl rfl)
theorem dX4_readsTotal_34 : decode cX4_readsTotal 34 = .ok (.aload_n 0, 1) := dk_42 (dk_at dksX4_readsTotal_1 11 rfl rfl)
theorem dX4_readsTotal_35 : decode cX4_readsTotal 35 = .ok (.getfield 13, 3) := dk_180 0 13 (dk_at dksX4_readsTotal_1 12 rfl rfl)
theorem dX4_readsTotal_38 : decode cX4_readsTotal 38 = .ok (.iconst 0, 1) := dk_3 (dk_at dksX4_readsTotal_1 15 rfl rfl)
theorem dX4_readsTotal_39 : decode cX4_readsTotal 39 = .ok (.iaload, 1) := dk_46 (dk_at dksX4_readsTotal_1 16 rfl rfl)
theorem dX4_readsTotal_40 : decode cX4_readsTotal 40 = .ok (.iconst 4, 1) := dk_7 (dk_at dksX4_readsTotal_1 17 rfl rfl)
theorem dX4_readsTotal_41 : decode cX4_readsTotal 41 = .ok (.if_icmp .ne 8, 3) := dk_160 0 8 (dk_at dksX4_readsTotal_1 18 rfl rfl)
theorem dX4_readsTotal_44 : decode cX4_readsTotal 44 = .ok (.aload_n 0, 1) := dk_42 (dk_at dksX4_readsTotal_1 21 rfl rfl)
theorem dX4_readsTotal_45 : decode cX4_readsTotal 45 = .ok (.iconst 3, 1) := dk_6 (dk_at dksX4_readsTotal_1 22 rfl rfl)
theorem dX4_readsTotal_46 : decode cX4_readsTotal 46 = .ok (.invokevirtual 206, 3) := dk_182 0 206 (dk_at dksX4_readsTotal_2 0 rfl rfl)
theorem dX4_readsTotal_49 : decode cX4_readsTotal 49 = .ok (.aload_n 0, 1) := dk_42 (dk_at dksX4_readsTotal_2 3 rfl rfl)
theorem dX4_readsTotal_50 : decode cX4_readsTotal 50 = .ok (.iconst 1, 1) := dk_4 (dk_at dksX4_readsTotal_2 4 rfl rfl)
theorem dX4_readsTotal_51 : decode cX4_readsTotal 51 = .ok (.bipush 20, 2) := dk_16 20 (dk_at dksX4_readsTotal_2 5 rfl rfl)
theorem dX4_readsTotal_53 : decode cX4_readsTotal 53 = .ok (.invokevirtual 227, 3) := dk_182 0 227 (dk_at dksX4_readsTotal_2 7 rfl rfl)
theorem dX4_readsTotal_56 : decode cX4_readsTotal 56 = .ok (.istore_n 1, 1) := dk_60 (dk_at dksX4_readsTotal_2 10 rfl rfl)
theorem dX4_readsTotal_57 : decode cX4_readsTotal 57 = .ok (.aload_n 0, 1) := dk_42 (dk_at dksX4_readsTotal_2 11 rfl rfl)
theorem dX4_readsTotal_58 : decode cX4_readsTotal 58 = .ok (.getfield 168, 3) := dk_180 0 168 (dk_at dksX4_readsTotal_2 12 rfl rfl)
theorem dX4_readsTotal_61 : decode cX4_readsTotal 61 = .ok (.ifCond .eq 4, 3) := dk_153 0 4 (dk_at dksX4_readsTotal_2 15 rfl rfl)
theorem dX4_readsTotal_64 : decode cX4_readsTotal 64 = .ok (.return_, 1) := dk_177 (dk_at dksX4_readsTotal_2 18 rfl rfl)
theorem dX4_readsTotal_65 : decode cX4_readsTotal 65 = .ok (.aload_n 0, 1) := dk_42 (dk_at dksX4_readsTotal_2 19 rfl rfl)
theorem dX4_readsTotal_66 : decode cX4_readsTotal 66 = .ok (.getfield 13, 3) := dk_180 0 13 (dk_at dksX4_readsTotal_2 20 rfl rfl)
theorem dX4_readsTotal_69 : decode cX4_readsTotal 69 = .ok (.bipush 9, 2) := dk_16 9 (dk_at dksX4_readsTotal_3 0 rfl rfl)
theorem dX4_readsTotal_71 : decode cX4_readsTotal 71 = .ok (.aload_n 0, 1) := dk_42 (dk_at dksX4_readsTotal_3 2 rfl rfl)
theorem dX4_readsTotal_72 : decode cX4_readsTotal 72 = .ok (.getfield 13, 3) := dk_180 0 13 (dk_at dksX4_readsTotal_3 3 rfl rfl)
theorem dX4_readsTotal_75 : decode cX4_readsTotal 75 = .ok (.iconst 0, 1) := dk_3 (dk_at dksX4_readsTotal_3 6 rfl rfl)
theorem dX4_readsTotal_76 : decode cX4_readsTotal 76 = .ok (.iaload, 1) := dk_46 (dk_at dksX4_readsTotal_3 7 rfl rfl)
theorem dX4_readsTotal_77 : decode cX4_readsTotal 77 = .ok (.iadd, 1) := dk_96 (dk_at dksX4_readsTotal_3 8 rfl rfl)
theorem dX4_readsTotal_78 : decode cX4_readsTotal 78 = .ok (.iload_n 1, 1) := dk_27 (dk_at dksX4_readsTotal_3 9 rfl rfl)
theorem dX4_readsTotal_79 : decode cX4_readsTotal 79 = .ok (.iastore, 1) := dk_79 (dk_at dksX4_readsTotal_3 10 rfl rfl)
theorem dX4_readsTotal_80 : decode cX4_readsTotal 80 = .ok (.aload_n 0, 1) := dk_42 (dk_at dksX4_readsTotal_3 11 rfl rfl)
theorem dX4_readsTotal_81 : decode cX4_readsTotal 81 = .ok (.getfield 13, 3) := dk_180 0 13 (dk_at dksX4_readsTotal_3 12 rfl rfl)
theorem dX4_readsTotal_84 : decode cX4_readsTotal 84 = .ok (.iconst 0, 1) := dk_3 (dk_at dksX4_readsTotal_3 15 rfl rfl)
theorem dX4_readsTotal_85 : decode cX4_readsTotal 85 = .ok (.dup2, 1) := dk_92 (dk_at dksX4_readsTotal_3 16 rfl rfl)
theorem dX4_readsTotal_86 : decode cX4_readsTotal 86 = .ok (.iaload, 1) := dk_46 (dk_at dksX4_readsTotal_3 17 rfl rfl)
theorem dX4_readsTotal_87 : decode cX4_readsTotal 87 = .ok (.iconst 1, 1) := dk_4 (dk_at dksX4_readsTotal_3 18 rfl rfl)
theorem dX4_readsTotal_88 : decode cX4_readsTotal 88 = .ok (.iadd, 1) := dk_96 (dk_at dksX4_readsTotal_3 19 rfl rfl)
theorem dX4_readsTotal_89 : decode cX4_readsTotal 89 = .ok (.iastore, 1) := dk_79 (dk_at dksX4_readsTotal_3 20 rfl rfl)
theorem dX4_readsTotal_90 : decode cX4_readsTotal 90 = .ok (.return_, 1) := dk_177 (dk_at dksX4_readsTotal_3 21 rfl rfl)
abbrev cX4_number0 : ByteArray := prog_33_method_57_code
def yX4_number0 : MethodName := ⟨RX4, "number0", "(II)I"⟩
def dkwX4_number0_2 : List UInt8 := [62, 42, 182, 0, 199, 29, 172]
abbrev dktX4_number0_2 : List UInt8 := dkwX4_number0_2 ++ []
def dkwX4_number0_1 : List UInt8 := [184, 0, 209, 154, 0, 8, 42, 5, 182, 0, 206, 42, 180, 0, 168, 153, 0, 5, 27, 172, 42, 180, 0, 174]
abbrev dktX4_number0_1 : List UInt8 := dkwX4_number0_1 ++ dktX4_number0_2
def dkwX4_number0_0 : List UInt8 := [42, 180, 0, 187, 5, 159, 0, 11, 42, 4, 182, 0, 206, 167, 0, 20, 42, 180, 0, 174, 27, 28]
abbrev dktX4_number0_0 : List UInt8 := dkwX4_number0_0 ++ dktX4_number0_1
theorem dksX4_number0_0 : cX4_number0.data.toList.drop 0 = dktX4_number0_0 := by decide +kernel
theorem dksX4_number0_1 : cX4_number0.data.toList.drop 22 = dktX4_number0_1 := dk_seg dksX4_number0_0 22 rfl rfl
theorem dksX4_number0_2 : cX4_number0.data.toList.drop 46 = dktX4_number0_2 := dk_seg dksX4_number0_1 24 rfl rfl
theorem dX4_number0_0 : decode cX4_number0 0 = .ok (.aload_n 0, 1) := dk_42 (dk_at dksX4_number0_0 0 rfl rfl)
theorem dX4_number0_1 : decode cX4_number0 1 = .ok (.getfield 187, 3) := dk_180 0 187 (dk_at dksX4_number0_0 1 rfl rfl)
theorem dX4_number0_4 : decode cX4_number0 4 = .ok (.iconst 2, 1) := dk_5 (dk_at dksX4_number0_0 4 rfl rfl)
theorem dX4_number0_5 : decode cX4_number0 5 = .ok (.if_icmp .eq 11, 3) := dk_159 0 11 (dk_at dksX4_number0_0 5 rfl rfl)
theorem dX4_number0_8 : decode cX4_number0 8 = .ok (.aload_n 0, 1) := dk_42 (dk_at dksX4_number0_0 8 rfl rfl)
theorem dX4_number0_9 : decode cX4_number0 9 = .ok (.iconst 1, 1) := dk_4 (dk_at dksX4_number0_0 9 rfl rfl)
theorem dX4_number0_10 : decode cX4_number0 10 = .ok (.invokevirtual 206, 3) := dk_182 0 206 (dk_at dksX4_number0_0 10 rfl rfl)
theorem dX4_number0_13 : decode cX4_number0 13 = .ok (.goto 20, 3) := dk_167 0 20 (dk_at dksX4_number0_0 13 rfl rfl)
theorem dX4_number0_16 : decode cX4_number0 16 = .ok (.aload_n 0, 1) := dk_42 (dk_at dksX4_number0_0 16 rfl rfl)
theorem dX4_number0_17 : decode cX4_number0 17 = .ok (.getfield 174, 3) := dk_180 0 174 (dk_at dksX4_number0_0 17 rfl rfl)
theorem dX4_number0_20 : decode cX4_number0 20 = .ok (.iload_n 1, 1) := dk_27 (dk_at dksX4_number0_0 20 rfl rfl)
theorem dX4_number0_21 : decode cX4_number0 21 = .ok (.iload_n 2, 1) := dk_28 (dk_at dksX4_number0_0 21 rfl rfl)
theorem dX4_number0_22 : decode cX4_number0 22 = .ok (.invokestatic 209, 3) := dk_184 0 209 (dk_at dksX4_number0_1 0 rfl rfl)
theorem dX4_number0_25 : decode cX4_number0 25 = .ok (.ifCond .ne 8, 3) := dk_154 0 8 (dk_at dksX4_number0_1 3 rfl rfl)
theorem dX4_number0_28 : decode cX4_number0 28 = .ok (.aload_n 0, 1) := dk_42 (dk_at dksX4_number0_1 6 rfl rfl)
theorem dX4_number0_29 : decode cX4_number0 29 = .ok (.iconst 2, 1) := dk_5 (dk_at dksX4_number0_1 7 rfl rfl)
theorem dX4_number0_30 : decode cX4_number0 30 = .ok (.invokevirtual 206, 3) := dk_182 0 206 (dk_at dksX4_number0_1 8 rfl rfl)
theorem dX4_number0_33 : decode cX4_number0 33 = .ok (.aload_n 0, 1) := dk_42 (dk_at dksX4_number0_1 11 rfl rfl)
theorem dX4_number0_34 : decode cX4_number0 34 = .ok (.getfield 168, 3) := dk_180 0 168 (dk_at dksX4_number0_1 12 rfl rfl)
theorem dX4_number0_37 : decode cX4_number0 37 = .ok (.ifCond .eq 5, 3) := dk_153 0 5 (dk_at dksX4_number0_1 15 rfl rfl)
theorem dX4_number0_40 : decode cX4_number0 40 = .ok (.iload_n 1, 1) := dk_27 (dk_at dksX4_number0_1 18 rfl rfl)
theorem dX4_number0_41 : decode cX4_number0 41 = .ok (.ireturn, 1) := dk_172 (dk_at dksX4_number0_1 19 rfl rfl)
theorem dX4_number0_42 : decode cX4_number0 42 = .ok (.aload_n 0, 1) := dk_42 (dk_at dksX4_number0_1 20 rfl rfl)
theorem dX4_number0_43 : decode cX4_number0 43 = .ok (.getfield 174, 3) := dk_180 0 174 (dk_at dksX4_number0_1 21 rfl rfl)
theorem dX4_number0_46 : decode cX4_number0 46 = .ok (.istore_n 3, 1) := dk_62 (dk_at dksX4_number0_2 0 rfl rfl)
theorem dX4_number0_47 : decode cX4_number0 47 = .ok (.aload_n 0, 1) := dk_42 (dk_at dksX4_number0_2 1 rfl rfl)
theorem dX4_number0_48 : decode cX4_number0 48 = .ok (.invokevirtual 199, 3) := dk_182 0 199 (dk_at dksX4_number0_2 2 rfl rfl)
theorem dX4_number0_51 : decode cX4_number0 51 = .ok (.iload_n 3, 1) := dk_29 (dk_at dksX4_number0_2 5 rfl rfl)
theorem dX4_number0_52 : decode cX4_number0 52 = .ok (.ireturn, 1) := dk_172 (dk_at dksX4_number0_2 6 rfl rfl)
abbrev cX4_semicolon : ByteArray := prog_33_method_56_code
def yX4_semicolon : MethodName := ⟨RX4, "semicolon", "()V"⟩
def dkwX4_semicolon_1 : List UInt8 := [182, 0, 206, 42, 180, 0, 168, 154, 0, 7, 42, 182, 0, 199, 177]
abbrev dktX4_semicolon_1 : List UInt8 := dkwX4_semicolon_1 ++ []
def dkwX4_semicolon_0 : List UInt8 := [42, 180, 0, 187, 6, 160, 0, 17, 42, 180, 0, 32, 42, 180, 0, 190, 46, 16, 59, 159, 0, 8, 42, 4]
abbrev dktX4_semicolon_0 : List UInt8 := dkwX4_semicolon_0 ++ dktX4_semicolon_1
theorem dksX4_semicolon_0 : cX4_semicolon.data.toList.drop 0 = dktX4_semicolon_0 := by decide +kernel
theorem dksX4_semicolon_1 : cX4_semicolon.data.toList.drop 24 = dktX4_semicolon_1 := dk_seg dksX4_semicolon_0 24 rfl rfl
theorem dX4_semicolon_0 : decode cX4_semicolon 0 = .ok (.aload_n 0, 1) := dk_42 (dk_at dksX4_semicolon_0 0 rfl rfl)
theorem dX4_semicolon_1 : decode cX4_semicolon 1 = .ok (.getfield 187, 3) := dk_180 0 187 (dk_at dksX4_semicolon_0 1 rfl rfl)
theorem dX4_semicolon_4 : decode cX4_semicolon 4 = .ok (.iconst 3, 1) := dk_6 (dk_at dksX4_semicolon_0 4 rfl rfl)
theorem dX4_semicolon_5 : decode cX4_semicolon 5 = .ok (.if_icmp .ne 17, 3) := dk_160 0 17 (dk_at dksX4_semicolon_0 5 rfl rfl)
theorem dX4_semicolon_8 : decode cX4_semicolon 8 = .ok (.aload_n 0, 1) := dk_42 (dk_at dksX4_semicolon_0 8 rfl rfl)
theorem dX4_semicolon_9 : decode cX4_semicolon 9 = .ok (.getfield 32, 3) := dk_180 0 32 (dk_at dksX4_semicolon_0 9 rfl rfl)
theorem dX4_semicolon_12 : decode cX4_semicolon 12 = .ok (.aload_n 0, 1) := dk_42 (dk_at dksX4_semicolon_0 12 rfl rfl)
theorem dX4_semicolon_13 : decode cX4_semicolon 13 = .ok (.getfield 190, 3) := dk_180 0 190 (dk_at dksX4_semicolon_0 13 rfl rfl)
theorem dX4_semicolon_16 : decode cX4_semicolon 16 = .ok (.iaload, 1) := dk_46 (dk_at dksX4_semicolon_0 16 rfl rfl)
theorem dX4_semicolon_17 : decode cX4_semicolon 17 = .ok (.bipush 59, 2) := dk_16 59 (dk_at dksX4_semicolon_0 17 rfl rfl)
theorem dX4_semicolon_19 : decode cX4_semicolon 19 = .ok (.if_icmp .eq 8, 3) := dk_159 0 8 (dk_at dksX4_semicolon_0 19 rfl rfl)
theorem dX4_semicolon_22 : decode cX4_semicolon 22 = .ok (.aload_n 0, 1) := dk_42 (dk_at dksX4_semicolon_0 22 rfl rfl)
theorem dX4_semicolon_23 : decode cX4_semicolon 23 = .ok (.iconst 1, 1) := dk_4 (dk_at dksX4_semicolon_0 23 rfl rfl)
theorem dX4_semicolon_24 : decode cX4_semicolon 24 = .ok (.invokevirtual 206, 3) := dk_182 0 206 (dk_at dksX4_semicolon_1 0 rfl rfl)
theorem dX4_semicolon_27 : decode cX4_semicolon 27 = .ok (.aload_n 0, 1) := dk_42 (dk_at dksX4_semicolon_1 3 rfl rfl)
theorem dX4_semicolon_28 : decode cX4_semicolon 28 = .ok (.getfield 168, 3) := dk_180 0 168 (dk_at dksX4_semicolon_1 4 rfl rfl)
theorem dX4_semicolon_31 : decode cX4_semicolon 31 = .ok (.ifCond .ne 7, 3) := dk_154 0 7 (dk_at dksX4_semicolon_1 7 rfl rfl)
theorem dX4_semicolon_34 : decode cX4_semicolon 34 = .ok (.aload_n 0, 1) := dk_42 (dk_at dksX4_semicolon_1 10 rfl rfl)
theorem dX4_semicolon_35 : decode cX4_semicolon 35 = .ok (.invokevirtual 199, 3) := dk_182 0 199 (dk_at dksX4_semicolon_1 11 rfl rfl)
theorem dX4_semicolon_38 : decode cX4_semicolon 38 = .ok (.return_, 1) := dk_177 (dk_at dksX4_semicolon_1 14 rfl rfl)
abbrev cX4_readsOffice : ByteArray := prog_33_method_61_code
def yX4_readsOffice : MethodName := ⟨RX4, "readsOffice", "()V"⟩
def dkwX4_readsOffice_6 : List UInt8 := [177]
abbrev dktX4_readsOffice_6 : List UInt8 := dkwX4_readsOffice_6 ++ []
def dkwX4_readsOffice_5 : List UInt8 := [46, 162, 0, 19, 28, 153, 0, 15, 42, 27, 29, 182, 0, 237, 132, 3, 1, 167, 255, 233, 42, 182, 0, 221]
abbrev dktX4_readsOffice_5 : List UInt8 := dkwX4_readsOffice_5 ++ dktX4_readsOffice_6
def dkwX4_readsOffice_4 : List UInt8 := [182, 0, 92, 132, 2, 1, 167, 255, 221, 42, 18, 232, 182, 0, 234, 61, 3, 62, 29, 42, 180, 0, 13, 3]
abbrev dktX4_readsOffice_4 : List UInt8 := dkwX4_readsOffice_4 ++ dktX4_readsOffice_5
def dkwX4_readsOffice_3 : List UInt8 := [162, 0, 31, 42, 27, 3, 28, 96, 42, 3, 42, 180, 0, 13, 16, 9, 28, 96, 46, 182, 0, 227]
abbrev dktX4_readsOffice_3 : List UInt8 := dkwX4_readsOffice_3 ++ dktX4_readsOffice_4
def dkwX4_readsOffice_2 : List UInt8 := [4, 46, 60, 42, 180, 0, 13, 4, 92, 46, 4, 96, 79, 3, 61, 28, 42, 180, 0, 13, 3, 46]
abbrev dktX4_readsOffice_2 : List UInt8 := dkwX4_readsOffice_2 ++ dktX4_readsOffice_3
def dkwX4_readsOffice_1 : List UInt8 := [160, 0, 8, 42, 6, 182, 0, 206, 42, 180, 0, 168, 153, 0, 4, 177, 42, 182, 0, 199, 42, 180, 0, 13]
abbrev dktX4_readsOffice_1 : List UInt8 := dkwX4_readsOffice_1 ++ dktX4_readsOffice_2
def dkwX4_readsOffice_0 : List UInt8 := [42, 18, 230, 182, 0, 202, 154, 0, 8, 42, 4, 182, 0, 206, 42, 180, 0, 13, 4, 46, 16, 8]
abbrev dktX4_readsOffice_0 : List UInt8 := dkwX4_readsOffice_0 ++ dktX4_readsOffice_1
theorem dksX4_readsOffice_0 : cX4_readsOffice.data.toList.drop 0 = dktX4_readsOffice_0 := by decide +kernel
theorem dksX4_readsOffice_1 : cX4_readsOffice.data.toList.drop 22 = dktX4_readsOffice_1 := dk_seg dksX4_readsOffice_0 22 rfl rfl
theorem dksX4_readsOffice_2 : cX4_readsOffice.data.toList.drop 46 = dktX4_readsOffice_2 := dk_seg dksX4_readsOffice_1 24 rfl rfl
theorem dksX4_readsOffice_3 : cX4_readsOffice.data.toList.drop 68 = dktX4_readsOffice_3 := dk_seg dksX4_readsOffice_2 22 rfl rfl
theorem dksX4_readsOffice_4 : cX4_readsOffice.data.toList.drop 90 = dktX4_readsOffice_4 := dk_seg dksX4_readsOffice_3 22 rfl rfl
theorem dksX4_readsOffice_5 : cX4_readsOffice.data.toList.drop 114 = dktX4_readsOffice_5 := dk_seg dksX4_readsOffice_4 24 rfl rfl
theorem dksX4_readsOffice_6 : cX4_readsOffice.data.toList.drop 138 = dktX4_readsOffice_6 := dk_seg dksX4_readsOffice_5 24 rfl rfl
theorem dX4_readsOffice_0 : decode cX4_readsOffice 0 = .ok (.aload_n 0, 1) := dk_42 (dk_at dksX4_readsOffice_0 0 rfl rfl)
theorem dX4_readsOffice_1 : decode cX4_readsOffice 1 = .ok (.ldc 230, 2) := dk_18 230 (dk_at dksX4_readsOffice_0 1 rfl rfl)
theorem dX4_readsOffice_3 : decode cX4_readsOffice 3 = .ok (.invokevirtual 202, 3) := dk_182 0 202 (dk_at dksX4_readsOffice_0 3 rfl rfl)
theorem dX4_readsOffice_6 : decode cX4_readsOffice 6 = .ok (.ifCond .ne 8, 3) := dk_154 0 8 (dk_at dksX4_readsOffice_0 6 rfl rfl)
theorem dX4_readsOffice_9 : decode cX4_readsOffice 9 = .ok (.aload_n 0, 1) := dk_42 (dk_at dksX4_readsOffice_0 9 rfl rfl)
theorem dX4_readsOffice_10 : decode cX4_readsOffice 10 = .ok (.iconst 1, 1) := dk_4 (dk_at dksX4_readsOffice_0 10 rfl rfl)
theorem dX4_readsOffice_11 : decode cX4_readsOffice 11 = .ok (.invokevirtual 206, 3) := dk_182 0 206 (dk_at dksX4_readsOffice_0 11 rfl rfl)
theorem dX4_readsOffice_14 : decode cX4_readsOffice 14 = .ok (.aload_n 0, 1) := dk_42 (dk_at dksX4_readsOffice_0 14 rfl rfl)
theorem dX4_readsOffice_15 : decode cX4_readsOffice 15 = .ok (.getfield 13, 3) := dk_180 0 13 (dk_at dksX4_readsOffice_0 15 rfl rfl)
theorem dX4_readsOffice_18 : decode cX4_readsOffice 18 = .ok (.iconst 1, 1) := dk_4 (dk_at dksX4_readsOffice_0 18 rfl rfl)
theorem dX4_readsOffice_19 : decode cX4_readsOffice 19 = .ok (.iaload, 1) := dk_46 (dk_at dksX4_readsOffice_0 19 rfl rfl)
theorem dX4_readsOffice_20 : decode cX4_readsOffice 20 = .ok (.bipush 8, 2) := dk_16 8 (dk_at dksX4_readsOffice_0 20 rfl rfl)
theorem dX4_readsOffice_22 : decode cX4_readsOffice 22 = .ok (.if_icmp .ne 8, 3) := dk_160 0 8 (dk_at dksX4_readsOffice_1 0 rfl rfl)
theorem dX4_readsOffice_25 : decode cX4_readsOffice 25 = .ok (.aload_n 0, 1) := dk_42 (dk_at dksX4_readsOffice_1 3 rfl rfl)
theorem dX4_readsOffice_26 : decode cX4_readsOffice 26 = .ok (.iconst 3, 1) := dk_6 (dk_at dksX4_readsOffice_1 4 rfl rfl)
theorem dX4_readsOffice_27 : decode cX4_readsOffice 27 = .ok (.invokevirtual 206, 3) := dk_182 0 206 (dk_at dksX4_readsOffice_1 5 rfl rfl)
theorem dX4_readsOffice_30 : decode cX4_readsOffice 30 = .ok (.aload_n 0, 1) := dk_42 (dk_at dksX4_readsOffice_1 8 rfl rfl)
theorem dX4_readsOffice_31 : decode cX4_readsOffice 31 = .ok (.getfield 168, 3) := dk_180 0 168 (dk_at dksX4_readsOffice_1 9 rfl rfl)
theorem dX4_readsOffice_34 : decode cX4_readsOffice 34 = .ok (.ifCond .eq 4, 3) := dk_153 0 4 (dk_at dksX4_readsOffice_1 12 rfl rfl)
theorem dX4_readsOffice_37 : decode cX4_readsOffice 37 = .ok (.return_, 1) := dk_177 (dk_at dksX4_readsOffice_1 15 rfl rfl)
theorem dX4_readsOffice_38 : decode cX4_readsOffice 38 = .ok (.aload_n 0, 1) := dk_42 (dk_at dksX4_readsOffice_1 16 rfl rfl)
theorem dX4_readsOffice_39 : decode cX4_readsOffice 39 = .ok (.invokevirtual 199, 3) := dk_182 0 199 (dk_at dksX4_readsOffice_1 17 rfl rfl)
theorem dX4_readsOffice_42 : decode cX4_readsOffice 42 = .ok (.aload_n 0, 1) := dk_42 (dk_at dksX4_readsOffice_1 20 rfl rfl)
theorem dX4_readsOffice_43 : decode cX4_readsOffice 43 = .ok (.getfield 13, 3) := dk_180 0 13 (dk_at dksX4_readsOffice_1 21 rfl rfl)
theorem dX4_readsOffice_46 : decode cX4_readsOffice 46 = .ok (.iconst 1, 1) := dk_4 (dk_at dksX4_readsOffice_2 0 rfl rfl)
theorem dX4_readsOffice_47 : decode cX4_readsOffice 47 = .ok (.iaload, 1) := dk_46 (dk_at dksX4_readsOffice_2 1 rfl rfl)
theorem dX4_readsOffice_48 : decode cX4_readsOffice 48 = .ok (.istore_n 1, 1) := dk_60 (dk_at dksX4_readsOffice_2 2 rfl rfl)
theorem dX4_readsOffice_49 : decode cX4_readsOffice 49 = .ok (.aload_n 0, 1) := dk_42 (dk_at dksX4_readsOffice_2 3 rfl rfl)
theorem dX4_readsOffice_50 : decode cX4_readsOffice 50 = .ok (.getfield 13, 3) := dk_180 0 13 (dk_at dksX4_readsOffice_2 4 rfl rfl)
theorem dX4_readsOffice_53 : decode cX4_readsOffice 53 = .ok (.iconst 1, 1) := dk_4 (dk_at dksX4_readsOffice_2 7 rfl rfl)
theorem dX4_readsOffice_54 : decode cX4_readsOffice 54 = .ok (.dup2, 1) := dk_92 (dk_at dksX4_readsOffice_2 8 rfl rfl)
theorem dX4_readsOffice_55 : decode cX4_readsOffice 55 = .ok (.iaload, 1) := dk_46 (dk_at dksX4_readsOffice_2 9 rfl rfl)
theorem dX4_readsOffice_56 : decode cX4_readsOffice 56 = .ok (.iconst 1, 1) := dk_4 (dk_at dksX4_readsOffice_2 10 rfl rfl)
theorem dX4_readsOffice_57 : decode cX4_readsOffice 57 = .ok (.iadd, 1) := dk_96 (dk_at dksX4_readsOffice_2 11 rfl rfl)
theorem dX4_readsOffice_58 : decode cX4_readsOffice 58 = .ok (.iastore, 1) := dk_79 (dk_at dksX4_readsOffice_2 12 rfl rfl)
theorem dX4_readsOffice_59 : decode cX4_readsOffice 59 = .ok (.iconst 0, 1) := dk_3 (dk_at dksX4_readsOffice_2 13 rfl rfl)
theorem dX4_readsOffice_60 : decode cX4_readsOffice 60 = .ok (.istore_n 2, 1) := dk_61 (dk_at dksX4_readsOffice_2 14 rfl rfl)
theorem dX4_readsOffice_61 : decode cX4_readsOffice 61 = .ok (.iload_n 2, 1) := dk_28 (dk_at dksX4_readsOffice_2 15 rfl rfl)
theorem dX4_readsOffice_62 : decode cX4_readsOffice 62 = .ok (.aload_n 0, 1) := dk_42 (dk_at dksX4_readsOffice_2 16 rfl rfl)
theorem dX4_readsOffice_63 : decode cX4_readsOffice 63 = .ok (.getfield 13, 3) := dk_180 0 13 (dk_at dksX4_readsOffice_2 17 rfl rfl)
theorem dX4_readsOffice_66 : decode cX4_readsOffice 66 = .ok (.iconst 0, 1) := dk_3 (dk_at dksX4_readsOffice_2 20 rfl rfl)
theorem dX4_readsOffice_67 : decode cX4_readsOffice 67 = .ok (.iaload, 1) := dk_46 (dk_at dksX4_readsOffice_2 21 rfl rfl)
theorem dX4_readsOffice_68 : decode cX4_readsOffice 68 = .ok (.if_icmp .ge 31, 3) := dk_162 0 31 (dk_at dksX4_readsOffice_3 0 rfl rfl)
theorem dX4_readsOffice_71 : decode cX4_readsOffice 71 = .ok (.aload_n 0, 1) := dk_42 (dk_at dksX4_readsOffice_3 3 rfl rfl)
theorem dX4_readsOffice_72 : decode cX4_readsOffice 72 = .ok (.iload_n 1, 1) := dk_27 (dk_at dksX4_readsOffice_3 4 rfl rfl)
theorem dX4_readsOffice_73 : decode cX4_readsOffice 73 = .ok (.iconst 0, 1) := dk_3 (dk_at dksX4_readsOffice_3 5 rfl rfl)
theorem dX4_readsOffice_74 : decode cX4_readsOffice 74 = .ok (.iload_n 2, 1) := dk_28 (dk_at dksX4_readsOffice_3 6 rfl rfl)
theorem dX4_readsOffice_75 : decode cX4_readsOffice 75 = .ok (.iadd, 1) := dk_96 (dk_at dksX4_readsOffice_3 7 rfl rfl)
theorem dX4_readsOffice_76 : decode cX4_readsOffice 76 = .ok (.aload_n 0, 1) := dk_42 (dk_at dksX4_readsOffice_3 8 rfl rfl)
theorem dX4_readsOffice_77 : decode cX4_readsOffice 77 = .ok (.iconst 0, 1) := dk_3 (dk_at dksX4_readsOffice_3 9 rfl rfl)
theorem dX4_readsOffice_78 : decode cX4_readsOffice 78 = .ok (.aload_n 0, 1) := dk_42 (dk_at dksX4_readsOffice_3 10 rfl rfl)
theorem dX4_readsOffice_79 : decode cX4_readsOffice 79 = .ok (.getfield 13, 3) := dk_180 0 13 (dk_at dksX4_readsOffice_3 11 rfl rfl)
theorem dX4_readsOffice_82 : decode cX4_readsOffice 82 = .ok (.bipush 9, 2) := dk_16 9 (dk_at dksX4_readsOffice_3 14 rfl rfl)
theorem dX4_readsOffice_84 : decode cX4_readsOffice 84 = .ok (.iload_n 2, 1) := dk_28 (dk_at dksX4_readsOffice_3 16 rfl rfl)
theorem dX4_readsOffice_85 : decode cX4_readsOffice 85 = .ok (.iadd, 1) := dk_96 (dk_at dksX4_readsOffice_3 17 rfl rfl)
theorem dX4_readsOffice_86 : decode cX4_readsOffice 86 = .ok (.iaload, 1) := dk_46 (dk_at dksX4_readsOffice_3 18 rfl rfl)
theorem dX4_readsOffice_87 : decode cX4_readsOffice 87 = .ok (.invokevirtual 227, 3) := dk_182 0 227 (dk_at dksX4_readsOffice_3 19 rfl rfl)
theorem dX4_readsOffice_90 : decode cX4_readsOffice 90 = .ok (.invokevirtual 92, 3) := dk_182 0 92 (dk_at dksX4_readsOffice_4 0 rfl rfl)
theorem dX4_readsOffice_93 : decode cX4_readsOffice 93 = .ok (.iinc 2 1, 3) := dk_132 2 1 (dk_at dksX4_readsOffice_4 3 rfl rfl)
theorem dX4_readsOffice_96 : decode cX4_readsOffice 96 = .ok (.goto (-35), 3) := dk_167 255 221 (dk_at dksX4_readsOffice_4 6 rfl rfl)
theorem dX4_readsOffice_99 : decode cX4_readsOffice 99 = .ok (.aload_n 0, 1) := dk_42 (dk_at dksX4_readsOffice_4 9 rfl rfl)
theorem dX4_readsOffice_100 : decode cX4_readsOffice 100 = .ok (.ldc 232, 2) := dk_18 232 (dk_at dksX4_readsOffice_4 10 rfl rfl)
theorem dX4_readsOffice_102 : decode cX4_readsOffice 102 = .ok (.invokevirtual 234, 3) := dk_182 0 234 (dk_at dksX4_readsOffice_4 12 rfl rfl)
theorem dX4_readsOffice_105 : decode cX4_readsOffice 105 = .ok (.istore_n 2, 1) := dk_61 (dk_at dksX4_readsOffice_4 15 rfl rfl)
theorem dX4_readsOffice_106 : decode cX4_readsOffice 106 = .ok (.iconst 0, 1) := dk_3 (dk_at dksX4_readsOffice_4 16 rfl rfl)
theorem dX4_readsOffice_107 : decode cX4_readsOffice 107 = .ok (.istore_n 3, 1) := dk_62 (dk_at dksX4_readsOffice_4 17 rfl rfl)
theorem dX4_readsOffice_108 : decode cX4_readsOffice 108 = .ok (.iload_n 3, 1) := dk_29 (dk_at dksX4_readsOffice_4 18 rfl rfl)
theorem dX4_readsOffice_109 : decode cX4_readsOffice 109 = .ok (.aload_n 0, 1) := dk_42 (dk_at dksX4_readsOffice_4 19 rfl rfl)
theorem dX4_readsOffice_110 : decode cX4_readsOffice 110 = .ok (.getfield 13, 3) := dk_180 0 13 (dk_at dksX4_readsOffice_4 20 rfl rfl)
theorem dX4_readsOffice_113 : decode cX4_readsOffice 113 = .ok (.iconst 0, 1) := dk_3 (dk_at dksX4_readsOffice_4 23 rfl rfl)
theorem dX4_readsOffice_114 : decode cX4_readsOffice 114 = .ok (.iaload, 1) := dk_46 (dk_at dksX4_readsOffice_5 0 rfl rfl)
theorem dX4_readsOffice_115 : decode cX4_readsOffice 115 = .ok (.if_icmp .ge 19, 3) := dk_162 0 19 (dk_at dksX4_readsOffice_5 1 rfl rfl)
theorem dX4_readsOffice_118 : decode cX4_readsOffice 118 = .ok (.iload_n 2, 1) := dk_28 (dk_at dksX4_readsOffice_5 4 rfl rfl)
theorem dX4_readsOffice_119 : decode cX4_readsOffice 119 = .ok (.ifCond .eq 15, 3) := dk_153 0 15 (dk_at dksX4_readsOffice_5 5 rfl rfl)
theorem dX4_readsOffice_122 : decode cX4_readsOffice 122 = .ok (.aload_n 0, 1) := dk_42 (dk_at dksX4_readsOffice_5 8 rfl rfl)
theorem dX4_readsOffice_123 : decode cX4_readsOffice 123 = .ok (.iload_n 1, 1) := dk_27 (dk_at dksX4_readsOffice_5 9 rfl rfl)
theorem dX4_readsOffice_124 : decode cX4_readsOffice 124 = .ok (.iload_n 3, 1) := dk_29 (dk_at dksX4_readsOffice_5 10 rfl rfl)
theorem dX4_readsOffice_125 : decode cX4_readsOffice 125 = .ok (.invokevirtual 237, 3) := dk_182 0 237 (dk_at dksX4_readsOffice_5 11 rfl rfl)
theorem dX4_readsOffice_128 : decode cX4_readsOffice 128 = .ok (.iinc 3 1, 3) := dk_132 3 1 (dk_at dksX4_readsOffice_5 14 rfl rfl)
theorem dX4_readsOffice_131 : decode cX4_readsOffice 131 = .ok (.goto (-23), 3) := dk_167 255 233 (dk_at dksX4_readsOffice_5 17 rfl rfl)
theorem dX4_readsOffice_134 : decode cX4_readsOffice 134 = .ok (.aload_n 0, 1) := dk_42 (dk_at dksX4_readsOffice_5 20 rfl rfl)
theorem dX4_readsOffice_135 : decode cX4_readsOffice 135 = .ok (.invokevirtual 221, 3) := dk_182 0 221 (dk_at dksX4_readsOffice_5 21 rfl rfl)
theorem dX4_readsOffice_138 : decode cX4_readsOffice 138 = .ok (.return_, 1) := dk_177 (dk_at dksX4_readsOffice_6 0 rfl rfl)
abbrev cX4_lays : ByteArray := prog_33_method_9_code
def yX4_lays : MethodName := ⟨RX4, "lays", "(III)V"⟩
def dkwX4_lays_0 : List UInt8 := [42, 180, 0, 13, 16, 13, 16, 11, 27, 104, 96, 28, 96, 29, 79, 177]
abbrev dktX4_lays_0 : List UInt8 := dkwX4_lays_0 ++ []
theorem dksX4_lays_0 : cX4_lays.data.toList.drop 0 = dktX4_lays_0 := by decide +kernel
theorem dX4_lays_0 : decode cX4_lays 0 = .ok (.aload_n 0, 1) := dk_42 (dk_at dksX4_lays_0 0 rfl rfl)
theorem dX4_lays_1 : decode cX4_lays 1 = .ok (.getfield 13, 3) := dk_180 0 13 (dk_at dksX4_lays_0 1 rfl rfl)
theorem dX4_lays_4 : decode cX4_lays 4 = .ok (.bipush 13, 2) := dk_16 13 (dk_at dksX4_lays_0 4 rfl rfl)
theorem dX4_lays_6 : decode cX4_lays 6 = .ok (.bipush 11, 2) := dk_16 11 (dk_at dksX4_lays_0 6 rfl rfl)
theorem dX4_lays_8 : decode cX4_lays 8 = .ok (.iload_n 1, 1) := dk_27 (dk_at dksX4_lays_0 8 rfl rfl)
theorem dX4_lays_9 : decode cX4_lays 9 = .ok (.imul, 1) := dk_104 (dk_at dksX4_lays_0 9 rfl rfl)
theorem dX4_lays_10 : decode cX4_lays 10 = .ok (.iadd, 1) := dk_96 (dk_at dksX4_lays_0 10 rfl rfl)
theorem dX4_lays_11 : decode cX4_lays 11 = .ok (.iload_n 2, 1) := dk_28 (dk_at dksX4_lays_0 11 rfl rfl)
theorem dX4_lays_12 : decode cX4_lays 12 = .ok (.iadd, 1) := dk_96 (dk_at dksX4_lays_0 12 rfl rfl)
theorem dX4_lays_13 : decode cX4_lays 13 = .ok (.iload_n 3, 1) := dk_29 (dk_at dksX4_lays_0 13 rfl rfl)
theorem dX4_lays_14 : decode cX4_lays 14 = .ok (.iastore, 1) := dk_79 (dk_at dksX4_lays_0 14 rfl rfl)
theorem dX4_lays_15 : decode cX4_lays 15 = .ok (.return_, 1) := dk_177 (dk_at dksX4_lays_0 15 rfl rfl)
abbrev cX4_takesWord : ByteArray := prog_33_method_58_code
def yX4_takesWord : MethodName := ⟨RX4, "takesWord", "(Ljava/lang/String;)Z"⟩
def dkwX4_takesWord_0 : List UInt8 := [42, 43, 182, 0, 202, 61, 28, 153, 0, 7, 42, 182, 0, 199, 28, 172]
abbrev dktX4_takesWord_0 : List UInt8 := dkwX4_takesWord_0 ++ []
theorem dksX4_takesWord_0 : cX4_takesWord.data.toList.drop 0 = dktX4_takesWord_0 := by decide +kernel
theorem dX4_takesWord_0 : decode cX4_takesWord 0 = .ok (.aload_n 0, 1) := dk_42 (dk_at dksX4_takesWord_0 0 rfl rfl)
theorem dX4_takesWord_1 : decode cX4_takesWord 1 = .ok (.aload_n 1, 1) := dk_43 (dk_at dksX4_takesWord_0 1 rfl rfl)
theorem dX4_takesWord_2 : decode cX4_takesWord 2 = .ok (.invokevirtual 202, 3) := dk_182 0 202 (dk_at dksX4_takesWord_0 2 rfl rfl)
theorem dX4_takesWord_5 : decode cX4_takesWord 5 = .ok (.istore_n 2, 1) := dk_61 (dk_at dksX4_takesWord_0 5 rfl rfl)
theorem dX4_takesWord_6 : decode cX4_takesWord 6 = .ok (.iload_n 2, 1) := dk_28 (dk_at dksX4_takesWord_0 6 rfl rfl)
theorem dX4_takesWord_7 : decode cX4_takesWord 7 = .ok (.ifCond .eq 7, 3) := dk_153 0 7 (dk_at dksX4_takesWord_0 7 rfl rfl)
theorem dX4_takesWord_10 : decode cX4_takesWord 10 = .ok (.aload_n 0, 1) := dk_42 (dk_at dksX4_takesWord_0 10 rfl rfl)
theorem dX4_takesWord_11 : decode cX4_takesWord 11 = .ok (.invokevirtual 199, 3) := dk_182 0 199 (dk_at dksX4_takesWord_0 11 rfl rfl)
theorem dX4_takesWord_14 : decode cX4_takesWord 14 = .ok (.iload_n 2, 1) := dk_28 (dk_at dksX4_takesWord_0 14 rfl rfl)
theorem dX4_takesWord_15 : decode cX4_takesWord 15 = .ok (.ireturn, 1) := dk_172 (dk_at dksX4_takesWord_0 15 rfl rfl)
abbrev cX4_readsHeld : ByteArray := prog_33_method_62_code
def yX4_readsHeld : MethodName := ⟨RX4, "readsHeld", "(II)V"⟩
def dkwX4_readsHeld_3 : List UInt8 := [182, 0, 92, 42, 180, 0, 13, 6, 92, 46, 29, 96, 79, 177]
abbrev dktX4_readsHeld_3 : List UInt8 := dkwX4_readsHeld_3 ++ []
def dkwX4_readsHeld_2 : List UInt8 := [3, 28, 96, 182, 0, 63, 182, 0, 227, 62, 42, 180, 0, 168, 153, 0, 4, 177, 42, 27, 7, 28, 96, 29]
abbrev dktX4_readsHeld_2 : List UInt8 := dkwX4_readsHeld_2 ++ dktX4_readsHeld_3
def dkwX4_readsHeld_1 : List UInt8 := [153, 0, 20, 42, 180, 0, 174, 42, 28, 182, 0, 70, 164, 0, 8, 42, 7, 182, 0, 206, 42, 3, 42, 27]
abbrev dktX4_readsHeld_1 : List UInt8 := dkwX4_readsHeld_1 ++ dktX4_readsHeld_2
def dkwX4_readsHeld_0 : List UInt8 := [42, 180, 0, 187, 5, 160, 0, 39, 42, 180, 0, 174, 3, 42, 27, 3, 28, 96, 182, 0, 63, 184, 0, 209]
abbrev dktX4_readsHeld_0 : List UInt8 := dkwX4_readsHeld_0 ++ dktX4_readsHeld_1
theorem dksX4_readsHeld_0 : cX4_readsHeld.data.toList.drop 0 = dktX4_readsHeld_0 := by decide +kernel
theorem dksX4_readsHeld_1 : cX4_readsHeld.data.toList.drop 24 = dktX4_readsHeld_1 := dk_seg dksX4_readsHeld_0 24 rfl rfl
theorem dksX4_readsHeld_2 : cX4_readsHeld.data.toList.drop 48 = dktX4_readsHeld_2 := dk_seg dksX4_readsHeld_1 24 rfl rfl
theorem dksX4_readsHeld_3 : cX4_readsHeld.data.toList.drop 72 = dktX4_readsHeld_3 := dk_seg dksX4_readsHeld_2 24 rfl rfl
theorem dX4_readsHeld_0 : decode cX4_readsHeld 0 = .ok (.aload_n 0, 1) := dk_42 (dk_at dksX4_readsHeld_0 0 rfl rfl)
theorem dX4_readsHeld_1 : decode cX4_readsHeld 1 = .ok (.getfield 187, 3) := dk_180 0 187 (dk_at dksX4_readsHeld_0 1 rfl rfl)
theorem dX4_readsHeld_4 : decode cX4_readsHeld 4 = .ok (.iconst 2, 1) := dk_5 (dk_at dksX4_readsHeld_0 4 rfl rfl)
theorem dX4_readsHeld_5 : decode cX4_readsHeld 5 = .ok (.if_icmp .ne 39, 3) := dk_160 0 39 (dk_at dksX4_readsHeld_0 5 rfl rfl)
theorem dX4_readsHeld_8 : decode cX4_readsHeld 8 = .ok (.aload_n 0, 1) := dk_42 (dk_at dksX4_readsHeld_0 8 rfl rfl)
theorem dX4_readsHeld_9 : decode cX4_readsHeld 9 = .ok (.getfield 174, 3) := dk_180 0 174 (dk_at dksX4_readsHeld_0 9 rfl rfl)
theorem dX4_readsHeld_12 : decode cX4_readsHeld 12 = .ok (.iconst 0, 1) := dk_3 (dk_at dksX4_readsHeld_0 12 rfl rfl)
theorem dX4_readsHeld_13 : decode cX4_readsHeld 13 = .ok (.aload_n 0, 1) := dk_42 (dk_at dksX4_readsHeld_0 13 rfl rfl)
theorem dX4_readsHeld_14 : decode cX4_readsHeld 14 = .ok (.iload_n 1, 1) := dk_27 (dk_at dksX4_readsHeld_0 14 rfl rfl)
theorem dX4_readsHeld_15 : decode cX4_readsHeld 15 = .ok (.iconst 0, 1) := dk_3 (dk_at dksX4_readsHeld_0 15 rfl rfl)
theorem dX4_readsHeld_16 : decode cX4_readsHeld 16 = .ok (.iload_n 2, 1) := dk_28 (dk_at dksX4_readsHeld_0 16 rfl rfl)
theorem dX4_readsHeld_17 : decode cX4_readsHeld 17 = .ok (.iadd, 1) := dk_96 (dk_at dksX4_readsHeld_0 17 rfl rfl)
theorem dX4_readsHeld_18 : decode cX4_readsHeld 18 = .ok (.invokevirtual 63, 3) := dk_182 0 63 (dk_at dksX4_readsHeld_0 18 rfl rfl)
theorem dX4_readsHeld_21 : decode cX4_readsHeld 21 = .ok (.invokestatic 209, 3) := dk_184 0 209 (dk_at dksX4_readsHeld_0 21 rfl rfl)
theorem dX4_readsHeld_24 : decode cX4_readsHeld 24 = .ok (.ifCond .eq 20, 3) := dk_153 0 20 (dk_at dksX4_readsHeld_1 0 rfl rfl)
theorem dX4_readsHeld_27 : decode cX4_readsHeld 27 = .ok (.aload_n 0, 1) := dk_42 (dk_at dksX4_readsHeld_1 3 rfl rfl)
theorem dX4_readsHeld_28 : decode cX4_readsHeld 28 = .ok (.getfield 174, 3) := dk_180 0 174 (dk_at dksX4_readsHeld_1 4 rfl rfl)
theorem dX4_readsHeld_31 : decode cX4_readsHeld 31 = .ok (.aload_n 0, 1) := dk_42 (dk_at dksX4_readsHeld_1 7 rfl rfl)
theorem dX4_readsHeld_32 : decode cX4_readsHeld 32 = .ok (.iload_n 2, 1) := dk_28 (dk_at dksX4_readsHeld_1 8 rfl rfl)
theorem dX4_readsHeld_33 : decode cX4_readsHeld 33 = .ok (.invokevirtual 70, 3) := dk_182 0 70 (dk_at dksX4_readsHeld_1 9 rfl rfl)
theorem dX4_readsHeld_36 : decode cX4_readsHeld 36 = .ok (.if_icmp .le 8, 3) := dk_164 0 8 (dk_at dksX4_readsHeld_1 12 rfl rfl)
theorem dX4_readsHeld_39 : decode cX4_readsHeld 39 = .ok (.aload_n 0, 1) := dk_42 (dk_at dksX4_readsHeld_1 15 rfl rfl)
theorem dX4_readsHeld_40 : decode cX4_readsHeld 40 = .ok (.iconst 4, 1) := dk_7 (dk_at dksX4_readsHeld_1 16 rfl rfl)
theorem dX4_readsHeld_41 : decode cX4_readsHeld 41 = .ok (.invokevirtual 206, 3) := dk_182 0 206 (dk_at dksX4_readsHeld_1 17 rfl rfl)
theorem dX4_readsHeld_44 : decode cX4_readsHeld 44 = .ok (.aload_n 0, 1) := dk_42 (dk_at dksX4_readsHeld_1 20 rfl rfl)
theorem dX4_readsHeld_45 : decode cX4_readsHeld 45 = .ok (.iconst 0, 1) := dk_3 (dk_at dksX4_readsHeld_1 21 rfl rfl)
theorem dX4_readsHeld_46 : decode cX4_readsHeld 46 = .ok (.aload_n 0, 1) := dk_42 (dk_at dksX4_readsHeld_1 22 rfl rfl)
theorem dX4_readsHeld_47 : decode cX4_readsHeld 47 = .ok (.iload_n 1, 1) := dk_27 (dk_at dksX4_readsHeld_1 23 rfl rfl)
theorem dX4_readsHeld_48 : decode cX4_readsHeld 48 = .ok (.iconst 0, 1) := dk_3 (dk_at dksX4_readsHeld_2 0 rfl rfl)
theorem dX4_readsHeld_49 : decode cX4_readsHeld 49 = .ok (.iload_n 2, 1) := dk_28 (dk_at dksX4_readsHeld_2 1 rfl rfl)
theorem dX4_readsHeld_50 : decode cX4_readsHeld 50 = .ok (.iadd, 1) := dk_96 (dk_at dksX4_readsHeld_2 2 rfl rfl)
theorem dX4_readsHeld_51 : decode cX4_readsHeld 51 = .ok (.invokevirtual 63, 3) := dk_182 0 63 (dk_at dksX4_readsHeld_2 3 rfl rfl)
theorem dX4_readsHeld_54 : decode cX4_readsHeld 54 = .ok (.invokevirtual 227, 3) := dk_182 0 227 (dk_at dksX4_readsHeld_2 6 rfl rfl)
theorem dX4_readsHeld_57 : decode cX4_readsHeld 57 = .ok (.istore_n 3, 1) := dk_62 (dk_at dksX4_readsHeld_2 9 rfl rfl)
theorem dX4_readsHeld_58 : decode cX4_readsHeld 58 = .ok (.aload_n 0, 1) := dk_42 (dk_at dksX4_readsHeld_2 10 rfl rfl)
theorem dX4_readsHeld_59 : decode cX4_readsHeld 59 = .ok (.getfield 168, 3) := dk_180 0 168 (dk_at dksX4_readsHeld_2 11 rfl rfl)
theorem dX4_readsHeld_62 : decode cX4_readsHeld 62 = .ok (.ifCond .eq 4, 3) := dk_153 0 4 (dk_at dksX4_readsHeld_2 14 rfl rfl)
theorem dX4_readsHeld_65 : decode cX4_readsHeld 65 = .ok (.return_, 1) := dk_177 (dk_at dksX4_readsHeld_2 17 rfl rfl)
theorem dX4_readsHeld_66 : decode cX4_readsHeld 66 = .ok (.aload_n 0, 1) := dk_42 (dk_at dksX4_readsHeld_2 18 rfl rfl)
theorem dX4_readsHeld_67 : decode cX4_readsHeld 67 = .ok (.iload_n 1, 1) := dk_27 (dk_at dksX4_readsHeld_2 19 rfl rfl)
theorem dX4_readsHeld_68 : decode cX4_readsHeld 68 = .ok (.iconst 4, 1) := dk_7 (dk_at dksX4_readsHeld_2 20 rfl rfl)
theorem dX4_readsHeld_69 : decode cX4_readsHeld 69 = .ok (.iload_n 2, 1) := dk_28 (dk_at dksX4_readsHeld_2 21 rfl rfl)
theorem dX4_readsHeld_70 : decode cX4_readsHeld 70 = .ok (.iadd, 1) := dk_96 (dk_at dksX4_readsHeld_2 22 rfl rfl)
theorem dX4_readsHeld_71 : decode cX4_readsHeld 71 = .ok (.iload_n 3, 1) := dk_29 (dk_at dksX4_readsHeld_2 23 rfl rfl)
theorem dX4_readsHeld_72 : decode cX4_readsHeld 72 = .ok (.invokevirtual 92, 3) := dk_182 0 92 (dk_at dksX4_readsHeld_3 0 rfl rfl)
theorem dX4_readsHeld_75 : decode cX4_readsHeld 75 = .ok (.aload_n 0, 1) := dk_42 (dk_at dksX4_readsHeld_3 3 rfl rfl)
theorem dX4_readsHeld_76 : decode cX4_readsHeld 76 = .ok (.getfield 13, 3) := dk_180 0 13 (dk_at dksX4_readsHeld_3 4 rfl rfl)
theorem dX4_readsHeld_79 : decode cX4_readsHeld 79 = .ok (.iconst 3, 1) := dk_6 (dk_at dksX4_readsHeld_3 7 rfl rfl)
theorem dX4_readsHeld_80 : decode cX4_readsHeld 80 = .ok (.dup2, 1) := dk_92 (dk_at dksX4_readsHeld_3 8 rfl rfl)
theorem dX4_readsHeld_81 : decode cX4_readsHeld 81 = .ok (.iaload, 1) := dk_46 (dk_at dksX4_readsHeld_3 9 rfl rfl)
theorem dX4_readsHeld_82 : decode cX4_readsHeld 82 = .ok (.iload_n 3, 1) := dk_29 (dk_at dksX4_readsHeld_3 10 rfl rfl)
theorem dX4_readsHeld_83 : decode cX4_readsHeld 83 = .ok (.iadd, 1) := dk_96 (dk_at dksX4_readsHeld_3 11 rfl rfl)
theorem dX4_readsHeld_84 : decode cX4_readsHeld 84 = .ok (.iastore, 1) := dk_79 (dk_at dksX4_readsHeld_3 12 rfl rfl)
theorem dX4_readsHeld_85 : decode cX4_readsHeld 85 = .ok (.return_, 1) := dk_177 (dk_at dksX4_readsHeld_3 13 rfl rfl)
abbrev cX4_of : ByteArray := prog_33_method_8_code
def yX4_of : MethodName := ⟨RX4, "of", "(II)I"⟩
def dkwX4_of_0 : List UInt8 := [42, 180, 0, 13, 16, 13, 16, 11, 27, 104, 96, 28, 96, 46, 172]
abbrev dktX4_of_0 : List UInt8 := dkwX4_of_0 ++ []
theorem dksX4_of_0 : cX4_of.data.toList.drop 0 = dktX4_of_0 := by decide +kernel
theorem dX4_of_0 : decode cX4_of 0 = .ok (.aload_n 0, 1) := dk_42 (dk_at dksX4_of_0 0 rfl rfl)
theorem dX4_of_1 : decode cX4_of 1 = .ok (.getfield 13, 3) := dk_180 0 13 (dk_at dksX4_of_0 1 rfl rfl)
theorem dX4_of_4 : decode cX4_of 4 = .ok (.bipush 13, 2) := dk_16 13 (dk_at dksX4_of_0 4 rfl rfl)
theorem dX4_of_6 : decode cX4_of 6 = .ok (.bipush 11, 2) := dk_16 11 (dk_at dksX4_of_0 6 rfl rfl)
theorem dX4_of_8 : decode cX4_of 8 = .ok (.iload_n 1, 1) := dk_27 (dk_at dksX4_of_0 8 rfl rfl)
theorem dX4_of_9 : decode cX4_of 9 = .ok (.imul, 1) := dk_104 (dk_at dksX4_of_0 9 rfl rfl)
theorem dX4_of_10 : decode cX4_of 10 = .ok (.iadd, 1) := dk_96 (dk_at dksX4_of_0 10 rfl rfl)
theorem dX4_of_11 : decode cX4_of 11 = .ok (.iload_n 2, 1) := dk_28 (dk_at dksX4_of_0 11 rfl rfl)
theorem dX4_of_12 : decode cX4_of 12 = .ok (.iadd, 1) := dk_96 (dk_at dksX4_of_0 12 rfl rfl)
theorem dX4_of_13 : decode cX4_of 13 = .ok (.iaload, 1) := dk_46 (dk_at dksX4_of_0 13 rfl rfl)
theorem dX4_of_14 : decode cX4_of 14 = .ok (.ireturn, 1) := dk_172 (dk_at dksX4_of_0 14 rfl rfl)
abbrev cX4_free : ByteArray := prog_33_method_13_code
def yX4_free : MethodName := ⟨RX4, "free", "(I)I"⟩
def dkwX4_free_0 : List UInt8 := [42, 180, 0, 13, 16, 9, 27, 96, 46, 42, 27, 182, 0, 67, 100, 172]
abbrev dktX4_free_0 : List UInt8 := dkwX4_free_0 ++ []
theorem dksX4_free_0 : cX4_free.data.toList.drop 0 = dktX4_free_0 := by decide +kernel
theorem dX4_free_0 : decode cX4_free 0 = .ok (.aload_n 0, 1) := dk_42 (dk_at dksX4_free_0 0 rfl rfl)
theorem dX4_free_1 : decode cX4_free 1 = .ok (.getfield 13, 3) := dk_180 0 13 (dk_at dksX4_free_0 1 rfl rfl)
theorem dX4_free_4 : decode cX4_free 4 = .ok (.bipush 9, 2) := dk_16 9 (dk_at dksX4_free_0 4 rfl rfl)
theorem dX4_free_6 : decode cX4_free 6 = .ok (.iload_n 1, 1) := dk_27 (dk_at dksX4_free_0 6 rfl rfl)
theorem dX4_free_7 : decode cX4_free 7 = .ok (.iadd, 1) := dk_96 (dk_at dksX4_free_0 7 rfl rfl)
theorem dX4_free_8 : decode cX4_free 8 = .ok (.iaload, 1) := dk_46 (dk_at dksX4_free_0 8 rfl rfl)
theorem dX4_free_9 : decode cX4_free 9 = .ok (.aload_n 0, 1) := dk_42 (dk_at dksX4_free_0 9 rfl rfl)
theorem dX4_free_10 : decode cX4_free 10 = .ok (.iload_n 1, 1) := dk_27 (dk_at dksX4_free_0 10 rfl rfl)
theorem dX4_free_11 : decode cX4_free 11 = .ok (.invokevirtual 67, 3) := dk_182 0 67 (dk_at dksX4_free_0 11 rfl rfl)
theorem dX4_free_14 : decode cX4_free 14 = .ok (.isub, 1) := dk_100 (dk_at dksX4_free_0 14 rfl rfl)
theorem dX4_free_15 : decode cX4_free 15 = .ok (.ireturn, 1) := dk_172 (dk_at dksX4_free_0 15 rfl rfl)
abbrev cX4_heldInAll : ByteArray := prog_33_method_12_code
def yX4_heldInAll : MethodName := ⟨RX4, "heldInAll", "(I)I"⟩
def dkwX4_heldInAll_1 : List UInt8 := [61, 132, 3, 1, 167, 255, 232, 28, 172]
abbrev dktX4_heldInAll_1 : List UInt8 := dkwX4_heldInAll_1 ++ []
def dkwX4_heldInAll_0 : List UInt8 := [3, 61, 3, 62, 29, 42, 180, 0, 13, 4, 46, 162, 0, 20, 28, 42, 29, 7, 27, 96, 182, 0, 63, 96]
abbrev dktX4_heldInAll_0 : List UInt8 := dkwX4_heldInAll_0 ++ dktX4_heldInAll_1
theorem dksX4_heldInAll_0 : cX4_heldInAll.data.toList.drop 0 = dktX4_heldInAll_0 := by decide +kernel
theorem dksX4_heldInAll_1 : cX4_heldInAll.data.toList.drop 24 = dktX4_heldInAll_1 := dk_seg dksX4_heldInAll_0 24 rfl rfl
theorem dX4_heldInAll_0 : decode cX4_heldInAll 0 = .ok (.iconst 0, 1) := dk_3 (dk_at dksX4_heldInAll_0 0 rfl rfl)
theorem dX4_heldInAll_1 : decode cX4_heldInAll 1 = .ok (.istore_n 2, 1) := dk_61 (dk_at dksX4_heldInAll_0 1 rfl rfl)
theorem dX4_heldInAll_2 : decode cX4_heldInAll 2 = .ok (.iconst 0, 1) := dk_3 (dk_at dksX4_heldInAll_0 2 rfl rfl)
theorem dX4_heldInAll_3 : decode cX4_heldInAll 3 = .ok (.istore_n 3, 1) := dk_62 (dk_at dksX4_heldInAll_0 3 rfl rfl)
theorem dX4_heldInAll_4 : decode cX4_heldInAll 4 = .ok (.iload_n 3, 1) := dk_29 (dk_at dksX4_heldInAll_0 4 rfl rfl)
theorem dX4_heldInAll_5 : decode cX4_heldInAll 5 = .ok (.aload_n 0, 1) := dk_42 (dk_at dksX4_heldInAll_0 5 rfl rfl)
theorem dX4_heldInAll_6 : decode cX4_heldInAll 6 = .ok (.getfield 13, 3) := dk_180 0 13 (dk_at dksX4_heldInAll_0 6 rfl rfl)
theorem dX4_heldInAll_9 : decode cX4_heldInAll 9 = .ok (.iconst 1, 1) := dk_4 (dk_at dksX4_heldInAll_0 9 rfl rfl)
theorem dX4_heldInAll_10 : decode cX4_heldInAll 10 = .ok (.iaload, 1) := dk_46 (dk_at dksX4_heldInAll_0 10 rfl rfl)
theorem dX4_heldInAll_11 : decode cX4_heldInAll 11 = .ok (.if_icmp .ge 20, 3) := dk_162 0 20 (dk_at dksX4_heldInAll_0 11 rfl rfl)
theorem dX4_heldInAll_14 : decode cX4_heldInAll 14 = .ok (.iload_n 2, 1) := dk_28 (dk_at dksX4_heldInAll_0 14 rfl rfl)
theorem dX4_heldInAll_15 : decode cX4_heldInAll 15 = .ok (.aload_n 0, 1) := dk_42 (dk_at dksX4_heldInAll_0 15 rfl rfl)
theorem dX4_heldInAll_16 : decode cX4_heldInAll 16 = .ok (.iload_n 3, 1) := dk_29 (dk_at dksX4_heldInAll_0 16 rfl rfl)
theorem dX4_heldInAll_17 : decode cX4_heldInAll 17 = .ok (.iconst 4, 1) := dk_7 (dk_at dksX4_heldInAll_0 17 rfl rfl)
theorem dX4_heldInAll_18 : decode cX4_heldInAll 18 = .ok (.iload_n 1, 1) := dk_27 (dk_at dksX4_heldInAll_0 18 rfl rfl)
theorem dX4_heldInAll_19 : decode cX4_heldInAll 19 = .ok (.iadd, 1) := dk_96 (dk_at dksX4_heldInAll_0 19 rfl rfl)
theorem dX4_heldInAll_20 : decode cX4_heldInAll 20 = .ok (.invokevirtual 63, 3) := dk_182 0 63 (dk_at dksX4_heldInAll_0 20 rfl rfl)
theorem dX4_heldInAll_23 : decode cX4_heldInAll 23 = .ok (.iadd, 1) := dk_96 (dk_at dksX4_heldInAll_0 23 rfl rfl)
theorem dX4_heldInAll_24 : decode cX4_heldInAll 24 = .ok (.istore_n 2, 1) := dk_61 (dk_at dksX4_heldInAll_1 0 rfl rfl)
theorem dX4_heldInAll_25 : decode cX4_heldInAll 25 = .ok (.iinc 3 1, 3) := dk_132 3 1 (dk_at dksX4_heldInAll_1 1 rfl rfl)
theorem dX4_heldInAll_28 : decode cX4_heldInAll 28 = .ok (.goto (-24), 3) := dk_167 255 232 (dk_at dksX4_heldInAll_1 4 rfl rfl)
theorem dX4_heldInAll_31 : decode cX4_heldInAll 31 = .ok (.iload_n 2, 1) := dk_28 (dk_at dksX4_heldInAll_1 7 rfl rfl)
theorem dX4_heldInAll_32 : decode cX4_heldInAll 32 = .ok (.ireturn, 1) := dk_172 (dk_at dksX4_heldInAll_1 8 rfl rfl)
abbrev cX4_isSafe : ByteArray := prog_33_method_19_code
def yX4_isSafe : MethodName := ⟨RX4, "isSafe", "()Z"⟩
def dkwX4_isSafe_1 : List UInt8 := [167, 0, 4, 3, 172]
abbrev dktX4_isSafe_1 : List UInt8 := dkwX4_isSafe_1 ++ []
def dkwX4_isSafe_0 : List UInt8 := [42, 42, 180, 0, 13, 4, 46, 182, 0, 89, 4, 42, 180, 0, 13, 4, 46, 120, 4, 100, 160, 0, 7, 4]
abbrev dktX4_isSafe_0 : List UInt8 := dkwX4_isSafe_0 ++ dktX4_isSafe_1
theorem dksX4_isSafe_0 : cX4_isSafe.data.toList.drop 0 = dktX4_isSafe_0 := by decide +kernel
theorem dksX4_isSafe_1 : cX4_isSafe.data.toList.drop 24 = dktX4_isSafe_1 := dk_seg dksX4_isSafe_0 24 rfl rfl
theorem dX4_isSafe_0 : decode cX4_isSafe 0 = .ok (.aload_n 0, 1) := dk_42 (dk_at dksX4_isSafe_0 0 rfl rfl)
theorem dX4_isSafe_1 : decode cX4_isSafe 1 = .ok (.aload_n 0, 1) := dk_42 (dk_at dksX4_isSafe_0 1 rfl rfl)
theorem dX4_isSafe_2 : decode cX4_isSafe 2 = .ok (.getfield 13, 3) := dk_180 0 13 (dk_at dksX4_isSafe_0 2 rfl rfl)
theorem dX4_isSafe_5 : decode cX4_isSafe 5 = .ok (.iconst 1, 1) := dk_4 (dk_at dksX4_isSafe_0 5 rfl rfl)
theorem dX4_isSafe_6 : decode cX4_isSafe 6 = .ok (.iaload, 1) := dk_46 (dk_at dksX4_isSafe_0 6 rfl rfl)
theorem dX4_isSafe_7 : decode cX4_isSafe 7 = .ok (.invokevirtual 89, 3) := dk_182 0 89 (dk_at dksX4_isSafe_0 7 rfl rfl)
theorem dX4_isSafe_10 : decode cX4_isSafe 10 = .ok (.iconst 1, 1) := dk_4 (dk_at dksX4_isSafe_0 10 rfl rfl)
theorem dX4_isSafe_11 : decode cX4_isSafe 11 = .ok (.aload_n 0, 1) := dk_42 (dk_at dksX4_isSafe_0 11 rfl rfl)
theorem dX4_isSafe_12 : decode cX4_isSafe 12 = .ok (.getfield 13, 3) := dk_180 0 13 (dk_at dksX4_isSafe_0 12 rfl rfl)
theorem dX4_isSafe_15 : decode cX4_isSafe 15 = .ok (.iconst 1, 1) := dk_4 (dk_at dksX4_isSafe_0 15 rfl rfl)
theorem dX4_isSafe_16 : decode cX4_isSafe 16 = .ok (.iaload, 1) := dk_46 (dk_at dksX4_isSafe_0 16 rfl rfl)
theorem dX4_isSafe_17 : decode cX4_isSafe 17 = .ok (.ishl, 1) := dk_120 (dk_at dksX4_isSafe_0 17 rfl rfl)
theorem dX4_isSafe_18 : decode cX4_isSafe 18 = .ok (.iconst 1, 1) := dk_4 (dk_at dksX4_isSafe_0 18 rfl rfl)
theorem dX4_isSafe_19 : decode cX4_isSafe 19 = .ok (.isub, 1) := dk_100 (dk_at dksX4_isSafe_0 19 rfl rfl)
theorem dX4_isSafe_20 : decode cX4_isSafe 20 = .ok (.if_icmp .ne 7, 3) := dk_160 0 7 (dk_at dksX4_isSafe_0 20 rfl rfl)
theorem dX4_isSafe_23 : decode cX4_isSafe 23 = .ok (.iconst 1, 1) := dk_4 (dk_at dksX4_isSafe_0 23 rfl rfl)
theorem dX4_isSafe_24 : decode cX4_isSafe 24 = .ok (.goto 4, 3) := dk_167 0 4 (dk_at dksX4_isSafe_1 0 rfl rfl)
theorem dX4_isSafe_27 : decode cX4_isSafe 27 = .ok (.iconst 0, 1) := dk_3 (dk_at dksX4_isSafe_1 3 rfl rfl)
theorem dX4_isSafe_28 : decode cX4_isSafe 28 = .ok (.ireturn, 1) := dk_172 (dk_at dksX4_isSafe_1 4 rfl rfl)
abbrev cX4_firstOnes : ByteArray := prog_33_method_18_code
def yX4_firstOnes : MethodName := ⟨RX4, "firstOnes", "(I)I"⟩
def dkwX4_firstOnes_1 : List UInt8 := [28, 4, 21, 4, 120, 128, 61, 132, 3, 1, 167, 255, 226, 28, 172]
abbrev dktX4_firstOnes_1 : List UInt8 := dkwX4_firstOnes_1 ++ []
def dkwX4_firstOnes_0 : List UInt8 := [3, 61, 3, 62, 29, 27, 162, 0, 31, 42, 28, 182, 0, 86, 54, 4, 21, 4, 2, 160, 0, 5, 28, 172]
abbrev dktX4_firstOnes_0 : List UInt8 := dkwX4_firstOnes_0 ++ dktX4_firstOnes_1
theorem dksX4_firstOnes_0 : cX4_firstOnes.data.toList.drop 0 = dktX4_firstOnes_0 := by decide +kernel
theorem dksX4_firstOnes_1 : cX4_firstOnes.data.toList.drop 24 = dktX4_firstOnes_1 := dk_seg dksX4_firstOnes_0 24 rfl rfl
theorem dX4_firstOnes_0 : decode cX4_firstOnes 0 = .ok (.iconst 0, 1) := dk_3 (dk_at dksX4_firstOnes_0 0 rfl rfl)
theorem dX4_firstOnes_1 : decode cX4_firstOnes 1 = .ok (.istore_n 2, 1) := dk_61 (dk_at dksX4_firstOnes_0 1 rfl rfl)
theorem dX4_firstOnes_2 : decode cX4_firstOnes 2 = .ok (.iconst 0, 1) := dk_3 (dk_at dksX4_firstOnes_0 2 rfl rfl)
theorem dX4_firstOnes_3 : decode cX4_firstOnes 3 = .ok (.istore_n 3, 1) := dk_62 (dk_at dksX4_firstOnes_0 3 rfl rfl)
theorem dX4_firstOnes_4 : decode cX4_firstOnes 4 = .ok (.iload_n 3, 1) := dk_29 (dk_at dksX4_firstOnes_0 4 rfl rfl)
theorem dX4_firstOnes_5 : decode cX4_firstOnes 5 = .ok (.iload_n 1, 1) := dk_27 (dk_at dksX4_firstOnes_0 5 rfl rfl)
theorem dX4_firstOnes_6 : decode cX4_firstOnes 6 = .ok (.if_icmp .ge 31, 3) := dk_162 0 31 (dk_at dksX4_firstOnes_0 6 rfl rfl)
theorem dX4_firstOnes_9 : decode cX4_firstOnes 9 = .ok (.aload_n 0, 1) := dk_42 (dk_at dksX4_firstOnes_0 9 rfl rfl)
theorem dX4_firstOnes_10 : decode cX4_firstOnes 10 = .ok (.iload_n 2, 1) := dk_28 (dk_at dksX4_firstOnes_0 10 rfl rfl)
theorem dX4_firstOnes_11 : decode cX4_firstOnes 11 = .ok (.invokevirtual 86, 3) := dk_182 0 86 (dk_at dksX4_firstOnes_0 11 rfl rfl)
theorem dX4_firstOnes_14 : decode cX4_firstOnes 14 = .ok (.istore 4, 2) := dk_54 4 (dk_at dksX4_firstOnes_0 14 rfl rfl)
theorem dX4_firstOnes_16 : decode cX4_firstOnes 16 = .ok (.iload 4, 2) := dk_21 4 (dk_at dksX4_firstOnes_0 16 rfl rfl)
theorem dX4_firstOnes_18 : decode cX4_firstOnes 18 = .ok (.iconst (-1), 1) := dk_2 (dk_at dksX4_firstOnes_0 18 rfl rfl)
theorem dX4_firstOnes_19 : decode cX4_firstOnes 19 = .ok (.if_icmp .ne 5, 3) := dk_160 0 5 (dk_at dksX4_firstOnes_0 19 rfl rfl)
theorem dX4_firstOnes_22 : decode cX4_firstOnes 22 = .ok (.iload_n 2, 1) := dk_28 (dk_at dksX4_firstOnes_0 22 rfl rfl)
theorem dX4_firstOnes_23 : decode cX4_firstOnes 23 = .ok (.ireturn, 1) := dk_172 (dk_at dksX4_firstOnes_0 23 rfl rfl)
theorem dX4_firstOnes_24 : decode cX4_firstOnes 24 = .ok (.iload_n 2, 1) := dk_28 (dk_at dksX4_firstOnes_1 0 rfl rfl)
theorem dX4_firstOnes_25 : decode cX4_firstOnes 25 = .ok (.iconst 1, 1) := dk_4 (dk_at dksX4_firstOnes_1 1 rfl rfl)
theorem dX4_firstOnes_26 : decode cX4_firstOnes 26 = .ok (.iload 4, 2) := dk_21 4 (dk_at dksX4_firstOnes_1 2 rfl rfl)
theorem dX4_firstOnes_28 : decode cX4_firstOnes 28 = .ok (.ishl, 1) := dk_120 (dk_at dksX4_firstOnes_1 4 rfl rfl)
theorem dX4_firstOnes_29 : decode cX4_firstOnes 29 = .ok (.ior, 1) := dk_128 (dk_at dksX4_firstOnes_1 5 rfl rfl)
theorem dX4_firstOnes_30 : decode cX4_firstOnes 30 = .ok (.istore_n 2, 1) := dk_61 (dk_at dksX4_firstOnes_1 6 rfl rfl)
theorem dX4_firstOnes_31 : decode cX4_firstOnes 31 = .ok (.iinc 3 1, 3) := dk_132 3 1 (dk_at dksX4_firstOnes_1 7 rfl rfl)
theorem dX4_firstOnes_34 : decode cX4_firstOnes 34 = .ok (.goto (-30), 3) := dk_167 255 226 (dk_at dksX4_firstOnes_1 10 rfl rfl)
theorem dX4_firstOnes_37 : decode cX4_firstOnes 37 = .ok (.iload_n 2, 1) := dk_28 (dk_at dksX4_firstOnes_1 13 rfl rfl)
theorem dX4_firstOnes_38 : decode cX4_firstOnes 38 = .ok (.ireturn, 1) := dk_172 (dk_at dksX4_firstOnes_1 14 rfl rfl)
abbrev cX4_nextIn : ByteArray := prog_33_method_17_code
def yX4_nextIn : MethodName := ⟨RX4, "nextIn", "(I)I"⟩
def dkwX4_nextIn_1 : List UInt8 := [182, 0, 83, 153, 0, 5, 28, 172, 132, 2, 1, 167, 255, 224, 2, 172]
abbrev dktX4_nextIn_1 : List UInt8 := dkwX4_nextIn_1 ++ []
def dkwX4_nextIn_0 : List UInt8 := [3, 61, 28, 42, 180, 0, 13, 4, 46, 162, 0, 28, 27, 28, 184, 0, 73, 154, 0, 14, 42, 28, 27]
abbrev dktX4_nextIn_0 : List UInt8 := dkwX4_nextIn_0 ++ dktX4_nextIn_1
theorem dksX4_nextIn_0 : cX4_nextIn.data.toList.drop 0 = dktX4_nextIn_0 := by decide +kernel
theorem dksX4_nextIn_1 : cX4_nextIn.data.toList.drop 23 = dktX4_nextIn_1 := dk_seg dksX4_nextIn_0 23 rfl rfl
theorem dX4_nextIn_0 : decode cX4_nextIn 0 = .ok (.iconst 0, 1) := dk_3 (dk_at dksX4_nextIn_0 0 rfl rfl)
theorem dX4_nextIn_1 : decode cX4_nextIn 1 = .ok (.istore_n 2, 1) := dk_61 (dk_at dksX4_nextIn_0 1 rfl rfl)
theorem dX4_nextIn_2 : decode cX4_nextIn 2 = .ok (.iload_n 2, 1) := dk_28 (dk_at dksX4_nextIn_0 2 rfl rfl)
theorem dX4_nextIn_3 : decode cX4_nextIn 3 = .ok (.aload_n 0, 1) := dk_42 (dk_at dksX4_nextIn_0 3 rfl rfl)
theorem dX4_nextIn_4 : decode cX4_nextIn 4 = .ok (.getfield 13, 3) := dk_180 0 13 (dk_at dksX4_nextIn_0 4 rfl rfl)
theorem dX4_nextIn_7 : decode cX4_nextIn 7 = .ok (.iconst 1, 1) := dk_4 (dk_at dksX4_nextIn_0 7 rfl rfl)
theorem dX4_nextIn_8 : decode cX4_nextIn 8 = .ok (.iaload, 1) := dk_46 (dk_at dksX4_nextIn_0 8 rfl rfl)
theorem dX4_nextIn_9 : decode cX4_nextIn 9 = .ok (.if_icmp .ge 28, 3) := dk_162 0 28 (dk_at dksX4_nextIn_0 9 rfl rfl)
theorem dX4_nextIn_12 : decode cX4_nextIn 12 = .ok (.iload_n 1, 1) := dk_27 (dk_at dksX4_nextIn_0 12 rfl rfl)
theorem dX4_nextIn_13 : decode cX4_nextIn 13 = .ok (.iload_n 2, 1) := dk_28 (dk_at dksX4_nextIn_0 13 rfl rfl)
theorem dX4_nextIn_14 : decode cX4_nextIn 14 = .ok (.invokestatic 73, 3) := dk_184 0 73 (dk_at dksX4_nextIn_0 14 rfl rfl)
theorem dX4_nextIn_17 : decode cX4_nextIn 17 = .ok (.ifCond .ne 14, 3) := dk_154 0 14 (dk_at dksX4_nextIn_0 17 rfl rfl)
theorem dX4_nextIn_20 : decode cX4_nextIn 20 = .ok (.aload_n 0, 1) := dk_42 (dk_at dksX4_nextIn_0 20 rfl rfl)
theorem dX4_nextIn_21 : decode cX4_nextIn 21 = .ok (.iload_n 2, 1) := dk_28 (dk_at dksX4_nextIn_0 21 rfl rfl)
theorem dX4_nextIn_22 : decode cX4_nextIn 22 = .ok (.iload_n 1, 1) := dk_27 (dk_at dksX4_nextIn_0 22 rfl rfl)
theorem dX4_nextIn_23 : decode cX4_nextIn 23 = .ok (.invokevirtual 83, 3) := dk_182 0 83 (dk_at dksX4_nextIn_1 0 rfl rfl)
theorem dX4_nextIn_26 : decode cX4_nextIn 26 = .ok (.ifCond .eq 5, 3) := dk_153 0 5 (dk_at dksX4_nextIn_1 3 rfl rfl)
theorem dX4_nextIn_29 : decode cX4_nextIn 29 = .ok (.iload_n 2, 1) := dk_28 (dk_at dksX4_nextIn_1 6 rfl rfl)
theorem dX4_nextIn_30 : decode cX4_nextIn 30 = .ok (.ireturn, 1) := dk_172 (dk_at dksX4_nextIn_1 7 rfl rfl)
theorem dX4_nextIn_31 : decode cX4_nextIn 31 = .ok (.iinc 2 1, 3) := dk_132 2 1 (dk_at dksX4_nextIn_1 8 rfl rfl)
theorem dX4_nextIn_34 : decode cX4_nextIn 34 = .ok (.goto (-32), 3) := dk_167 255 224 (dk_at dksX4_nextIn_1 11 rfl rfl)
theorem dX4_nextIn_37 : decode cX4_nextIn 37 = .ok (.iconst (-1), 1) := dk_2 (dk_at dksX4_nextIn_1 14 rfl rfl)
theorem dX4_nextIn_38 : decode cX4_nextIn 38 = .ok (.ireturn, 1) := dk_172 (dk_at dksX4_nextIn_1 15 rfl rfl)
abbrev cX4_has : ByteArray := prog_33_method_14_code
def yX4_has : MethodName := ⟨RX4, "has", "(II)Z"⟩
def dkwX4_has_0 : List UInt8 := [26, 27, 122, 4, 126, 4, 160, 0, 7, 4, 167, 0, 4, 3, 172]
abbrev dktX4_has_0 : List UInt8 := dkwX4_has_0 ++ []
theorem dksX4_has_0 : cX4_has.data.toList.drop 0 = dktX4_has_0 := by decide +kernel
theorem dX4_has_0 : decode cX4_has 0 = .ok (.iload_n 0, 1) := dk_26 (dk_at dksX4_has_0 0 rfl rfl)
theorem dX4_has_1 : decode cX4_has 1 = .ok (.iload_n 1, 1) := dk_27 (dk_at dksX4_has_0 1 rfl rfl)
theorem dX4_has_2 : decode cX4_has 2 = .ok (.ishr, 1) := dk_122 (dk_at dksX4_has_0 2 rfl rfl)
theorem dX4_has_3 : decode cX4_has 3 = .ok (.iconst 1, 1) := dk_4 (dk_at dksX4_has_0 3 rfl rfl)
theorem dX4_has_4 : decode cX4_has 4 = .ok (.iand, 1) := dk_126 (dk_at dksX4_has_0 4 rfl rfl)
theorem dX4_has_5 : decode cX4_has 5 = .ok (.iconst 1, 1) := dk_4 (dk_at dksX4_has_0 5 rfl rfl)
theorem dX4_has_6 : decode cX4_has 6 = .ok (.if_icmp .ne 7, 3) := dk_160 0 7 (dk_at dksX4_has_0 6 rfl rfl)
theorem dX4_has_9 : decode cX4_has 9 = .ok (.iconst 1, 1) := dk_4 (dk_at dksX4_has_0 9 rfl rfl)
theorem dX4_has_10 : decode cX4_has 10 = .ok (.goto 4, 3) := dk_167 0 4 (dk_at dksX4_has_0 10 rfl rfl)
theorem dX4_has_13 : decode cX4_has 13 = .ok (.iconst 0, 1) := dk_3 (dk_at dksX4_has_0 13 rfl rfl)
theorem dX4_has_14 : decode cX4_has 14 = .ok (.ireturn, 1) := dk_172 (dk_at dksX4_has_0 14 rfl rfl)
abbrev cX4_fits : ByteArray := prog_33_method_16_code
def yX4_fits : MethodName := ⟨RX4, "fits", "(II)Z"⟩
def dkwX4_fits_1 : List UInt8 := [164, 0, 5, 3, 172, 132, 3, 1, 167, 255, 226, 4, 172]
abbrev dktX4_fits_1 : List UInt8 := dkwX4_fits_1 ++ []
def dkwX4_fits_0 : List UInt8 := [3, 62, 29, 42, 180, 0, 13, 3, 46, 162, 0, 26, 42, 27, 29, 182, 0, 77, 42, 28, 29, 182, 0, 80]
abbrev dktX4_fits_0 : List UInt8 := dkwX4_fits_0 ++ dktX4_fits_1
theorem dksX4_fits_0 : cX4_fits.data.toList.drop 0 = dktX4_fits_0 := by decide +kernel
theorem dksX4_fits_1 : cX4_fits.data.toList.drop 24 = dktX4_fits_1 := dk_seg dksX4_fits_0 24 rfl rfl
theorem dX4_fits_0 : decode cX4_fits 0 = .ok (.iconst 0, 1) := dk_3 (dk_at dksX4_fits_0 0 rfl rfl)
theorem dX4_fits_1 : decode cX4_fits 1 = .ok (.istore_n 3, 1) := dk_62 (dk_at dksX4_fits_0 1 rfl rfl)
theorem dX4_fits_2 : decode cX4_fits 2 = .ok (.iload_n 3, 1) := dk_29 (dk_at dksX4_fits_0 2 rfl rfl)
theorem dX4_fits_3 : decode cX4_fits 3 = .ok (.aload_n 0, 1) := dk_42 (dk_at dksX4_fits_0 3 rfl rfl)
theorem dX4_fits_4 : decode cX4_fits 4 = .ok (.getfield 13, 3) := dk_180 0 13 (dk_at dksX4_fits_0 4 rfl rfl)
theorem dX4_fits_7 : decode cX4_fits 7 = .ok (.iconst 0, 1) := dk_3 (dk_at dksX4_fits_0 7 rfl rfl)
theorem dX4_fits_8 : decode cX4_fits 8 = .ok (.iaload, 1) := dk_46 (dk_at dksX4_fits_0 8 rfl rfl)
theorem dX4_fits_9 : decode cX4_fits 9 = .ok (.if_icmp .ge 26, 3) := dk_162 0 26 (dk_at dksX4_fits_0 9 rfl rfl)
theorem dX4_fits_12 : decode cX4_fits 12 = .ok (.aload_n 0, 1) := dk_42 (dk_at dksX4_fits_0 12 rfl rfl)
theorem dX4_fits_13 : decode cX4_fits 13 = .ok (.iload_n 1, 1) := dk_27 (dk_at dksX4_fits_0 13 rfl rfl)
theorem dX4_fits_14 : decode cX4_fits 14 = .ok (.iload_n 3, 1) := dk_29 (dk_at dksX4_fits_0 14 rfl rfl)
theorem dX4_fits_15 : decode cX4_fits 15 = .ok (.invokevirtual 77, 3) := dk_182 0 77 (dk_at dksX4_fits_0 15 rfl rfl)
theorem dX4_fits_18 : decode cX4_fits 18 = .ok (.aload_n 0, 1) := dk_42 (dk_at dksX4_fits_0 18 rfl rfl)
theorem dX4_fits_19 : decode cX4_fits 19 = .ok (.iload_n 2, 1) := dk_28 (dk_at dksX4_fits_0 19 rfl rfl)
theorem dX4_fits_20 : decode cX4_fits 20 = .ok (.iload_n 3, 1) := dk_29 (dk_at dksX4_fits_0 20 rfl rfl)
theorem dX4_fits_21 : decode cX4_fits 21 = .ok (.invokevirtual 80, 3) := dk_182 0 80 (dk_at dksX4_fits_0 21 rfl rfl)
theorem dX4_fits_24 : decode cX4_fits 24 = .ok (.if_icmp .le 5, 3) := dk_164 0 5 (dk_at dksX4_fits_1 0 rfl rfl)
theorem dX4_fits_27 : decode cX4_fits 27 = .ok (.iconst 0, 1) := dk_3 (dk_at dksX4_fits_1 3 rfl rfl)
theorem dX4_fits_28 : decode cX4_fits 28 = .ok (.ireturn, 1) := dk_172 (dk_at dksX4_fits_1 4 rfl rfl)
theorem dX4_fits_29 : decode cX4_fits 29 = .ok (.iinc 3 1, 3) := dk_132 3 1 (dk_at dksX4_fits_1 5 rfl rfl)
theorem dX4_fits_32 : decode cX4_fits 32 = .ok (.goto (-30), 3) := dk_167 255 226 (dk_at dksX4_fits_1 8 rfl rfl)
theorem dX4_fits_35 : decode cX4_fits 35 = .ok (.iconst 1, 1) := dk_4 (dk_at dksX4_fits_1 11 rfl rfl)
theorem dX4_fits_36 : decode cX4_fits 36 = .ok (.ireturn, 1) := dk_172 (dk_at dksX4_fits_1 12 rfl rfl)
abbrev cX4_needOf : ByteArray := prog_33_method_10_code
def yX4_needOf : MethodName := ⟨RX4, "needOf", "(II)I"⟩
def dkwX4_needOf_0 : List UInt8 := [42, 27, 3, 28, 96, 182, 0, 63, 42, 27, 7, 28, 96, 182, 0, 63, 100, 172]
abbrev dktX4_needOf_0 : List UInt8 := dkwX4_needOf_0 ++ []
theorem dksX4_needOf_0 : cX4_needOf.data.toList.drop 0 = dktX4_needOf_0 := by decide +kernel
theorem dX4_needOf_0 : decode cX4_needOf 0 = .ok (.aload_n 0, 1) := dk_42 (dk_at dksX4_needOf_0 0 rfl rfl)
theorem dX4_needOf_1 : decode cX4_needOf 1 = .ok (.iload_n 1, 1) := dk_27 (dk_at dksX4_needOf_0 1 rfl rfl)
theorem dX4_needOf_2 : decode cX4_needOf 2 = .ok (.iconst 0, 1) := dk_3 (dk_at dksX4_needOf_0 2 rfl rfl)
theorem dX4_needOf_3 : decode cX4_needOf 3 = .ok (.iload_n 2, 1) := dk_28 (dk_at dksX4_needOf_0 3 rfl rfl)
theorem dX4_needOf_4 : decode cX4_needOf 4 = .ok (.iadd, 1) := dk_96 (dk_at dksX4_needOf_0 4 rfl rfl)
theorem dX4_needOf_5 : decode cX4_needOf 5 = .ok (.invokevirtual 63, 3) := dk_182 0 63 (dk_at dksX4_needOf_0 5 rfl rfl)
theorem dX4_needOf_8 : decode cX4_needOf 8 = .ok (.aload_n 0, 1) := dk_42 (dk_at dksX4_needOf_0 8 rfl rfl)
theorem dX4_needOf_9 : decode cX4_needOf 9 = .ok (.iload_n 1, 1) := dk_27 (dk_at dksX4_needOf_0 9 rfl rfl)
theorem dX4_needOf_10 : decode cX4_needOf 10 = .ok (.iconst 4, 1) := dk_7 (dk_at dksX4_needOf_0 10 rfl rfl)
theorem dX4_needOf_11 : decode cX4_needOf 11 = .ok (.iload_n 2, 1) := dk_28 (dk_at dksX4_needOf_0 11 rfl rfl)
theorem dX4_needOf_12 : decode cX4_needOf 12 = .ok (.iadd, 1) := dk_96 (dk_at dksX4_needOf_0 12 rfl rfl)
theorem dX4_needOf_13 : decode cX4_needOf 13 = .ok (.invokevirtual 63, 3) := dk_182 0 63 (dk_at dksX4_needOf_0 13 rfl rfl)
theorem dX4_needOf_16 : decode cX4_needOf 16 = .ok (.isub, 1) := dk_100 (dk_at dksX4_needOf_0 16 rfl rfl)
theorem dX4_needOf_17 : decode cX4_needOf 17 = .ok (.ireturn, 1) := dk_172 (dk_at dksX4_needOf_0 17 rfl rfl)
abbrev cX4_freeAfter : ByteArray := prog_33_method_15_code
def yX4_freeAfter : MethodName := ⟨RX4, "freeAfter", "(II)I"⟩
def dkwX4_freeAfter_2 : List UInt8 := [167, 255, 217, 29, 172]
abbrev dktX4_freeAfter_2 : List UInt8 := dkwX4_freeAfter_2 ++ []
def dkwX4_freeAfter_1 : List UInt8 := [184, 0, 73, 153, 0, 15, 42, 21, 4, 7, 28, 96, 182, 0, 63, 167, 0, 4, 3, 96, 62, 132, 4, 1]
abbrev dktX4_freeAfter_1 : List UInt8 := dkwX4_freeAfter_1 ++ dktX4_freeAfter_2
def dkwX4_freeAfter_0 : List UInt8 := [42, 28, 182, 0, 70, 62, 3, 54, 4, 21, 4, 42, 180, 0, 13, 4, 46, 162, 0, 34, 29, 27, 21, 4]
abbrev dktX4_freeAfter_0 : List UInt8 := dkwX4_freeAfter_0 ++ dktX4_freeAfter_1
theorem dksX4_freeAfter_0 : cX4_freeAfter.data.toList.drop 0 = dktX4_freeAfter_0 := by decide +kernel
theorem dksX4_freeAfter_1 : cX4_freeAfter.data.toList.drop 24 = dktX4_freeAfter_1 := dk_seg dksX4_freeAfter_0 24 rfl rfl
theorem dksX4_freeAfter_2 : cX4_freeAfter.data.toList.drop 48 = dktX4_freeAfter_2 := dk_seg dksX4_freeAfter_1 24 rfl rfl
theorem dX4_freeAfter_0 : decode cX4_freeAfter 0 = .ok (.aload_n 0, 1) := dk_42 (dk_at dksX4_freeAfter_0 0 rfl rfl)
theorem dX4_freeAfter_1 : decode cX4_freeAfter 1 = .ok (.iload_n 2, 1) := dk_28 (dk_at dksX4_freeAfter_0 1 rfl rfl)
theorem dX4_freeAfter_2 : decode cX4_freeAfter 2 = .ok (.invokevirtual 70, 3) := dk_182 0 70 (dk_at dksX4_freeAfter_0 2 rfl rfl)
theorem dX4_freeAfter_5 : decode cX4_freeAfter 5 = .ok (.istore_n 3, 1) := dk_62 (dk_at dksX4_freeAfter_0 5 rfl rfl)
theorem dX4_freeAfter_6 : decode cX4_freeAfter 6 = .ok (.iconst 0, 1) := dk_3 (dk_at dksX4_freeAfter_0 6 rfl rfl)
theorem dX4_freeAfter_7 : decode cX4_freeAfter 7 = .ok (.istore 4, 2) := dk_54 4 (dk_at dksX4_freeAfter_0 7 rfl rfl)
theorem dX4_freeAfter_9 : decode cX4_freeAfter 9 = .ok (.iload 4, 2) := dk_21 4 (dk_at dksX4_freeAfter_0 9 rfl rfl)
theorem dX4_freeAfter_11 : decode cX4_freeAfter 11 = .ok (.aload_n 0, 1) := dk_42 (dk_at dksX4_freeAfter_0 11 rfl rfl)
theorem dX4_freeAfter_12 : decode cX4_freeAfter 12 = .ok (.getfield 13, 3) := dk_180 0 13 (dk_at dksX4_freeAfter_0 12 rfl rfl)
theorem dX4_freeAfter_15 : decode cX4_freeAfter 15 = .ok (.iconst 1, 1) := dk_4 (dk_at dksX4_freeAfter_0 15 rfl rfl)
theorem dX4_freeAfter_16 : decode cX4_freeAfter 16 = .ok (.iaload, 1) := dk_46 (dk_at dksX4_freeAfter_0 16 rfl rfl)
theorem dX4_freeAfter_17 : decode cX4_freeAfter 17 = .ok (.if_icmp .ge 34, 3) := dk_162 0 34 (dk_at dksX4_freeAfter_0 17 rfl rfl)
theorem dX4_freeAfter_20 : decode cX4_freeAfter 20 = .ok (.iload_n 3, 1) := dk_29 (dk_at dksX4_freeAfter_0 20 rfl rfl)
theorem dX4_freeAfter_21 : decode cX4_freeAfter 21 = .ok (.iload_n 1, 1) := dk_27 (dk_at dksX4_freeAfter_0 21 rfl rfl)
theorem dX4_freeAfter_22 : decode cX4_freeAfter 22 = .ok (.iload 4, 2) := dk_21 4 (dk_at dksX4_freeAfter_0 22 rfl rfl)
theorem dX4_freeAfter_24 : decode cX4_freeAfter 24 = .ok (.invokestatic 73, 3) := dk_184 0 73 (dk_at dksX4_freeAfter_1 0 rfl rfl)
theorem dX4_freeAfter_27 : decode cX4_freeAfter 27 = .ok (.ifCond .eq 15, 3) := dk_153 0 15 (dk_at dksX4_freeAfter_1 3 rfl rfl)
theorem dX4_freeAfter_30 : decode cX4_freeAfter 30 = .ok (.aload_n 0, 1) := dk_42 (dk_at dksX4_freeAfter_1 6 rfl rfl)
theorem dX4_freeAfter_31 : decode cX4_freeAfter 31 = .ok (.iload 4, 2) := dk_21 4 (dk_at dksX4_freeAfter_1 7 rfl rfl)
theorem dX4_freeAfter_33 : decode cX4_freeAfter 33 = .ok (.iconst 4, 1) := dk_7 (dk_at dksX4_freeAfter_1 9 rfl rfl)
theorem dX4_freeAfter_34 : decode cX4_freeAfter 34 = .ok (.iload_n 2, 1) := dk_28 (dk_at dksX4_freeAfter_1 10 rfl rfl)
theorem dX4_freeAfter_35 : decode cX4_freeAfter 35 = .ok (.iadd, 1) := dk_96 (dk_at dksX4_freeAfter_1 11 rfl rfl)
theorem dX4_freeAfter_36 : decode cX4_freeAfter 36 = .ok (.invokevirtual 63, 3) := dk_182 0 63 (dk_at dksX4_freeAfter_1 12 rfl rfl)
theorem dX4_freeAfter_39 : decode cX4_freeAfter 39 = .ok (.goto 4, 3) := dk_167 0 4 (dk_at dksX4_freeAfter_1 15 rfl rfl)
theorem dX4_freeAfter_42 : decode cX4_freeAfter 42 = .ok (.iconst 0, 1) := dk_3 (dk_at dksX4_freeAfter_1 18 rfl rfl)
theorem dX4_freeAfter_43 : decode cX4_freeAfter 43 = .ok (.iadd, 1) := dk_96 (dk_at dksX4_freeAfter_1 19 rfl rfl)
theorem dX4_freeAfter_44 : decode cX4_freeAfter 44 = .ok (.istore_n 3, 1) := dk_62 (dk_at dksX4_freeAfter_1 20 rfl rfl)
theorem dX4_freeAfter_45 : decode cX4_freeAfter 45 = .ok (.iinc 4 1, 3) := dk_132 4 1 (dk_at dksX4_freeAfter_1 21 rfl rfl)
theorem dX4_freeAfter_48 : decode cX4_freeAfter 48 = .ok (.goto (-39), 3) := dk_167 255 217 (dk_at dksX4_freeAfter_2 0 rfl rfl)
theorem dX4_freeAfter_51 : decode cX4_freeAfter 51 = .ok (.iload_n 3, 1) := dk_29 (dk_at dksX4_freeAfter_2 3 rfl rfl)
theorem dX4_freeAfter_52 : decode cX4_freeAfter 52 = .ok (.ireturn, 1) := dk_172 (dk_at dksX4_freeAfter_2 4 rfl rfl)
abbrev cX4_appendText : ByteArray := prog_33_method_44_code
def yX4_appendText : MethodName := ⟨RX4, "appendText", "(IIIII)I"⟩
def dkwX4_appendText_2 : List UInt8 := [182, 0, 165, 42, 180, 0, 56, 172]
abbrev dktX4_appendText_2 : List UInt8 := dkwX4_appendText_2 ++ []
def dkwX4_appendText_1 : List UInt8 := [182, 0, 165, 42, 28, 182, 0, 165, 42, 29, 182, 0, 165, 42, 21, 4, 182, 0, 165, 42, 21, 5]
abbrev dktX4_appendText_1 : List UInt8 := dkwX4_appendText_1 ++ dktX4_appendText_2
def dkwX4_appendText_0 : List UInt8 := [42, 3, 181, 0, 1, 42, 180, 0, 56, 16, 20, 96, 17, 1, 244, 164, 0, 5, 2, 172, 42, 27]
abbrev dktX4_appendText_0 : List UInt8 := dkwX4_appendText_0 ++ dktX4_appendText_1
theorem dksX4_appendText_0 : cX4_appendText.data.toList.drop 0 = dktX4_appendText_0 := by decide +kernel
theorem dksX4_appendText_1 : cX4_appendText.data.toList.drop 22 = dktX4_appendText_1 := dk_seg dksX4_appendText_0 22 rfl rfl
theorem dksX4_appendText_2 : cX4_appendText.data.toList.drop 44 = dktX4_appendText_2 := dk_seg dksX4_appendText_1 22 rfl rfl
theorem dX4_appendText_0 : decode cX4_appendText 0 = .ok (.aload_n 0, 1) := dk_42 (dk_at dksX4_appendText_0 0 rfl rfl)
theorem dX4_appendText_1 : decode cX4_appendText 1 = .ok (.iconst 0, 1) := dk_3 (dk_at dksX4_appendText_0 1 rfl rfl)
theorem dX4_appendText_2 : decode cX4_appendText 2 = .ok (.putfield 1, 3) := dk_181 0 1 (dk_at dksX4_appendText_0 2 rfl rfl)
theorem dX4_appendText_5 : decode cX4_appendText 5 = .ok (.aload_n 0, 1) := dk_42 (dk_at dksX4_appendText_0 5 rfl rfl)
theorem dX4_appendText_6 : decode cX4_appendText 6 = .ok (.getfield 56, 3) := dk_180 0 56 (dk_at dksX4_appendText_0 6 rfl rfl)
theorem dX4_appendText_9 : decode cX4_appendText 9 = .ok (.bipush 20, 2) := dk_16 20 (dk_at dksX4_appendText_0 9 rfl rfl)
theorem dX4_appendText_11 : decode cX4_appendText 11 = .ok (.iadd, 1) := dk_96 (dk_at dksX4_appendText_0 11 rfl rfl)
theorem dX4_appendText_12 : decode cX4_appendText 12 = .ok (.sipush 500, 3) := dk_17 1 244 (dk_at dksX4_appendText_0 12 rfl rfl)
theorem dX4_appendText_15 : decode cX4_appendText 15 = .ok (.if_icmp .le 5, 3) := dk_164 0 5 (dk_at dksX4_appendText_0 15 rfl rfl)
theorem dX4_appendText_18 : decode cX4_appendText 18 = .ok (.iconst (-1), 1) := dk_2 (dk_at dksX4_appendText_0 18 rfl rfl)
theorem dX4_appendText_19 : decode cX4_appendText 19 = .ok (.ireturn, 1) := dk_172 (dk_at dksX4_appendText_0 19 rfl rfl)
theorem dX4_appendText_20 : decode cX4_appendText 20 = .ok (.aload_n 0, 1) := dk_42 (dk_at dksX4_appendText_0 20 rfl rfl)
theorem dX4_appendText_21 : decode cX4_appendText 21 = .ok (.iload_n 1, 1) := dk_27 (dk_at dksX4_appendText_0 21 rfl rfl)
theorem dX4_appendText_22 : decode cX4_appendText 22 = .ok (.invokevirtual 165, 3) := dk_182 0 165 (dk_at dksX4_appendText_1 0 rfl rfl)
theorem dX4_appendText_25 : decode cX4_appendText 25 = .ok (.aload_n 0, 1) := dk_42 (dk_at dksX4_appendText_1 3 rfl rfl)
theorem dX4_appendText_26 : decode cX4_appendText 26 = .ok (.iload_n 2, 1) := dk_28 (dk_at dksX4_appendText_1 4 rfl rfl)
theorem dX4_appendText_27 : decode cX4_appendText 27 = .ok (.invokevirtual 165, 3) := dk_182 0 165 (dk_at dksX4_appendText_1 5 rfl rfl)
theorem dX4_appendText_30 : decode cX4_appendText 30 = .ok (.aload_n 0, 1) := dk_42 (dk_at dksX4_appendText_1 8 rfl rfl)
theorem dX4_appendText_31 : decode cX4_appendText 31 = .ok (.iload_n 3, 1) := dk_29 (dk_at dksX4_appendText_1 9 rfl rfl)
theorem dX4_appendText_32 : decode cX4_appendText 32 = .ok (.invokevirtual 165, 3) := dk_182 0 165 (dk_at dksX4_appendText_1 10 rfl rfl)
theorem dX4_appendText_35 : decode cX4_appendText 35 = .ok (.aload_n 0, 1) := dk_42 (dk_at dksX4_appendText_1 13 rfl rfl)
theorem dX4_appendText_36 : decode cX4_appendText 36 = .ok (.iload 4, 2) := dk_21 4 (dk_at dksX4_appendText_1 14 rfl rfl)
theorem dX4_appendText_38 : decode cX4_appendText 38 = .ok (.invokevirtual 165, 3) := dk_182 0 165 (dk_at dksX4_appendText_1 16 rfl rfl)
theorem dX4_appendText_41 : decode cX4_appendText 41 = .ok (.aload_n 0, 1) := dk_42 (dk_at dksX4_appendText_1 19 rfl rfl)
theorem dX4_appendText_42 : decode cX4_appendText 42 = .ok (.iload 5, 2) := dk_21 5 (dk_at dksX4_appendText_1 20 rfl rfl)
theorem dX4_appendText_44 : decode cX4_appendText 44 = .ok (.invokevirtual 165, 3) := dk_182 0 165 (dk_at dksX4_appendText_2 0 rfl rfl)
theorem dX4_appendText_47 : decode cX4_appendText 47 = .ok (.aload_n 0, 1) := dk_42 (dk_at dksX4_appendText_2 3 rfl rfl)
theorem dX4_appendText_48 : decode cX4_appendText 48 = .ok (.getfield 56, 3) := dk_180 0 56 (dk_at dksX4_appendText_2 4 rfl rfl)
theorem dX4_appendText_51 : decode cX4_appendText 51 = .ok (.ireturn, 1) := dk_172 (dk_at dksX4_appendText_2 7 rfl rfl)
abbrev cX4_bytes : ByteArray := prog_33_method_43_code
def yX4_bytes : MethodName := ⟨RX4, "bytes", "(I)V"⟩
def dkwX4_bytes_1 : List UInt8 := [89, 180, 0, 56, 4, 96, 181, 0, 56, 132, 2, 248, 167, 255, 223, 177]
abbrev dktX4_bytes_1 : List UInt8 := dkwX4_bytes_1 ++ []
def dkwX4_bytes_0 : List UInt8 := [16, 24, 61, 28, 155, 0, 35, 42, 180, 0, 32, 42, 180, 0, 56, 27, 28, 122, 17, 0, 255, 126, 79, 42]
abbrev dktX4_bytes_0 : List UInt8 := dkwX4_bytes_0 ++ dktX4_bytes_1
theorem dksX4_bytes_0 : cX4_bytes.data.toList.drop 0 = dktX4_bytes_0 := by decide +kernel
theorem dksX4_bytes_1 : cX4_bytes.data.toList.drop 24 = dktX4_bytes_1 := dk_seg dksX4_bytes_0 24 rfl rfl
theorem dX4_bytes_0 : decode cX4_bytes 0 = .ok (.bipush 24, 2) := dk_16 24 (dk_at dksX4_bytes_0 0 rfl rfl)
theorem dX4_bytes_2 : decode cX4_bytes 2 = .ok (.istore_n 2, 1) := dk_61 (dk_at dksX4_bytes_0 2 rfl rfl)
theorem dX4_bytes_3 : decode cX4_bytes 3 = .ok (.iload_n 2, 1) := dk_28 (dk_at dksX4_bytes_0 3 rfl rfl)
theorem dX4_bytes_4 : decode cX4_bytes 4 = .ok (.ifCond .lt 35, 3) := dk_155 0 35 (dk_at dksX4_bytes_0 4 rfl rfl)
theorem dX4_bytes_7 : decode cX4_bytes 7 = .ok (.aload_n 0, 1) := dk_42 (dk_at dksX4_bytes_0 7 rfl rfl)
theorem dX4_bytes_8 : decode cX4_bytes 8 = .ok (.getfield 32, 3) := dk_180 0 32 (dk_at dksX4_bytes_0 8 rfl rfl)
theorem dX4_bytes_11 : decode cX4_bytes 11 = .ok (.aload_n 0, 1) := dk_42 (dk_at dksX4_bytes_0 11 rfl rfl)
theorem dX4_bytes_12 : decode cX4_bytes 12 = .ok (.getfield 56, 3) := dk_180 0 56 (dk_at dksX4_bytes_0 12 rfl rfl)
theorem dX4_bytes_15 : decode cX4_bytes 15 = .ok (.iload_n 1, 1) := dk_27 (dk_at dksX4_bytes_0 15 rfl rfl)
theorem dX4_bytes_16 : decode cX4_bytes 16 = .ok (.iload_n 2, 1) := dk_28 (dk_at dksX4_bytes_0 16 rfl rfl)
theorem dX4_bytes_17 : decode cX4_bytes 17 = .ok (.ishr, 1) := dk_122 (dk_at dksX4_bytes_0 17 rfl rfl)
theorem dX4_bytes_18 : decode cX4_bytes 18 = .ok (.sipush 255, 3) := dk_17 0 255 (dk_at dksX4_bytes_0 18 rfl rfl)
theorem dX4_bytes_21 : decode cX4_bytes 21 = .ok (.iand, 1) := dk_126 (dk_at dksX4_bytes_0 21 rfl rfl)
theorem dX4_bytes_22 : decode cX4_bytes 22 = .ok (.iastore, 1) := dk_79 (dk_at dksX4_bytes_0 22 rfl rfl)
theorem dX4_bytes_23 : decode cX4_bytes 23 = .ok (.aload_n 0, 1) := dk_42 (dk_at dksX4_bytes_0 23 rfl rfl)
theorem dX4_bytes_24 : decode cX4_bytes 24 = .ok (.dup, 1) := dk_89 (dk_at dksX4_bytes_1 0 rfl rfl)
theorem dX4_bytes_25 : decode cX4_bytes 25 = .ok (.getfield 56, 3) := dk_180 0 56 (dk_at dksX4_bytes_1 1 rfl rfl)
theorem dX4_bytes_28 : decode cX4_bytes 28 = .ok (.iconst 1, 1) := dk_4 (dk_at dksX4_bytes_1 4 rfl rfl)
theorem dX4_bytes_29 : decode cX4_bytes 29 = .ok (.iadd, 1) := dk_96 (dk_at dksX4_bytes_1 5 rfl rfl)
theorem dX4_bytes_30 : decode cX4_bytes 30 = .ok (.putfield 56, 3) := dk_181 0 56 (dk_at dksX4_bytes_1 6 rfl rfl)
theorem dX4_bytes_33 : decode cX4_bytes 33 = .ok (.iinc 2 (-8), 3) := dk_132 2 248 (dk_at dksX4_bytes_1 9 rfl rfl)
theorem dX4_bytes_36 : decode cX4_bytes 36 = .ok (.goto (-33), 3) := dk_167 255 223 (dk_at dksX4_bytes_1 12 rfl rfl)
theorem dX4_bytes_39 : decode cX4_bytes 39 = .ok (.return_, 1) := dk_177 (dk_at dksX4_bytes_1 15 rfl rfl)
abbrev cX4_errorCode : ByteArray := prog_33_method_45_code
def yX4_errorCode : MethodName := ⟨RX4, "errorCode", "()I"⟩
def dkwX4_errorCode_0 : List UInt8 := [42, 3, 181, 0, 1, 42, 180, 0, 168, 172]
abbrev dktX4_errorCode_0 : List UInt8 := dkwX4_errorCode_0 ++ []
theorem dksX4_errorCode_0 : cX4_errorCode.data.toList.drop 0 = dktX4_errorCode_0 := by decide +kernel
theorem dX4_errorCode_0 : decode cX4_errorCode 0 = .ok (.aload_n 0, 1) := dk_42 (dk_at dksX4_errorCode_0 0 rfl rfl)
theorem dX4_errorCode_1 : decode cX4_errorCode 1 = .ok (.iconst 0, 1) := dk_3 (dk_at dksX4_errorCode_0 1 rfl rfl)
theorem dX4_errorCode_2 : decode cX4_errorCode 2 = .ok (.putfield 1, 3) := dk_181 0 1 (dk_at dksX4_errorCode_0 2 rfl rfl)
theorem dX4_errorCode_5 : decode cX4_errorCode 5 = .ok (.aload_n 0, 1) := dk_42 (dk_at dksX4_errorCode_0 5 rfl rfl)
theorem dX4_errorCode_6 : decode cX4_errorCode 6 = .ok (.getfield 168, 3) := dk_180 0 168 (dk_at dksX4_errorCode_0 6 rfl rfl)
theorem dX4_errorCode_9 : decode cX4_errorCode 9 = .ok (.ireturn, 1) := dk_172 (dk_at dksX4_errorCode_0 9 rfl rfl)
abbrev cX4_errorOffset : ByteArray := prog_33_method_46_code
def yX4_errorOffset : MethodName := ⟨RX4, "errorOffset", "()I"⟩
def dkwX4_errorOffset_0 : List UInt8 := [42, 3, 181, 0, 1, 42, 180, 0, 35, 172]
abbrev dktX4_errorOffset_0 : List UInt8 := dkwX4_errorOffset_0 ++ []
theorem dksX4_errorOffset_0 : cX4_errorOffset.data.toList.drop 0 = dktX4_errorOffset_0 := by decide +kernel
theorem dX4_errorOffset_0 : decode cX4_errorOffset 0 = .ok (.aload_n 0, 1) := dk_42 (dk_at dksX4_errorOffset_0 0 rfl rfl)
theorem dX4_errorOffset_1 : decode cX4_errorOffset 1 = .ok (.iconst 0, 1) := dk_3 (dk_at dksX4_errorOffset_0 1 rfl rfl)
theorem dX4_errorOffset_2 : decode cX4_errorOffset 2 = .ok (.putfield 1, 3) := dk_181 0 1 (dk_at dksX4_errorOffset_0 2 rfl rfl)
theorem dX4_errorOffset_5 : decode cX4_errorOffset 5 = .ok (.aload_n 0, 1) := dk_42 (dk_at dksX4_errorOffset_0 5 rfl rfl)
theorem dX4_errorOffset_6 : decode cX4_errorOffset 6 = .ok (.getfield 35, 3) := dk_180 0 35 (dk_at dksX4_errorOffset_0 6 rfl rfl)
theorem dX4_errorOffset_9 : decode cX4_errorOffset 9 = .ok (.ireturn, 1) := dk_172 (dk_at dksX4_errorOffset_0 9 rfl rfl)
abbrev cX4_kindCount : ByteArray := prog_33_method_65_code
def yX4_kindCount : MethodName := ⟨RX4, "kindCount", "()I"⟩
def dkwX4_kindCount_0 : List UInt8 := [42, 3, 181, 0, 1, 42, 180, 0, 13, 3, 46, 172]
abbrev dktX4_kindCount_0 : List UInt8 := dkwX4_kindCount_0 ++ []
theorem dksX4_kindCount_0 : cX4_kindCount.data.toList.drop 0 = dktX4_kindCount_0 := by decide +kernel
theorem dX4_kindCount_0 : decode cX4_kindCount 0 = .ok (.aload_n 0, 1) := dk_42 (dk_at dksX4_kindCount_0 0 rfl rfl)
theorem dX4_kindCount_1 : decode cX4_kindCount 1 = .ok (.iconst 0, 1) := dk_3 (dk_at dksX4_kindCount_0 1 rfl rfl)
theorem dX4_kindCount_2 : decode cX4_kindCount 2 = .ok (.putfield 1, 3) := dk_181 0 1 (dk_at dksX4_kindCount_0 2 rfl rfl)
theorem dX4_kindCount_5 : decode cX4_kindCount 5 = .ok (.aload_n 0, 1) := dk_42 (dk_at dksX4_kindCount_0 5 rfl rfl)
theorem dX4_kindCount_6 : decode cX4_kindCount 6 = .ok (.getfield 13, 3) := dk_180 0 13 (dk_at dksX4_kindCount_0 6 rfl rfl)
theorem dX4_kindCount_9 : decode cX4_kindCount 9 = .ok (.iconst 0, 1) := dk_3 (dk_at dksX4_kindCount_0 9 rfl rfl)
theorem dX4_kindCount_10 : decode cX4_kindCount 10 = .ok (.iaload, 1) := dk_46 (dk_at dksX4_kindCount_0 10 rfl rfl)
theorem dX4_kindCount_11 : decode cX4_kindCount 11 = .ok (.ireturn, 1) := dk_172 (dk_at dksX4_kindCount_0 11 rfl rfl)
abbrev cX4_total : ByteArray := prog_33_method_66_code
def yX4_total : MethodName := ⟨RX4, "total", "(I)I"⟩
def dkwX4_total_1 : List UInt8 := [96, 46, 172]
abbrev dktX4_total_1 : List UInt8 := dkwX4_total_1 ++ []
def dkwX4_total_0 : List UInt8 := [42, 3, 181, 0, 1, 42, 27, 182, 1, 6, 153, 0, 7, 3, 167, 0, 12, 42, 180, 0, 13, 16, 9, 27]
abbrev dktX4_total_0 : List UInt8 := dkwX4_total_0 ++ dktX4_total_1
theorem dksX4_total_0 : cX4_total.data.toList.drop 0 = dktX4_total_0 := by decide +kernel
theorem dksX4_total_1 : cX4_total.data.toList.drop 24 = dktX4_total_1 := dk_seg dksX4_total_0 24 rfl rfl
theorem dX4_total_0 : decode cX4_total 0 = .ok (.aload_n 0, 1) := dk_42 (dk_at dksX4_total_0 0 rfl rfl)
theorem dX4_total_1 : decode cX4_total 1 = .ok (.iconst 0, 1) := dk_3 (dk_at dksX4_total_0 1 rfl rfl)
theorem dX4_total_2 : decode cX4_total 2 = .ok (.putfield 1, 3) := dk_181 0 1 (dk_at dksX4_total_0 2 rfl rfl)
theorem dX4_total_5 : decode cX4_total 5 = .ok (.aload_n 0, 1) := dk_42 (dk_at dksX4_total_0 5 rfl rfl)
theorem dX4_total_6 : decode cX4_total 6 = .ok (.iload_n 1, 1) := dk_27 (dk_at dksX4_total_0 6 rfl rfl)
theorem dX4_total_7 : decode cX4_total 7 = .ok (.invokevirtual 262, 3) := dk_182 1 6 (dk_at dksX4_total_0 7 rfl rfl)
theorem dX4_total_10 : decode cX4_total 10 = .ok (.ifCond .eq 7, 3) := dk_153 0 7 (dk_at dksX4_total_0 10 rfl rfl)
theorem dX4_total_13 : decode cX4_total 13 = .ok (.iconst 0, 1) := dk_3 (dk_at dksX4_total_0 13 rfl rfl)
theorem dX4_total_14 : decode cX4_total 14 = .ok (.goto 12, 3) := dk_167 0 12 (dk_at dksX4_total_0 14 rfl rfl)
theorem dX4_total_17 : decode cX4_total 17 = .ok (.aload_n 0, 1) := dk_42 (dk_at dksX4_total_0 17 rfl rfl)
theorem dX4_total_18 : decode cX4_total 18 = .ok (.getfield 13, 3) := dk_180 0 13 (dk_at dksX4_total_0 18 rfl rfl)
theorem dX4_total_21 : decode cX4_total 21 = .ok (.bipush 9, 2) := dk_16 9 (dk_at dksX4_total_0 21 rfl rfl)
theorem dX4_total_23 : decode cX4_total 23 = .ok (.iload_n 1, 1) := dk_27 (dk_at dksX4_total_0 23 rfl rfl)
theorem dX4_total_24 : decode cX4_total 24 = .ok (.iadd, 1) := dk_96 (dk_at dksX4_total_1 0 rfl rfl)
theorem dX4_total_25 : decode cX4_total 25 = .ok (.iaload, 1) := dk_46 (dk_at dksX4_total_1 1 rfl rfl)
theorem dX4_total_26 : decode cX4_total 26 = .ok (.ireturn, 1) := dk_172 (dk_at dksX4_total_1 2 rfl rfl)
abbrev cX4_noKind : ByteArray := prog_33_method_64_code
def yX4_noKind : MethodName := ⟨RX4, "noKind", "(I)Z"⟩
def dkwX4_noKind_0 : List UInt8 := [42, 27, 3, 42, 180, 0, 13, 3, 46, 4, 100, 184, 0, 209, 4, 182, 0, 241, 172]
abbrev dktX4_noKind_0 : List UInt8 := dkwX4_noKind_0 ++ []
theorem dksX4_noKind_0 : cX4_noKind.data.toList.drop 0 = dktX4_noKind_0 := by decide +kernel
theorem dX4_noKind_0 : decode cX4_noKind 0 = .ok (.aload_n 0, 1) := dk_42 (dk_at dksX4_noKind_0 0 rfl rfl)
theorem dX4_noKind_1 : decode cX4_noKind 1 = .ok (.iload_n 1, 1) := dk_27 (dk_at dksX4_noKind_0 1 rfl rfl)
theorem dX4_noKind_2 : decode cX4_noKind 2 = .ok (.iconst 0, 1) := dk_3 (dk_at dksX4_noKind_0 2 rfl rfl)
theorem dX4_noKind_3 : decode cX4_noKind 3 = .ok (.aload_n 0, 1) := dk_42 (dk_at dksX4_noKind_0 3 rfl rfl)
theorem dX4_noKind_4 : decode cX4_noKind 4 = .ok (.getfield 13, 3) := dk_180 0 13 (dk_at dksX4_noKind_0 4 rfl rfl)
theorem dX4_noKind_7 : decode cX4_noKind 7 = .ok (.iconst 0, 1) := dk_3 (dk_at dksX4_noKind_0 7 rfl rfl)
theorem dX4_noKind_8 : decode cX4_noKind 8 = .ok (.iaload, 1) := dk_46 (dk_at dksX4_noKind_0 8 rfl rfl)
theorem dX4_noKind_9 : decode cX4_noKind 9 = .ok (.iconst 1, 1) := dk_4 (dk_at dksX4_noKind_0 9 rfl rfl)
theorem dX4_noKind_10 : decode cX4_noKind 10 = .ok (.isub, 1) := dk_100 (dk_at dksX4_noKind_0 10 rfl rfl)
theorem dX4_noKind_11 : decode cX4_noKind 11 = .ok (.invokestatic 209, 3) := dk_184 0 209 (dk_at dksX4_noKind_0 11 rfl rfl)
theorem dX4_noKind_14 : decode cX4_noKind 14 = .ok (.iconst 1, 1) := dk_4 (dk_at dksX4_noKind_0 14 rfl rfl)
theorem dX4_noKind_15 : decode cX4_noKind 15 = .ok (.invokevirtual 241, 3) := dk_182 0 241 (dk_at dksX4_noKind_0 15 rfl rfl)
theorem dX4_noKind_18 : decode cX4_noKind 18 = .ok (.ireturn, 1) := dk_172 (dk_at dksX4_noKind_0 18 rfl rfl)
abbrev cX4_available : ByteArray := prog_33_method_67_code
def yX4_available : MethodName := ⟨RX4, "available", "(I)I"⟩
def dkwX4_available_0 : List UInt8 := [42, 3, 181, 0, 1, 42, 27, 182, 1, 6, 153, 0, 7, 3, 167, 0, 8, 42, 27, 182, 0, 70, 172]
abbrev dktX4_available_0 : List UInt8 := dkwX4_available_0 ++ []
theorem dksX4_available_0 : cX4_available.data.toList.drop 0 = dktX4_available_0 := by decide +kernel
theorem dX4_available_0 : decode cX4_available 0 = .ok (.aload_n 0, 1) := dk_42 (dk_at dksX4_available_0 0 rfl rfl)
theorem dX4_available_1 : decode cX4_available 1 = .ok (.iconst 0, 1) := dk_3 (dk_at dksX4_available_0 1 rfl rfl)
theorem dX4_available_2 : decode cX4_available 2 = .ok (.putfield 1, 3) := dk_181 0 1 (dk_at dksX4_available_0 2 rfl rfl)
theorem dX4_available_5 : decode cX4_available 5 = .ok (.aload_n 0, 1) := dk_42 (dk_at dksX4_available_0 5 rfl rfl)
theorem dX4_available_6 : decode cX4_available 6 = .ok (.iload_n 1, 1) := dk_27 (dk_at dksX4_available_0 6 rfl rfl)
theorem dX4_available_7 : decode cX4_available 7 = .ok (.invokevirtual 262, 3) := dk_182 1 6 (dk_at dksX4_available_0 7 rfl rfl)
theorem dX4_available_10 : decode cX4_available 10 = .ok (.ifCond .eq 7, 3) := dk_153 0 7 (dk_at dksX4_available_0 10 rfl rfl)
theorem dX4_available_13 : decode cX4_available 13 = .ok (.iconst 0, 1) := dk_3 (dk_at dksX4_available_0 13 rfl rfl)
theorem dX4_available_14 : decode cX4_available 14 = .ok (.goto 8, 3) := dk_167 0 8 (dk_at dksX4_available_0 14 rfl rfl)
theorem dX4_available_17 : decode cX4_available 17 = .ok (.aload_n 0, 1) := dk_42 (dk_at dksX4_available_0 17 rfl rfl)
theorem dX4_available_18 : decode cX4_available 18 = .ok (.iload_n 1, 1) := dk_27 (dk_at dksX4_available_0 18 rfl rfl)
theorem dX4_available_19 : decode cX4_available 19 = .ok (.invokevirtual 70, 3) := dk_182 0 70 (dk_at dksX4_available_0 19 rfl rfl)
theorem dX4_available_22 : decode cX4_available 22 = .ok (.ireturn, 1) := dk_172 (dk_at dksX4_available_0 22 rfl rfl)
abbrev cX4_claimedInAll : ByteArray := prog_33_method_68_code
def yX4_claimedInAll : MethodName := ⟨RX4, "claimedInAll", "(I)I"⟩
def dkwX4_claimedInAll_1 : List UInt8 := [4, 46, 162, 0, 20, 28, 42, 29, 3, 27, 96, 182, 0, 63, 96, 61, 132, 3, 1, 167, 255, 232, 28, 172]
abbrev dktX4_claimedInAll_1 : List UInt8 := dkwX4_claimedInAll_1 ++ []
def dkwX4_claimedInAll_0 : List UInt8 := [42, 3, 181, 0, 1, 42, 27, 182, 1, 6, 153, 0, 5, 3, 172, 3, 61, 3, 62, 29, 42, 180, 0, 13]
abbrev dktX4_claimedInAll_0 : List UInt8 := dkwX4_claimedInAll_0 ++ dktX4_claimedInAll_1
theorem dksX4_claimedInAll_0 : cX4_claimedInAll.data.toList.drop 0 = dktX4_claimedInAll_0 := by decide +kernel
theorem dksX4_claimedInAll_1 : cX4_claimedInAll.data.toList.drop 24 = dktX4_claimedInAll_1 := dk_seg dksX4_claimedInAll_0 24 rfl rfl
theorem dX4_claimedInAll_0 : decode cX4_claimedInAll 0 = .ok (.aload_n 0, 1) := dk_42 (dk_at dksX4_claimedInAll_0 0 rfl rfl)
theorem dX4_claimedInAll_1 : decode cX4_claimedInAll 1 = .ok (.iconst 0, 1) := dk_3 (dk_at dksX4_claimedInAll_0 1 rfl rfl)
theorem dX4_claimedInAll_2 : decode cX4_claimedInAll 2 = .ok (.putfield 1, 3) := dk_181 0 1 (dk_at dksX4_claimedInAll_0 2 rfl rfl)
theorem dX4_claimedInAll_5 : decode cX4_claimedInAll 5 = .ok (.aload_n 0, 1) := dk_42 (dk_at dksX4_claimedInAll_0 5 rfl rfl)
theorem dX4_claimedInAll_6 : decode cX4_claimedInAll 6 = .ok (.iload_n 1, 1) := dk_27 (dk_at dksX4_claimedInAll_0 6 rfl rfl)
theorem dX4_claimedInAll_7 : decode cX4_claimedInAll 7 = .ok (.invokevirtual 262, 3) := dk_182 1 6 (dk_at dksX4_claimedInAll_0 7 rfl rfl)
theorem dX4_claimedInAll_10 : decode cX4_claimedInAll 10 = .ok (.ifCond .eq 5, 3) := dk_153 0 5 (dk_at dksX4_claimedInAll_0 10 rfl rfl)
theorem dX4_claimedInAll_13 : decode cX4_claimedInAll 13 = .ok (.iconst 0, 1) := dk_3 (dk_at dksX4_claimedInAll_0 13 rfl rfl)
theorem dX4_claimedInAll_14 : decode cX4_claimedInAll 14 = .ok (.ireturn, 1) := dk_172 (dk_at dksX4_claimedInAll_0 14 rfl rfl)
theorem dX4_claimedInAll_15 : decode cX4_claimedInAll 15 = .ok (.iconst 0, 1) := dk_3 (dk_at dksX4_claimedInAll_0 15 rfl rfl)
theorem dX4_claimedInAll_16 : decode cX4_claimedInAll 16 = .ok (.istore_n 2, 1) := dk_61 (dk_at dksX4_claimedInAll_0 16 rfl rfl)
theorem dX4_claimedInAll_17 : decode cX4_claimedInAll 17 = .ok (.iconst 0, 1) := dk_3 (dk_at dksX4_claimedInAll_0 17 rfl rfl)
theorem dX4_claimedInAll_18 : decode cX4_claimedInAll 18 = .ok (.istore_n 3, 1) := dk_62 (dk_at dksX4_claimedInAll_0 18 rfl rfl)
theorem dX4_claimedInAll_19 : decode cX4_claimedInAll 19 = .ok (.iload_n 3, 1) := dk_29 (dk_at dksX4_claimedInAll_0 19 rfl rfl)
theorem dX4_claimedInAll_20 : decode cX4_claimedInAll 20 = .ok (.aload_n 0, 1) := dk_42 (dk_at dksX4_claimedInAll_0 20 rfl rfl)
theorem dX4_claimedInAll_21 : decode cX4_claimedInAll 21 = .ok (.getfield 13, 3) := dk_180 0 13 (dk_at dksX4_claimedInAll_0 21 rfl rfl)
theorem dX4_claimedInAll_24 : decode cX4_claimedInAll 24 = .ok (.iconst 1, 1) := dk_4 (dk_at dksX4_claimedInAll_1 0 rfl rfl)
theorem dX4_claimedInAll_25 : decode cX4_claimedInAll 25 = .ok (.iaload, 1) := dk_46 (dk_at dksX4_claimedInAll_1 1 rfl rfl)
theorem dX4_claimedInAll_26 : decode cX4_claimedInAll 26 = .ok (.if_icmp .ge 20, 3) := dk_162 0 20 (dk_at dksX4_claimedInAll_1 2 rfl rfl)
theorem dX4_claimedInAll_29 : decode cX4_claimedInAll 29 = .ok (.iload_n 2, 1) := dk_28 (dk_at dksX4_claimedInAll_1 5 rfl rfl)
theorem dX4_claimedInAll_30 : decode cX4_claimedInAll 30 = .ok (.aload_n 0, 1) := dk_42 (dk_at dksX4_claimedInAll_1 6 rfl rfl)
theorem dX4_claimedInAll_31 : decode cX4_claimedInAll 31 = .ok (.iload_n 3, 1) := dk_29 (dk_at dksX4_claimedInAll_1 7 rfl rfl)
theorem dX4_claimedInAll_32 : decode cX4_claimedInAll 32 = .ok (.iconst 0, 1) := dk_3 (dk_at dksX4_claimedInAll_1 8 rfl rfl)
theorem dX4_claimedInAll_33 : decode cX4_claimedInAll 33 = .ok (.iload_n 1, 1) := dk_27 (dk_at dksX4_claimedInAll_1 9 rfl rfl)
theorem dX4_claimedInAll_34 : decode cX4_claimedInAll 34 = .ok (.iadd, 1) := dk_96 (dk_at dksX4_claimedInAll_1 10 rfl rfl)
theorem dX4_claimedInAll_35 : decode cX4_claimedInAll 35 = .ok (.invokevirtual 63, 3) := dk_182 0 63 (dk_at dksX4_claimedInAll_1 11 rfl rfl)
theorem dX4_claimedInAll_38 : decode cX4_claimedInAll 38 = .ok (.iadd, 1) := dk_96 (dk_at dksX4_claimedInAll_1 14 rfl rfl)
theorem dX4_claimedInAll_39 : decode cX4_claimedInAll 39 = .ok (.istore_n 2, 1) := dk_61 (dk_at dksX4_claimedInAll_1 15 rfl rfl)
theorem dX4_claimedInAll_40 : decode cX4_claimedInAll 40 = .ok (.iinc 3 1, 3) := dk_132 3 1 (dk_at dksX4_claimedInAll_1 16 rfl rfl)
theorem dX4_claimedInAll_43 : decode cX4_claimedInAll 43 = .ok (.goto (-24), 3) := dk_167 255 232 (dk_at dksX4_claimedInAll_1 19 rfl rfl)
theorem dX4_claimedInAll_46 : decode cX4_claimedInAll 46 = .ok (.iload_n 2, 1) := dk_28 (dk_at dksX4_claimedInAll_1 22 rfl rfl)
theorem dX4_claimedInAll_47 : decode cX4_claimedInAll 47 = .ok (.ireturn, 1) := dk_172 (dk_at dksX4_claimedInAll_1 23 rfl rfl)
abbrev cX4_scarcestKind : ByteArray := prog_33_method_69_code
def yX4_scarcestKind : MethodName := ⟨RX4, "scarcestKind", "()I"⟩
def dkwX4_scarcestKind_1 : List UInt8 := [42, 27, 182, 0, 70, 162, 0, 5, 28, 60, 132, 2, 1, 167, 255, 228, 27, 172]
abbrev dktX4_scarcestKind_1 : List UInt8 := dkwX4_scarcestKind_1 ++ []
def dkwX4_scarcestKind_0 : List UInt8 := [42, 3, 181, 0, 1, 3, 60, 4, 61, 28, 42, 180, 0, 13, 3, 46, 162, 0, 24, 42, 28, 182, 0, 70]
abbrev dktX4_scarcestKind_0 : List UInt8 := dkwX4_scarcestKind_0 ++ dktX4_scarcestKind_1
theorem dksX4_scarcestKind_0 : cX4_scarcestKind.data.toList.drop 0 = dktX4_scarcestKind_0 := by decide +kernel
theorem dksX4_scarcestKind_1 : cX4_scarcestKind.data.toList.drop 24 = dktX4_scarcestKind_1 := dk_seg dksX4_scarcestKind_0 24 rfl rfl
theorem dX4_scarcestKind_0 : decode cX4_scarcestKind 0 = .ok (.aload_n 0, 1) := dk_42 (dk_at dksX4_scarcestKind_0 0 rfl rfl)
theorem dX4_scarcestKind_1 : decode cX4_scarcestKind 1 = .ok (.iconst 0, 1) := dk_3 (dk_at dksX4_scarcestKind_0 1 rfl rfl)
theorem dX4_scarcestKind_2 : decode cX4_scarcestKind 2 = .ok (.putfield 1, 3) := dk_181 0 1 (dk_at dksX4_scarcestKind_0 2 rfl rfl)
theorem dX4_scarcestKind_5 : decode cX4_scarcestKind 5 = .ok (.iconst 0, 1) := dk_3 (dk_at dksX4_scarcestKind_0 5 rfl rfl)
theorem dX4_scarcestKind_6 : decode cX4_scarcestKind 6 = .ok (.istore_n 1, 1) := dk_60 (dk_at dksX4_scarcestKind_0 6 rfl rfl)
theorem dX4_scarcestKind_7 : decode cX4_scarcestKind 7 = .ok (.iconst 1, 1) := dk_4 (dk_at dksX4_scarcestKind_0 7 rfl rfl)
theorem dX4_scarcestKind_8 : decode cX4_scarcestKind 8 = .ok (.istore_n 2, 1) := dk_61 (dk_at dksX4_scarcestKind_0 8 rfl rfl)
theorem dX4_scarcestKind_9 : decode cX4_scarcestKind 9 = .ok (.iload_n 2, 1) := dk_28 (dk_at dksX4_scarcestKind_0 9 rfl rfl)
theorem dX4_scarcestKind_10 : decode cX4_scarcestKind 10 = .ok (.aload_n 0, 1) := dk_42 (dk_at dksX4_scarcestKind_0 10 rfl rfl)
theorem dX4_scarcestKind_11 : decode cX4_scarcestKind 11 = .ok (.getfield 13, 3) := dk_180 0 13 (dk_at dksX4_scarcestKind_0 11 rfl rfl)
theorem dX4_scarcestKind_14 : decode cX4_scarcestKind 14 = .ok (.iconst 0, 1) := dk_3 (dk_at dksX4_scarcestKind_0 14 rfl rfl)
theorem dX4_scarcestKind_15 : decode cX4_scarcestKind 15 = .ok (.iaload, 1) := dk_46 (dk_at dksX4_scarcestKind_0 15 rfl rfl)
theorem dX4_scarcestKind_16 : decode cX4_scarcestKind 16 = .ok (.if_icmp .ge 24, 3) := dk_162 0 24 (dk_at dksX4_scarcestKind_0 16 rfl rfl)
theorem dX4_scarcestKind_19 : decode cX4_scarcestKind 19 = .ok (.aload_n 0, 1) := dk_42 (dk_at dksX4_scarcestKind_0 19 rfl rfl)
theorem dX4_scarcestKind_20 : decode cX4_scarcestKind 20 = .ok (.iload_n 2, 1) := dk_28 (dk_at dksX4_scarcestKind_0 20 rfl rfl)
theorem dX4_scarcestKind_21 : decode cX4_scarcestKind 21 = .ok (.invokevirtual 70, 3) := dk_182 0 70 (dk_at dksX4_scarcestKind_0 21 rfl rfl)
theorem dX4_scarcestKind_24 : decode cX4_scarcestKind 24 = .ok (.aload_n 0, 1) := dk_42 (dk_at dksX4_scarcestKind_1 0 rfl rfl)
theorem dX4_scarcestKind_25 : decode cX4_scarcestKind 25 = .ok (.iload_n 1, 1) := dk_27 (dk_at dksX4_scarcestKind_1 1 rfl rfl)
theorem dX4_scarcestKind_26 : decode cX4_scarcestKind 26 = .ok (.invokevirtual 70, 3) := dk_182 0 70 (dk_at dksX4_scarcestKind_1 2 rfl rfl)
theorem dX4_scarcestKind_29 : decode cX4_scarcestKind 29 = .ok (.if_icmp .ge 5, 3) := dk_162 0 5 (dk_at dksX4_scarcestKind_1 5 rfl rfl)
theorem dX4_scarcestKind_32 : decode cX4_scarcestKind 32 = .ok (.iload_n 2, 1) := dk_28 (dk_at dksX4_scarcestKind_1 8 rfl rfl)
theorem dX4_scarcestKind_33 : decode cX4_scarcestKind 33 = .ok (.istore_n 1, 1) := dk_60 (dk_at dksX4_scarcestKind_1 9 rfl rfl)
theorem dX4_scarcestKind_34 : decode cX4_scarcestKind 34 = .ok (.iinc 2 1, 3) := dk_132 2 1 (dk_at dksX4_scarcestKind_1 10 rfl rfl)
theorem dX4_scarcestKind_37 : decode cX4_scarcestKind 37 = .ok (.goto (-28), 3) := dk_167 255 228 (dk_at dksX4_scarcestKind_1 13 rfl rfl)
theorem dX4_scarcestKind_40 : decode cX4_scarcestKind 40 = .ok (.iload_n 1, 1) := dk_27 (dk_at dksX4_scarcestKind_1 16 rfl rfl)
theorem dX4_scarcestKind_41 : decode cX4_scarcestKind 41 = .ok (.ireturn, 1) := dk_172 (dk_at dksX4_scarcestKind_1 17 rfl rfl)
abbrev cX4_utilization : ByteArray := prog_33_method_71_code
def yX4_utilization : MethodName := ⟨RX4, "utilization", "()F"⟩
def dkwX4_utilization_2 : List UInt8 := [182, 1, 9, 134, 27, 134, 110, 174]
abbrev dktX4_utilization_2 : List UInt8 := dkwX4_utilization_2 ++ []
def dkwX4_utilization_1 : List UInt8 := [16, 9, 28, 96, 46, 96, 60, 132, 2, 1, 167, 255, 231, 27, 154, 0, 7, 11, 167, 0, 11, 42]
abbrev dktX4_utilization_1 : List UInt8 := dkwX4_utilization_1 ++ dktX4_utilization_2
def dkwX4_utilization_0 : List UInt8 := [42, 3, 181, 0, 1, 3, 60, 3, 61, 28, 42, 180, 0, 13, 3, 46, 162, 0, 21, 27, 42, 180, 0, 13]
abbrev dktX4_utilization_0 : List UInt8 := dkwX4_utilization_0 ++ dktX4_utilization_1
theorem dksX4_utilization_0 : cX4_utilization.data.toList.drop 0 = dktX4_utilization_0 := by decide +kernel
theorem dksX4_utilization_1 : cX4_utilization.data.toList.drop 24 = dktX4_utilization_1 := dk_seg dksX4_utilization_0 24 rfl rfl
theorem dksX4_utilization_2 : cX4_utilization.data.toList.drop 46 = dktX4_utilization_2 := dk_seg dksX4_utilization_1 22 rfl rfl
theorem dX4_utilization_0 : decode cX4_utilization 0 = .ok (.aload_n 0, 1) := dk_42 (dk_at dksX4_utilization_0 0 rfl rfl)
theorem dX4_utilization_1 : decode cX4_utilization 1 = .ok (.iconst 0, 1) := dk_3 (dk_at dksX4_utilization_0 1 rfl rfl)
theorem dX4_utilization_2 : decode cX4_utilization 2 = .ok (.putfield 1, 3) := dk_181 0 1 (dk_at dksX4_utilization_0 2 rfl rfl)
theorem dX4_utilization_5 : decode cX4_utilization 5 = .ok (.iconst 0, 1) := dk_3 (dk_at dksX4_utilization_0 5 rfl rfl)
theorem dX4_utilization_6 : decode cX4_utilization 6 = .ok (.istore_n 1, 1) := dk_60 (dk_at dksX4_utilization_0 6 rfl rfl)
theorem dX4_utilization_7 : decode cX4_utilization 7 = .ok (.iconst 0, 1) := dk_3 (dk_at dksX4_utilization_0 7 rfl rfl)
theorem dX4_utilization_8 : decode cX4_utilization 8 = .ok (.istore_n 2, 1) := dk_61 (dk_at dksX4_utilization_0 8 rfl rfl)
theorem dX4_utilization_9 : decode cX4_utilization 9 = .ok (.iload_n 2, 1) := dk_28 (dk_at dksX4_utilization_0 9 rfl rfl)
theorem dX4_utilization_10 : decode cX4_utilization 10 = .ok (.aload_n 0, 1) := dk_42 (dk_at dksX4_utilization_0 10 rfl rfl)
theorem dX4_utilization_11 : decode cX4_utilization 11 = .ok (.getfield 13, 3) := dk_180 0 13 (dk_at dksX4_utilization_0 11 rfl rfl)
theorem dX4_utilization_14 : decode cX4_utilization 14 = .ok (.iconst 0, 1) := dk_3 (dk_at dksX4_utilization_0 14 rfl rfl)
theorem dX4_utilization_15 : decode cX4_utilization 15 = .ok (.iaload, 1) := dk_46 (dk_at dksX4_utilization_0 15 rfl rfl)
theorem dX4_utilization_16 : decode cX4_utilization 16 = .ok (.if_icmp .ge 21, 3) := dk_162 0 21 (dk_at dksX4_utilization_0 16 rfl rfl)
theorem dX4_utilization_19 : decode cX4_utilization 19 = .ok (.iload_n 1, 1) := dk_27 (dk_at dksX4_utilization_0 19 rfl rfl)
theorem dX4_utilization_20 : decode cX4_utilization 20 = .ok (.aload_n 0, 1) := dk_42 (dk_at dksX4_utilization_0 20 rfl rfl)
theorem dX4_utilization_21 : decode cX4_utilization 21 = .ok (.getfield 13, 3) := dk_180 0 13 (dk_at dksX4_utilization_0 21 rfl rfl)
theorem dX4_utilization_24 : decode cX4_utilization 24 = .ok (.bipush 9, 2) := dk_16 9 (dk_at dksX4_utilization_1 0 rfl rfl)
theorem dX4_utilization_26 : decode cX4_utilization 26 = .ok (.iload_n 2, 1) := dk_28 (dk_at dksX4_utilization_1 2 rfl rfl)
theorem dX4_utilization_27 : decode cX4_utilization 27 = .ok (.iadd, 1) := dk_96 (dk_at dksX4_utilization_1 3 rfl rfl)
theorem dX4_utilization_28 : decode cX4_utilization 28 = .ok (.iaload, 1) := dk_46 (dk_at dksX4_utilization_1 4 rfl rfl)
theorem dX4_utilization_29 : decode cX4_utilization 29 = .ok (.iadd, 1) := dk_96 (dk_at dksX4_utilization_1 5 rfl rfl)
theorem dX4_utilization_30 : decode cX4_utilization 30 = .ok (.istore_n 1, 1) := dk_60 (dk_at dksX4_utilization_1 6 rfl rfl)
theorem dX4_utilization_31 : decode cX4_utilization 31 = .ok (.iinc 2 1, 3) := dk_132 2 1 (dk_at dksX4_utilization_1 7 rfl rfl)
theorem dX4_utilization_34 : decode cX4_utilization 34 = .ok (.goto (-25), 3) := dk_167 255 231 (dk_at dksX4_utilization_1 10 rfl rfl)
theorem dX4_utilization_37 : decode cX4_utilization 37 = .ok (.iload_n 1, 1) := dk_27 (dk_at dksX4_utilization_1 13 rfl rfl)
theorem dX4_utilization_38 : decode cX4_utilization 38 = .ok (.ifCond .ne 7, 3) := dk_154 0 7 (dk_at dksX4_utilization_1 14 rfl rfl)
theorem dX4_utilization_41 : decode cX4_utilization 41 = .ok (.fconst 0, 1) := dk_11 (dk_at dksX4_utilization_1 17 rfl rfl)
theorem dX4_utilization_42 : decode cX4_utilization 42 = .ok (.goto 11, 3) := dk_167 0 11 (dk_at dksX4_utilization_1 18 rfl rfl)
theorem dX4_utilization_45 : decode cX4_utilization 45 = .ok (.aload_n 0, 1) := dk_42 (dk_at dksX4_utilization_1 21 rfl rfl)
theorem dX4_utilization_46 : decode cX4_utilization 46 = .ok (.invokevirtual 265, 3) := dk_182 1 9 (dk_at dksX4_utilization_2 0 rfl rfl)
theorem dX4_utilization_49 : decode cX4_utilization 49 = .ok (.i2f, 1) := dk_134 (dk_at dksX4_utilization_2 3 rfl rfl)
theorem dX4_utilization_50 : decode cX4_utilization 50 = .ok (.iload_n 1, 1) := dk_27 (dk_at dksX4_utilization_2 4 rfl rfl)
theorem dX4_utilization_51 : decode cX4_utilization 51 = .ok (.i2f, 1) := dk_134 (dk_at dksX4_utilization_2 5 rfl rfl)
theorem dX4_utilization_52 : decode cX4_utilization 52 = .ok (.fdiv, 1) := dk_110 (dk_at dksX4_utilization_2 6 rfl rfl)
theorem dX4_utilization_53 : decode cX4_utilization 53 = .ok (.freturn, 1) := dk_174 (dk_at dksX4_utilization_2 7 rfl rfl)
abbrev cX4_held : ByteArray := prog_33_method_70_code
def yX4_held : MethodName := ⟨RX4, "held", "()I"⟩
def dkwX4_held_1 : List UInt8 := [132, 2, 1, 167, 255, 235, 27, 172]
abbrev dktX4_held_1 : List UInt8 := dkwX4_held_1 ++ []
def dkwX4_held_0 : List UInt8 := [3, 60, 3, 61, 28, 42, 180, 0, 13, 3, 46, 162, 0, 17, 27, 42, 28, 182, 0, 67, 96, 60]
abbrev dktX4_held_0 : List UInt8 := dkwX4_held_0 ++ dktX4_held_1
theorem dksX4_held_0 : cX4_held.data.toList.drop 0 = dktX4_held_0 := by decide +kernel
theorem dksX4_held_1 : cX4_held.data.toList.drop 22 = dktX4_held_1 := dk_seg dksX4_held_0 22 rfl rfl
theorem dX4_held_0 : decode cX4_held 0 = .ok (.iconst 0, 1) := dk_3 (dk_at dksX4_held_0 0 rfl rfl)
theorem dX4_held_1 : decode cX4_held 1 = .ok (.istore_n 1, 1) := dk_60 (dk_at dksX4_held_0 1 rfl rfl)
theorem dX4_held_2 : decode cX4_held 2 = .ok (.iconst 0, 1) := dk_3 (dk_at dksX4_held_0 2 rfl rfl)
theorem dX4_held_3 : decode cX4_held 3 = .ok (.istore_n 2, 1) := dk_61 (dk_at dksX4_held_0 3 rfl rfl)
theorem dX4_held_4 : decode cX4_held 4 = .ok (.iload_n 2, 1) := dk_28 (dk_at dksX4_held_0 4 rfl rfl)
theorem dX4_held_5 : decode cX4_held 5 = .ok (.aload_n 0, 1) := dk_42 (dk_at dksX4_held_0 5 rfl rfl)
theorem dX4_held_6 : decode cX4_held 6 = .ok (.getfield 13, 3) := dk_180 0 13 (dk_at dksX4_held_0 6 rfl rfl)
theorem dX4_held_9 : decode cX4_held 9 = .ok (.iconst 0, 1) := dk_3 (dk_at dksX4_held_0 9 rfl rfl)
theorem dX4_held_10 : decode cX4_held 10 = .ok (.iaload, 1) := dk_46 (dk_at dksX4_held_0 10 rfl rfl)
theorem dX4_held_11 : decode cX4_held 11 = .ok (.if_icmp .ge 17, 3) := dk_162 0 17 (dk_at dksX4_held_0 11 rfl rfl)
theorem dX4_held_14 : decode cX4_held 14 = .ok (.iload_n 1, 1) := dk_27 (dk_at dksX4_held_0 14 rfl rfl)
theorem dX4_held_15 : decode cX4_held 15 = .ok (.aload_n 0, 1) := dk_42 (dk_at dksX4_held_0 15 rfl rfl)
theorem dX4_held_16 : decode cX4_held 16 = .ok (.iload_n 2, 1) := dk_28 (dk_at dksX4_held_0 16 rfl rfl)
theorem dX4_held_17 : decode cX4_held 17 = .ok (.invokevirtual 67, 3) := dk_182 0 67 (dk_at dksX4_held_0 17 rfl rfl)
theorem dX4_held_20 : decode cX4_held 20 = .ok (.iadd, 1) := dk_96 (dk_at dksX4_held_0 20 rfl rfl)
theorem dX4_held_21 : decode cX4_held 21 = .ok (.istore_n 1, 1) := dk_60 (dk_at dksX4_held_0 21 rfl rfl)
theorem dX4_held_22 : decode cX4_held 22 = .ok (.iinc 2 1, 3) := dk_132 2 1 (dk_at dksX4_held_1 0 rfl rfl)
theorem dX4_held_25 : decode cX4_held 25 = .ok (.goto (-21), 3) := dk_167 255 235 (dk_at dksX4_held_1 3 rfl rfl)
theorem dX4_held_28 : decode cX4_held 28 = .ok (.iload_n 1, 1) := dk_27 (dk_at dksX4_held_1 6 rfl rfl)
theorem dX4_held_29 : decode cX4_held 29 = .ok (.ireturn, 1) := dk_172 (dk_at dksX4_held_1 7 rfl rfl)
abbrev cX4_officeCount : ByteArray := prog_33_method_74_code
def yX4_officeCount : MethodName := ⟨RX4, "officeCount", "()I"⟩
def dkwX4_officeCount_0 : List UInt8 := [42, 3, 181, 0, 1, 42, 180, 0, 13, 4, 46, 172]
abbrev dktX4_officeCount_0 : List UInt8 := dkwX4_officeCount_0 ++ []
theorem dksX4_officeCount_0 : cX4_officeCount.data.toList.drop 0 = dktX4_officeCount_0 := by decide +kernel
theorem dX4_officeCount_0 : decode cX4_officeCount 0 = .ok (.aload_n 0, 1) := dk_42 (dk_at dksX4_officeCount_0 0 rfl rfl)
theorem dX4_officeCount_1 : decode cX4_officeCount 1 = .ok (.iconst 0, 1) := dk_3 (dk_at dksX4_officeCount_0 1 rfl rfl)
theorem dX4_officeCount_2 : decode cX4_officeCount 2 = .ok (.putfield 1, 3) := dk_181 0 1 (dk_at dksX4_officeCount_0 2 rfl rfl)
theorem dX4_officeCount_5 : decode cX4_officeCount 5 = .ok (.aload_n 0, 1) := dk_42 (dk_at dksX4_officeCount_0 5 rfl rfl)
theorem dX4_officeCount_6 : decode cX4_officeCount 6 = .ok (.getfield 13, 3) := dk_180 0 13 (dk_at dksX4_officeCount_0 6 rfl rfl)
theorem dX4_officeCount_9 : decode cX4_officeCount 9 = .ok (.iconst 1, 1) := dk_4 (dk_at dksX4_officeCount_0 9 rfl rfl)
theorem dX4_officeCount_10 : decode cX4_officeCount 10 = .ok (.iaload, 1) := dk_46 (dk_at dksX4_officeCount_0 10 rfl rfl)
theorem dX4_officeCount_11 : decode cX4_officeCount 11 = .ok (.ireturn, 1) := dk_172 (dk_at dksX4_officeCount_0 11 rfl rfl)
abbrev cX4_claim : ByteArray := prog_33_method_75_code
def yX4_claim : MethodName := ⟨RX4, "claim", "(II)I"⟩
def dkwX4_claim_1 : List UInt8 := [182, 0, 63, 172]
abbrev dktX4_claim_1 : List UInt8 := dkwX4_claim_1 ++ []
def dkwX4_claim_0 : List UInt8 := [42, 3, 181, 0, 1, 42, 27, 28, 182, 1, 15, 153, 0, 7, 3, 167, 0, 11, 42, 27, 3, 28, 96]
abbrev dktX4_claim_0 : List UInt8 := dkwX4_claim_0 ++ dktX4_claim_1
theorem dksX4_claim_0 : cX4_claim.data.toList.drop 0 = dktX4_claim_0 := by decide +kernel
theorem dksX4_claim_1 : cX4_claim.data.toList.drop 23 = dktX4_claim_1 := dk_seg dksX4_claim_0 23 rfl rfl
theorem dX4_claim_0 : decode cX4_claim 0 = .ok (.aload_n 0, 1) := dk_42 (dk_at dksX4_claim_0 0 rfl rfl)
theorem dX4_claim_1 : decode cX4_claim 1 = .ok (.iconst 0, 1) := dk_3 (dk_at dksX4_claim_0 1 rfl rfl)
theorem dX4_claim_2 : decode cX4_claim 2 = .ok (.putfield 1, 3) := dk_181 0 1 (dk_at dksX4_claim_0 2 rfl rfl)
theorem dX4_claim_5 : decode cX4_claim 5 = .ok (.aload_n 0, 1) := dk_42 (dk_at dksX4_claim_0 5 rfl rfl)
theorem dX4_claim_6 : decode cX4_claim 6 = .ok (.iload_n 1, 1) := dk_27 (dk_at dksX4_claim_0 6 rfl rfl)
theorem dX4_claim_7 : decode cX4_claim 7 = .ok (.iload_n 2, 1) := dk_28 (dk_at dksX4_claim_0 7 rfl rfl)
theorem dX4_claim_8 : decode cX4_claim 8 = .ok (.invokevirtual 271, 3) := dk_182 1 15 (dk_at dksX4_claim_0 8 rfl rfl)
theorem dX4_claim_11 : decode cX4_claim 11 = .ok (.ifCond .eq 7, 3) := dk_153 0 7 (dk_at dksX4_claim_0 11 rfl rfl)
theorem dX4_claim_14 : decode cX4_claim 14 = .ok (.iconst 0, 1) := dk_3 (dk_at dksX4_claim_0 14 rfl rfl)
theorem dX4_claim_15 : decode cX4_claim 15 = .ok (.goto 11, 3) := dk_167 0 11 (dk_at dksX4_claim_0 15 rfl rfl)
theorem dX4_claim_18 : decode cX4_claim 18 = .ok (.aload_n 0, 1) := dk_42 (dk_at dksX4_claim_0 18 rfl rfl)
theorem dX4_claim_19 : decode cX4_claim 19 = .ok (.iload_n 1, 1) := dk_27 (dk_at dksX4_claim_0 19 rfl rfl)
theorem dX4_claim_20 : decode cX4_claim 20 = .ok (.iconst 0, 1) := dk_3 (dk_at dksX4_claim_0 20 rfl rfl)
theorem dX4_claim_21 : decode cX4_claim 21 = .ok (.iload_n 2, 1) := dk_28 (dk_at dksX4_claim_0 21 rfl rfl)
theorem dX4_claim_22 : decode cX4_claim 22 = .ok (.iadd, 1) := dk_96 (dk_at dksX4_claim_0 22 rfl rfl)
theorem dX4_claim_23 : decode cX4_claim 23 = .ok (.invokevirtual 63, 3) := dk_182 0 63 (dk_at dksX4_claim_1 0 rfl rfl)
theorem dX4_claim_26 : decode cX4_claim 26 = .ok (.ireturn, 1) := dk_172 (dk_at dksX4_claim_1 3 rfl rfl)
abbrev cX4_noPair : ByteArray := prog_33_method_73_code
def yX4_noPair : MethodName := ⟨RX4, "noPair", "(II)Z"⟩
def dkwX4_noPair_0 : List UInt8 := [42, 27, 182, 1, 12, 154, 0, 11, 42, 28, 182, 1, 6, 153, 0, 7, 4, 167, 0, 4, 3, 172]
abbrev dktX4_noPair_0 : List UInt8 := dkwX4_noPair_0 ++ []
theorem dksX4_noPair_0 : cX4_noPair.data.toList.drop 0 = dktX4_noPair_0 := by decide +kernel
theorem dX4_noPair_0 : decode cX4_noPair 0 = .ok (.aload_n 0, 1) := dk_42 (dk_at dksX4_noPair_0 0 rfl rfl)
theorem dX4_noPair_1 : decode cX4_noPair 1 = .ok (.iload_n 1, 1) := dk_27 (dk_at dksX4_noPair_0 1 rfl rfl)
theorem dX4_noPair_2 : decode cX4_noPair 2 = .ok (.invokevirtual 268, 3) := dk_182 1 12 (dk_at dksX4_noPair_0 2 rfl rfl)
theorem dX4_noPair_5 : decode cX4_noPair 5 = .ok (.ifCond .ne 11, 3) := dk_154 0 11 (dk_at dksX4_noPair_0 5 rfl rfl)
theorem dX4_noPair_8 : decode cX4_noPair 8 = .ok (.aload_n 0, 1) := dk_42 (dk_at dksX4_noPair_0 8 rfl rfl)
theorem dX4_noPair_9 : decode cX4_noPair 9 = .ok (.iload_n 2, 1) := dk_28 (dk_at dksX4_noPair_0 9 rfl rfl)
theorem dX4_noPair_10 : decode cX4_noPair 10 = .ok (.invokevirtual 262, 3) := dk_182 1 6 (dk_at dksX4_noPair_0 10 rfl rfl)
theorem dX4_noPair_13 : decode cX4_noPair 13 = .ok (.ifCond .eq 7, 3) := dk_153 0 7 (dk_at dksX4_noPair_0 13 rfl rfl)
theorem dX4_noPair_16 : decode cX4_noPair 16 = .ok (.iconst 1, 1) := dk_4 (dk_at dksX4_noPair_0 16 rfl rfl)
theorem dX4_noPair_17 : decode cX4_noPair 17 = .ok (.goto 4, 3) := dk_167 0 4 (dk_at dksX4_noPair_0 17 rfl rfl)
theorem dX4_noPair_20 : decode cX4_noPair 20 = .ok (.iconst 0, 1) := dk_3 (dk_at dksX4_noPair_0 20 rfl rfl)
theorem dX4_noPair_21 : decode cX4_noPair 21 = .ok (.ireturn, 1) := dk_172 (dk_at dksX4_noPair_0 21 rfl rfl)
abbrev cX4_noOffice : ByteArray := prog_33_method_72_code
def yX4_noOffice : MethodName := ⟨RX4, "noOffice", "(I)Z"⟩
def dkwX4_noOffice_0 : List UInt8 := [42, 27, 3, 42, 180, 0, 13, 4, 46, 4, 100, 184, 0, 209, 4, 182, 0, 241, 172]
abbrev dktX4_noOffice_0 : List UInt8 := dkwX4_noOffice_0 ++ []
theorem dksX4_noOffice_0 : cX4_noOffice.data.toList.drop 0 = dktX4_noOffice_0 := by decide +kernel
theorem dX4_noOffice_0 : decode cX4_noOffice 0 = .ok (.aload_n 0, 1) := dk_42 (dk_at dksX4_noOffice_0 0 rfl rfl)
theorem dX4_noOffice_1 : decode cX4_noOffice 1 = .ok (.iload_n 1, 1) := dk_27 (dk_at dksX4_noOffice_0 1 rfl rfl)
theorem dX4_noOffice_2 : decode cX4_noOffice 2 = .ok (.iconst 0, 1) := dk_3 (dk_at dksX4_noOffice_0 2 rfl rfl)
theorem dX4_noOffice_3 : decode cX4_noOffice 3 = .ok (.aload_n 0, 1) := dk_42 (dk_at dksX4_noOffice_0 3 rfl rfl)
theorem dX4_noOffice_4 : decode cX4_noOffice 4 = .ok (.getfield 13, 3) := dk_180 0 13 (dk_at dksX4_noOffice_0 4 rfl rfl)
theorem dX4_noOffice_7 : decode cX4_noOffice 7 = .ok (.iconst 1, 1) := dk_4 (dk_at dksX4_noOffice_0 7 rfl rfl)
theorem dX4_noOffice_8 : decode cX4_noOffice 8 = .ok (.iaload, 1) := dk_46 (dk_at dksX4_noOffice_0 8 rfl rfl)
theorem dX4_noOffice_9 : decode cX4_noOffice 9 = .ok (.iconst 1, 1) := dk_4 (dk_at dksX4_noOffice_0 9 rfl rfl)
theorem dX4_noOffice_10 : decode cX4_noOffice 10 = .ok (.isub, 1) := dk_100 (dk_at dksX4_noOffice_0 10 rfl rfl)
theorem dX4_noOffice_11 : decode cX4_noOffice 11 = .ok (.invokestatic 209, 3) := dk_184 0 209 (dk_at dksX4_noOffice_0 11 rfl rfl)
theorem dX4_noOffice_14 : decode cX4_noOffice 14 = .ok (.iconst 1, 1) := dk_4 (dk_at dksX4_noOffice_0 14 rfl rfl)
theorem dX4_noOffice_15 : decode cX4_noOffice 15 = .ok (.invokevirtual 241, 3) := dk_182 0 241 (dk_at dksX4_noOffice_0 15 rfl rfl)
theorem dX4_noOffice_18 : decode cX4_noOffice 18 = .ok (.ireturn, 1) := dk_172 (dk_at dksX4_noOffice_0 18 rfl rfl)
abbrev cX4_allocated : ByteArray := prog_33_method_76_code
def yX4_allocated : MethodName := ⟨RX4, "allocated", "(II)I"⟩
def dkwX4_allocated_1 : List UInt8 := [182, 0, 63, 172]
abbrev dktX4_allocated_1 : List UInt8 := dkwX4_allocated_1 ++ []
def dkwX4_allocated_0 : List UInt8 := [42, 3, 181, 0, 1, 42, 27, 28, 182, 1, 15, 153, 0, 7, 3, 167, 0, 11, 42, 27, 7, 28, 96]
abbrev dktX4_allocated_0 : List UInt8 := dkwX4_allocated_0 ++ dktX4_allocated_1
theorem dksX4_allocated_0 : cX4_allocated.data.toList.drop 0 = dktX4_allocated_0 := by decide +kernel
theorem dksX4_allocated_1 : cX4_allocated.data.toList.drop 23 = dktX4_allocated_1 := dk_seg dksX4_allocated_0 23 rfl rfl
theorem dX4_allocated_0 : decode cX4_allocated 0 = .ok (.aload_n 0, 1) := dk_42 (dk_at dksX4_allocated_0 0 rfl rfl)
theorem dX4_allocated_1 : decode cX4_allocated 1 = .ok (.iconst 0, 1) := dk_3 (dk_at dksX4_allocated_0 1 rfl rfl)
theorem dX4_allocated_2 : decode cX4_allocated 2 = .ok (.putfield 1, 3) := dk_181 0 1 (dk_at dksX4_allocated_0 2 rfl rfl)
theorem dX4_allocated_5 : decode cX4_allocated 5 = .ok (.aload_n 0, 1) := dk_42 (dk_at dksX4_allocated_0 5 rfl rfl)
theorem dX4_allocated_6 : decode cX4_allocated 6 = .ok (.iload_n 1, 1) := dk_27 (dk_at dksX4_allocated_0 6 rfl rfl)
theorem dX4_allocated_7 : decode cX4_allocated 7 = .ok (.iload_n 2, 1) := dk_28 (dk_at dksX4_allocated_0 7 rfl rfl)
theorem dX4_allocated_8 : decode cX4_allocated 8 = .ok (.invokevirtual 271, 3) := dk_182 1 15 (dk_at dksX4_allocated_0 8 rfl rfl)
theorem dX4_allocated_11 : decode cX4_allocated 11 = .ok (.ifCond .eq 7, 3) := dk_153 0 7 (dk_at dksX4_allocated_0 11 rfl rfl)
theorem dX4_allocated_14 : decode cX4_allocated 14 = .ok (.iconst 0, 1) := dk_3 (dk_at dksX4_allocated_0 14 rfl rfl)
theorem dX4_allocated_15 : decode cX4_allocated 15 = .ok (.goto 11, 3) := dk_167 0 11 (dk_at dksX4_allocated_0 15 rfl rfl)
theorem dX4_allocated_18 : decode cX4_allocated 18 = .ok (.aload_n 0, 1) := dk_42 (dk_at dksX4_allocated_0 18 rfl rfl)
theorem dX4_allocated_19 : decode cX4_allocated 19 = .ok (.iload_n 1, 1) := dk_27 (dk_at dksX4_allocated_0 19 rfl rfl)
theorem dX4_allocated_20 : decode cX4_allocated 20 = .ok (.iconst 4, 1) := dk_7 (dk_at dksX4_allocated_0 20 rfl rfl)
theorem dX4_allocated_21 : decode cX4_allocated 21 = .ok (.iload_n 2, 1) := dk_28 (dk_at dksX4_allocated_0 21 rfl rfl)
theorem dX4_allocated_22 : decode cX4_allocated 22 = .ok (.iadd, 1) := dk_96 (dk_at dksX4_allocated_0 22 rfl rfl)
theorem dX4_allocated_23 : decode cX4_allocated 23 = .ok (.invokevirtual 63, 3) := dk_182 0 63 (dk_at dksX4_allocated_1 0 rfl rfl)
theorem dX4_allocated_26 : decode cX4_allocated 26 = .ok (.ireturn, 1) := dk_172 (dk_at dksX4_allocated_1 3 rfl rfl)
abbrev cX4_need : ByteArray := prog_33_method_77_code
def yX4_need : MethodName := ⟨RX4, "need", "(II)I"⟩
def dkwX4_need_1 : List UInt8 := [172]
abbrev dktX4_need_1 : List UInt8 := dkwX4_need_1 ++ []
def dkwX4_need_0 : List UInt8 := [42, 3, 181, 0, 1, 42, 27, 28, 182, 1, 15, 153, 0, 7, 3, 167, 0, 9, 42, 27, 28, 182, 0, 77]
abbrev dktX4_need_0 : List UInt8 := dkwX4_need_0 ++ dktX4_need_1
theorem dksX4_need_0 : cX4_need.data.toList.drop 0 = dktX4_need_0 := by decide +kernel
theorem dksX4_need_1 : cX4_need.data.toList.drop 24 = dktX4_need_1 := dk_seg dksX4_need_0 24 rfl rfl
theorem dX4_need_0 : decode cX4_need 0 = .ok (.aload_n 0, 1) := dk_42 (dk_at dksX4_need_0 0 rfl rfl)
theorem dX4_need_1 : decode cX4_need 1 = .ok (.iconst 0, 1) := dk_3 (dk_at dksX4_need_0 1 rfl rfl)
theorem dX4_need_2 : decode cX4_need 2 = .ok (.putfield 1, 3) := dk_181 0 1 (dk_at dksX4_need_0 2 rfl rfl)
theorem dX4_need_5 : decode cX4_need 5 = .ok (.aload_n 0, 1) := dk_42 (dk_at dksX4_need_0 5 rfl rfl)
theorem dX4_need_6 : decode cX4_need 6 = .ok (.iload_n 1, 1) := dk_27 (dk_at dksX4_need_0 6 rfl rfl)
theorem dX4_need_7 : decode cX4_need 7 = .ok (.iload_n 2, 1) := dk_28 (dk_at dksX4_need_0 7 rfl rfl)
theorem dX4_need_8 : decode cX4_need 8 = .ok (.invokevirtual 271, 3) := dk_182 1 15 (dk_at dksX4_need_0 8 rfl rfl)
theorem dX4_need_11 : decode cX4_need 11 = .ok (.ifCond .eq 7, 3) := dk_153 0 7 (dk_at dksX4_need_0 11 rfl rfl)
theorem dX4_need_14 : decode cX4_need 14 = .ok (.iconst 0, 1) := dk_3 (dk_at dksX4_need_0 14 rfl rfl)
theorem dX4_need_15 : decode cX4_need 15 = .ok (.goto 9, 3) := dk_167 0 9 (dk_at dksX4_need_0 15 rfl rfl)
theorem dX4_need_18 : decode cX4_need 18 = .ok (.aload_n 0, 1) := dk_42 (dk_at dksX4_need_0 18 rfl rfl)
theorem dX4_need_19 : decode cX4_need 19 = .ok (.iload_n 1, 1) := dk_27 (dk_at dksX4_need_0 19 rfl rfl)
theorem dX4_need_20 : decode cX4_need 20 = .ok (.iload_n 2, 1) := dk_28 (dk_at dksX4_need_0 20 rfl rfl)
theorem dX4_need_21 : decode cX4_need 21 = .ok (.invokevirtual 77, 3) := dk_182 0 77 (dk_at dksX4_need_0 21 rfl rfl)
theorem dX4_need_24 : decode cX4_need 24 = .ok (.ireturn, 1) := dk_172 (dk_at dksX4_need_1 0 rfl rfl)
abbrev cX4_canFinish : ByteArray := prog_33_method_78_code
def yX4_canFinish : MethodName := ⟨RX4, "canFinish", "(I)Z"⟩
def dkwX4_canFinish_1 : List UInt8 := [167, 0, 4, 3, 172]
abbrev dktX4_canFinish_1 : List UInt8 := dkwX4_canFinish_1 ++ []
def dkwX4_canFinish_0 : List UInt8 := [42, 3, 181, 0, 1, 42, 27, 182, 1, 12, 154, 0, 16, 42, 27, 3, 182, 0, 83, 153, 0, 7, 4]
abbrev dktX4_canFinish_0 : List UInt8 := dkwX4_canFinish_0 ++ dktX4_canFinish_1
theorem dksX4_canFinish_0 : cX4_canFinish.data.toList.drop 0 = dktX4_canFinish_0 := by decide +kernel
theorem dksX4_canFinish_1 : cX4_canFinish.data.toList.drop 23 = dktX4_canFinish_1 := dk_seg dksX4_canFinish_0 23 rfl rfl
theorem dX4_canFinish_0 : decode cX4_canFinish 0 = .ok (.aload_n 0, 1) := dk_42 (dk_at dksX4_canFinish_0 0 rfl rfl)
theorem dX4_canFinish_1 : decode cX4_canFinish 1 = .ok (.iconst 0, 1) := dk_3 (dk_at dksX4_canFinish_0 1 rfl rfl)
theorem dX4_canFinish_2 : decode cX4_canFinish 2 = .ok (.putfield 1, 3) := dk_181 0 1 (dk_at dksX4_canFinish_0 2 rfl rfl)
theorem dX4_canFinish_5 : decode cX4_canFinish 5 = .ok (.aload_n 0, 1) := dk_42 (dk_at dksX4_canFinish_0 5 rfl rfl)
theorem dX4_canFinish_6 : decode cX4_canFinish 6 = .ok (.iload_n 1, 1) := dk_27 (dk_at dksX4_canFinish_0 6 rfl rfl)
theorem dX4_canFinish_7 : decode cX4_canFinish 7 = .ok (.invokevirtual 268, 3) := dk_182 1 12 (dk_at dksX4_canFinish_0 7 rfl rfl)
theorem dX4_canFinish_10 : decode cX4_canFinish 10 = .ok (.ifCond .ne 16, 3) := dk_154 0 16 (dk_at dksX4_canFinish_0 10 rfl rfl)
theorem dX4_canFinish_13 : decode cX4_canFinish 13 = .ok (.aload_n 0, 1) := dk_42 (dk_at dksX4_canFinish_0 13 rfl rfl)
theorem dX4_canFinish_14 : decode cX4_canFinish 14 = .ok (.iload_n 1, 1) := dk_27 (dk_at dksX4_canFinish_0 14 rfl rfl)
theorem dX4_canFinish_15 : decode cX4_canFinish 15 = .ok (.iconst 0, 1) := dk_3 (dk_at dksX4_canFinish_0 15 rfl rfl)
theorem dX4_canFinish_16 : decode cX4_canFinish 16 = .ok (.invokevirtual 83, 3) := dk_182 0 83 (dk_at dksX4_canFinish_0 16 rfl rfl)
theorem dX4_canFinish_19 : decode cX4_canFinish 19 = .ok (.ifCond .eq 7, 3) := dk_153 0 7 (dk_at dksX4_canFinish_0 19 rfl rfl)
theorem dX4_canFinish_22 : decode cX4_canFinish 22 = .ok (.iconst 1, 1) := dk_4 (dk_at dksX4_canFinish_0 22 rfl rfl)
theorem dX4_canFinish_23 : decode cX4_canFinish 23 = .ok (.goto 4, 3) := dk_167 0 4 (dk_at dksX4_canFinish_1 0 rfl rfl)
theorem dX4_canFinish_26 : decode cX4_canFinish 26 = .ok (.iconst 0, 1) := dk_3 (dk_at dksX4_canFinish_1 3 rfl rfl)
theorem dX4_canFinish_27 : decode cX4_canFinish 27 = .ok (.ireturn, 1) := dk_172 (dk_at dksX4_canFinish_1 4 rfl rfl)
abbrev cX4_finisherCount : ByteArray := prog_33_method_79_code
def yX4_finisherCount : MethodName := ⟨RX4, "finisherCount", "()I"⟩
def dkwX4_finisherCount_1 : List UInt8 := [182, 0, 83, 184, 0, 111, 96, 60, 132, 2, 1, 167, 255, 231, 27, 172]
abbrev dktX4_finisherCount_1 : List UInt8 := dkwX4_finisherCount_1 ++ []
def dkwX4_finisherCount_0 : List UInt8 := [42, 3, 181, 0, 1, 3, 60, 3, 61, 28, 42, 180, 0, 13, 4, 46, 162, 0, 21, 27, 42, 28, 3]
abbrev dktX4_finisherCount_0 : List UInt8 := dkwX4_finisherCount_0 ++ dktX4_finisherCount_1
theorem dksX4_finisherCount_0 : cX4_finisherCount.data.toList.drop 0 = dktX4_finisherCount_0 := by decide +kernel
theorem dksX4_finisherCount_1 : cX4_finisherCount.data.toList.drop 23 = dktX4_finisherCount_1 := dk_seg dksX4_finisherCount_0 23 rfl rfl
theorem dX4_finisherCount_0 : decode cX4_finisherCount 0 = .ok (.aload_n 0, 1) := dk_42 (dk_at dksX4_finisherCount_0 0 rfl rfl)
theorem dX4_finisherCount_1 : decode cX4_finisherCount 1 = .ok (.iconst 0, 1) := dk_3 (dk_at dksX4_finisherCount_0 1 rfl rfl)
theorem dX4_finisherCount_2 : decode cX4_finisherCount 2 = .ok (.putfield 1, 3) := dk_181 0 1 (dk_at dksX4_finisherCount_0 2 rfl rfl)
theorem dX4_finisherCount_5 : decode cX4_finisherCount 5 = .ok (.iconst 0, 1) := dk_3 (dk_at dksX4_finisherCount_0 5 rfl rfl)
theorem dX4_finisherCount_6 : decode cX4_finisherCount 6 = .ok (.istore_n 1, 1) := dk_60 (dk_at dksX4_finisherCount_0 6 rfl rfl)
theorem dX4_finisherCount_7 : decode cX4_finisherCount 7 = .ok (.iconst 0, 1) := dk_3 (dk_at dksX4_finisherCount_0 7 rfl rfl)
theorem dX4_finisherCount_8 : decode cX4_finisherCount 8 = .ok (.istore_n 2, 1) := dk_61 (dk_at dksX4_finisherCount_0 8 rfl rfl)
theorem dX4_finisherCount_9 : decode cX4_finisherCount 9 = .ok (.iload_n 2, 1) := dk_28 (dk_at dksX4_finisherCount_0 9 rfl rfl)
theorem dX4_finisherCount_10 : decode cX4_finisherCount 10 = .ok (.aload_n 0, 1) := dk_42 (dk_at dksX4_finisherCount_0 10 rfl rfl)
theorem dX4_finisherCount_11 : decode cX4_finisherCount 11 = .ok (.getfield 13, 3) := dk_180 0 13 (dk_at dksX4_finisherCount_0 11 rfl rfl)
theorem dX4_finisherCount_14 : decode cX4_finisherCount 14 = .ok (.iconst 1, 1) := dk_4 (dk_at dksX4_finisherCount_0 14 rfl rfl)
theorem dX4_finisherCount_15 : decode cX4_finisherCount 15 = .ok (.iaload, 1) := dk_46 (dk_at dksX4_finisherCount_0 15 rfl rfl)
theorem dX4_finisherCount_16 : decode cX4_finisherCount 16 = .ok (.if_icmp .ge 21, 3) := dk_162 0 21 (dk_at dksX4_finisherCount_0 16 rfl rfl)
theorem dX4_finisherCount_19 : decode cX4_finisherCount 19 = .ok (.iload_n 1, 1) := dk_27 (dk_at dksX4_finisherCount_0 19 rfl rfl)
theorem dX4_finisherCount_20 : decode cX4_finisherCount 20 = .ok (.aload_n 0, 1) := dk_42 (dk_at dksX4_finisherCount_0 20 rfl rfl)
theorem dX4_finisherCount_21 : decode cX4_finisherCount 21 = .ok (.iload_n 2, 1) := dk_28 (dk_at dksX4_finisherCount_0 21 rfl rfl)
theorem dX4_finisherCount_22 : decode cX4_finisherCount 22 = .ok (.iconst 0, 1) := dk_3 (dk_at dksX4_finisherCount_0 22 rfl rfl)
theorem dX4_finisherCount_23 : decode cX4_finisherCount 23 = .ok (.invokevirtual 83, 3) := dk_182 0 83 (dk_at dksX4_finisherCount_1 0 rfl rfl)
theorem dX4_finisherCount_26 : decode cX4_finisherCount 26 = .ok (.invokestatic 111, 3) := dk_184 0 111 (dk_at dksX4_finisherCount_1 3 rfl rfl)
theorem dX4_finisherCount_29 : decode cX4_finisherCount 29 = .ok (.iadd, 1) := dk_96 (dk_at dksX4_finisherCount_1 6 rfl rfl)
theorem dX4_finisherCount_30 : decode cX4_finisherCount 30 = .ok (.istore_n 1, 1) := dk_60 (dk_at dksX4_finisherCount_1 7 rfl rfl)
theorem dX4_finisherCount_31 : decode cX4_finisherCount 31 = .ok (.iinc 2 1, 3) := dk_132 2 1 (dk_at dksX4_finisherCount_1 8 rfl rfl)
theorem dX4_finisherCount_34 : decode cX4_finisherCount 34 = .ok (.goto (-25), 3) := dk_167 255 231 (dk_at dksX4_finisherCount_1 11 rfl rfl)
theorem dX4_finisherCount_37 : decode cX4_finisherCount 37 = .ok (.iload_n 1, 1) := dk_27 (dk_at dksX4_finisherCount_1 14 rfl rfl)
theorem dX4_finisherCount_38 : decode cX4_finisherCount 38 = .ok (.ireturn, 1) := dk_172 (dk_at dksX4_finisherCount_1 15 rfl rfl)
abbrev cX4_truth : ByteArray := prog_33_method_4_code
def yX4_truth : MethodName := ⟨RX4, "truth", "(Z)I"⟩
def dkwX4_truth_0 : List UInt8 := [26, 153, 0, 7, 4, 167, 0, 4, 3, 172]
abbrev dktX4_truth_0 : List UInt8 := dkwX4_truth_0 ++ []
theorem dksX4_truth_0 : cX4_truth.data.toList.drop 0 = dktX4_truth_0 := by decide +kernel
theorem dX4_truth_0 : decode cX4_truth 0 = .ok (.iload_n 0, 1) := dk_26 (dk_at dksX4_truth_0 0 rfl rfl)
theorem dX4_truth_1 : decode cX4_truth 1 = .ok (.ifCond .eq 7, 3) := dk_153 0 7 (dk_at dksX4_truth_0 1 rfl rfl)
theorem dX4_truth_4 : decode cX4_truth 4 = .ok (.iconst 1, 1) := dk_4 (dk_at dksX4_truth_0 4 rfl rfl)
theorem dX4_truth_5 : decode cX4_truth 5 = .ok (.goto 4, 3) := dk_167 0 4 (dk_at dksX4_truth_0 5 rfl rfl)
theorem dX4_truth_8 : decode cX4_truth 8 = .ok (.iconst 0, 1) := dk_3 (dk_at dksX4_truth_0 8 rfl rfl)
theorem dX4_truth_9 : decode cX4_truth 9 = .ok (.ireturn, 1) := dk_172 (dk_at dksX4_truth_0 9 rfl rfl)
abbrev cX4_greatestHolder : ByteArray := prog_33_method_80_code
def yX4_greatestHolder : MethodName := ⟨RX4, "greatestHolder", "()I"⟩
def dkwX4_greatestHolder_1 : List UInt8 := [42, 27, 182, 1, 18, 164, 0, 5, 28, 60, 132, 2, 1, 167, 255, 228, 27, 172]
abbrev dktX4_greatestHolder_1 : List UInt8 := dkwX4_greatestHolder_1 ++ []
def dkwX4_greatestHolder_0 : List UInt8 := [42, 3, 181, 0, 1, 3, 60, 4, 61, 28, 42, 180, 0, 13, 4, 46, 162, 0, 24, 42, 28, 182, 1, 18]
abbrev dktX4_greatestHolder_0 : List UInt8 := dkwX4_greatestHolder_0 ++ dktX4_greatestHolder_1
theorem dksX4_greatestHolder_0 : cX4_greatestHolder.data.toList.drop 0 = dktX4_greatestHolder_0 := by decide +kernel
theorem dksX4_greatestHolder_1 : cX4_greatestHolder.data.toList.drop 24 = dktX4_greatestHolder_1 := dk_seg dksX4_greatestHolder_0 24 rfl rfl
theorem dX4_greatestHolder_0 : decode cX4_greatestHolder 0 = .ok (.aload_n 0, 1) := dk_42 (dk_at dksX4_greatestHolder_0 0 rfl rfl)
theorem dX4_greatestHolder_1 : decode cX4_greatestHolder 1 = .ok (.iconst 0, 1) := dk_3 (dk_at dksX4_greatestHolder_0 1 rfl rfl)
theorem dX4_greatestHolder_2 : decode cX4_greatestHolder 2 = .ok (.putfield 1, 3) := dk_181 0 1 (dk_at dksX4_greatestHolder_0 2 rfl rfl)
theorem dX4_greatestHolder_5 : decode cX4_greatestHolder 5 = .ok (.iconst 0, 1) := dk_3 (dk_at dksX4_greatestHolder_0 5 rfl rfl)
theorem dX4_greatestHolder_6 : decode cX4_greatestHolder 6 = .ok (.istore_n 1, 1) := dk_60 (dk_at dksX4_greatestHolder_0 6 rfl rfl)
theorem dX4_greatestHolder_7 : decode cX4_greatestHolder 7 = .ok (.iconst 1, 1) := dk_4 (dk_at dksX4_greatestHolder_0 7 rfl rfl)
theorem dX4_greatestHolder_8 : decode cX4_greatestHolder 8 = .ok (.istore_n 2, 1) := dk_61 (dk_at dksX4_greatestHolder_0 8 rfl rfl)
theorem dX4_greatestHolder_9 : decode cX4_greatestHolder 9 = .ok (.iload_n 2, 1) := dk_28 (dk_at dksX4_greatestHolder_0 9 rfl rfl)
theorem dX4_greatestHolder_10 : decode cX4_greatestHolder 10 = .ok (.aload_n 0, 1) := dk_42 (dk_at dksX4_greatestHolder_0 10 rfl rfl)
theorem dX4_greatestHolder_11 : decode cX4_greatestHolder 11 = .ok (.getfield 13, 3) := dk_180 0 13 (dk_at dksX4_greatestHolder_0 11 rfl rfl)
theorem dX4_greatestHolder_14 : decode cX4_greatestHolder 14 = .ok (.iconst 1, 1) := dk_4 (dk_at dksX4_greatestHolder_0 14 rfl rfl)
theorem dX4_greatestHolder_15 : decode cX4_greatestHolder 15 = .ok (.iaload, 1) := dk_46 (dk_at dksX4_greatestHolder_0 15 rfl rfl)
theorem dX4_greatestHolder_16 : decode cX4_greatestHolder 16 = .ok (.if_icmp .ge 24, 3) := dk_162 0 24 (dk_at dksX4_greatestHolder_0 16 rfl rfl)
theorem dX4_greatestHolder_19 : decode cX4_greatestHolder 19 = .ok (.aload_n 0, 1) := dk_42 (dk_at dksX4_greatestHolder_0 19 rfl rfl)
theorem dX4_greatestHolder_20 : decode cX4_greatestHolder 20 = .ok (.iload_n 2, 1) := dk_28 (dk_at dksX4_greatestHolder_0 20 rfl rfl)
theorem dX4_greatestHolder_21 : decode cX4_greatestHolder 21 = .ok (.invokevirtual 274, 3) := dk_182 1 18 (dk_at dksX4_greatestHolder_0 21 rfl rfl)
theorem dX4_greatestHolder_24 : decode cX4_greatestHolder 24 = .ok (.aload_n 0, 1) := dk_42 (dk_at dksX4_greatestHolder_1 0 rfl rfl)
theorem dX4_greatestHolder_25 : decode cX4_greatestHolder 25 = .ok (.iload_n 1, 1) := dk_27 (dk_at dksX4_greatestHolder_1 1 rfl rfl)
theorem dX4_greatestHolder_26 : decode cX4_greatestHolder 26 = .ok (.invokevirtual 274, 3) := dk_182 1 18 (dk_at dksX4_greatestHolder_1 2 rfl rfl)
theorem dX4_greatestHolder_29 : decode cX4_greatestHolder 29 = .ok (.if_icmp .le 5, 3) := dk_164 0 5 (dk_at dksX4_greatestHolder_1 5 rfl rfl)
theorem dX4_greatestHolder_32 : decode cX4_greatestHolder 32 = .ok (.iload_n 2, 1) := dk_28 (dk_at dksX4_greatestHolder_1 8 rfl rfl)
theorem dX4_greatestHolder_33 : decode cX4_greatestHolder 33 = .ok (.istore_n 1, 1) := dk_60 (dk_at dksX4_greatestHolder_1 9 rfl rfl)
theorem dX4_greatestHolder_34 : decode cX4_greatestHolder 34 = .ok (.iinc 2 1, 3) := dk_132 2 1 (dk_at dksX4_greatestHolder_1 10 rfl rfl)
theorem dX4_greatestHolder_37 : decode cX4_greatestHolder 37 = .ok (.goto (-28), 3) := dk_167 255 228 (dk_at dksX4_greatestHolder_1 13 rfl rfl)
theorem dX4_greatestHolder_40 : decode cX4_greatestHolder 40 = .ok (.iload_n 1, 1) := dk_27 (dk_at dksX4_greatestHolder_1 16 rfl rfl)
theorem dX4_greatestHolder_41 : decode cX4_greatestHolder 41 = .ok (.ireturn, 1) := dk_172 (dk_at dksX4_greatestHolder_1 17 rfl rfl)
abbrev cX4_heldOf : ByteArray := prog_33_method_11_code
def yX4_heldOf : MethodName := ⟨RX4, "heldOf", "(I)I"⟩
def dkwX4_heldOf_1 : List UInt8 := [61, 132, 3, 1, 167, 255, 232, 28, 172]
abbrev dktX4_heldOf_1 : List UInt8 := dkwX4_heldOf_1 ++ []
def dkwX4_heldOf_0 : List UInt8 := [3, 61, 3, 62, 29, 42, 180, 0, 13, 3, 46, 162, 0, 20, 28, 42, 27, 7, 29, 96, 182, 0, 63, 96]
abbrev dktX4_heldOf_0 : List UInt8 := dkwX4_heldOf_0 ++ dktX4_heldOf_1
theorem dksX4_heldOf_0 : cX4_heldOf.data.toList.drop 0 = dktX4_heldOf_0 := by decide +kernel
theorem dksX4_heldOf_1 : cX4_heldOf.data.toList.drop 24 = dktX4_heldOf_1 := dk_seg dksX4_heldOf_0 24 rfl rfl
theorem dX4_heldOf_0 : decode cX4_heldOf 0 = .ok (.iconst 0, 1) := dk_3 (dk_at dksX4_heldOf_0 0 rfl rfl)
theorem dX4_heldOf_1 : decode cX4_heldOf 1 = .ok (.istore_n 2, 1) := dk_61 (dk_at dksX4_heldOf_0 1 rfl rfl)
theorem dX4_heldOf_2 : decode cX4_heldOf 2 = .ok (.iconst 0, 1) := dk_3 (dk_at dksX4_heldOf_0 2 rfl rfl)
theorem dX4_heldOf_3 : decode cX4_heldOf 3 = .ok (.istore_n 3, 1) := dk_62 (dk_at dksX4_heldOf_0 3 rfl rfl)
theorem dX4_heldOf_4 : decode cX4_heldOf 4 = .ok (.iload_n 3, 1) := dk_29 (dk_at dksX4_heldOf_0 4 rfl rfl)
theorem dX4_heldOf_5 : decode cX4_heldOf 5 = .ok (.aload_n 0, 1) := dk_42 (dk_at dksX4_heldOf_0 5 rfl rfl)
theorem dX4_heldOf_6 : decode cX4_heldOf 6 = .ok (.getfield 13, 3) := dk_180 0 13 (dk_at dksX4_heldOf_0 6 rfl rfl)
theorem dX4_heldOf_9 : decode cX4_heldOf 9 = .ok (.iconst 0, 1) := dk_3 (dk_at dksX4_heldOf_0 9 rfl rfl)
theorem dX4_heldOf_10 : decode cX4_heldOf 10 = .ok (.iaload, 1) := dk_46 (dk_at dksX4_heldOf_0 10 rfl rfl)
theorem dX4_heldOf_11 : decode cX4_heldOf 11 = .ok (.if_icmp .ge 20, 3) := dk_162 0 20 (dk_at dksX4_heldOf_0 11 rfl rfl)
theorem dX4_heldOf_14 : decode cX4_heldOf 14 = .ok (.iload_n 2, 1) := dk_28 (dk_at dksX4_heldOf_0 14 rfl rfl)
theorem dX4_heldOf_15 : decode cX4_heldOf 15 = .ok (.aload_n 0, 1) := dk_42 (dk_at dksX4_heldOf_0 15 rfl rfl)
theorem dX4_heldOf_16 : decode cX4_heldOf 16 = .ok (.iload_n 1, 1) := dk_27 (dk_at dksX4_heldOf_0 16 rfl rfl)
theorem dX4_heldOf_17 : decode cX4_heldOf 17 = .ok (.iconst 4, 1) := dk_7 (dk_at dksX4_heldOf_0 17 rfl rfl)
theorem dX4_heldOf_18 : decode cX4_heldOf 18 = .ok (.iload_n 3, 1) := dk_29 (dk_at dksX4_heldOf_0 18 rfl rfl)
theorem dX4_heldOf_19 : decode cX4_heldOf 19 = .ok (.iadd, 1) := dk_96 (dk_at dksX4_heldOf_0 19 rfl rfl)
theorem dX4_heldOf_20 : decode cX4_heldOf 20 = .ok (.invokevirtual 63, 3) := dk_182 0 63 (dk_at dksX4_heldOf_0 20 rfl rfl)
theorem dX4_heldOf_23 : decode cX4_heldOf 23 = .ok (.iadd, 1) := dk_96 (dk_at dksX4_heldOf_0 23 rfl rfl)
theorem dX4_heldOf_24 : decode cX4_heldOf 24 = .ok (.istore_n 2, 1) := dk_61 (dk_at dksX4_heldOf_1 0 rfl rfl)
theorem dX4_heldOf_25 : decode cX4_heldOf 25 = .ok (.iinc 3 1, 3) := dk_132 3 1 (dk_at dksX4_heldOf_1 1 rfl rfl)
theorem dX4_heldOf_28 : decode cX4_heldOf 28 = .ok (.goto (-24), 3) := dk_167 255 232 (dk_at dksX4_heldOf_1 4 rfl rfl)
theorem dX4_heldOf_31 : decode cX4_heldOf 31 = .ok (.iload_n 2, 1) := dk_28 (dk_at dksX4_heldOf_1 7 rfl rfl)
theorem dX4_heldOf_32 : decode cX4_heldOf 32 = .ok (.ireturn, 1) := dk_172 (dk_at dksX4_heldOf_1 8 rfl rfl)
abbrev cX4_meanNeed : ByteArray := prog_33_method_81_code
def yX4_meanNeed : MethodName := ⟨RX4, "meanNeed", "()D"⟩
def dkwX4_meanNeed_2 : List UInt8 := [132, 2, 1, 167, 255, 216, 27, 135, 42, 180, 0, 13, 4, 46, 135, 111, 175]
abbrev dktX4_meanNeed_2 : List UInt8 := dkwX4_meanNeed_2 ++ []
def dkwX4_meanNeed_1 : List UInt8 := [180, 0, 13, 3, 46, 162, 0, 18, 27, 42, 28, 29, 182, 0, 77, 96, 60, 132, 3, 1, 167, 255, 234]
abbrev dktX4_meanNeed_1 : List UInt8 := dkwX4_meanNeed_1 ++ dktX4_meanNeed_2
def dkwX4_meanNeed_0 : List UInt8 := [42, 3, 181, 0, 1, 3, 60, 3, 61, 28, 42, 180, 0, 13, 4, 46, 162, 0, 36, 3, 62, 29, 42]
abbrev dktX4_meanNeed_0 : List UInt8 := dkwX4_meanNeed_0 ++ dktX4_meanNeed_1
theorem dksX4_meanNeed_0 : cX4_meanNeed.data.toList.drop 0 = dktX4_meanNeed_0 := by decide +kernel
theorem dksX4_meanNeed_1 : cX4_meanNeed.data.toList.drop 23 = dktX4_meanNeed_1 := dk_seg dksX4_meanNeed_0 23 rfl rfl
theorem dksX4_meanNeed_2 : cX4_meanNeed.data.toList.drop 46 = dktX4_meanNeed_2 := dk_seg dksX4_meanNeed_1 23 rfl rfl
theorem dX4_meanNeed_0 : decode cX4_meanNeed 0 = .ok (.aload_n 0, 1) := dk_42 (dk_at dksX4_meanNeed_0 0 rfl rfl)
theorem dX4_meanNeed_1 : decode cX4_meanNeed 1 = .ok (.iconst 0, 1) := dk_3 (dk_at dksX4_meanNeed_0 1 rfl rfl)
theorem dX4_meanNeed_2 : decode cX4_meanNeed 2 = .ok (.putfield 1, 3) := dk_181 0 1 (dk_at dksX4_meanNeed_0 2 rfl rfl)
theorem dX4_meanNeed_5 : decode cX4_meanNeed 5 = .ok (.iconst 0, 1) := dk_3 (dk_at dksX4_meanNeed_0 5 rfl rfl)
theorem dX4_meanNeed_6 : decode cX4_meanNeed 6 = .ok (.istore_n 1, 1) := dk_60 (dk_at dksX4_meanNeed_0 6 rfl rfl)
theorem dX4_meanNeed_7 : decode cX4_meanNeed 7 = .ok (.iconst 0, 1) := dk_3 (dk_at dksX4_meanNeed_0 7 rfl rfl)
theorem dX4_meanNeed_8 : decode cX4_meanNeed 8 = .ok (.istore_n 2, 1) := dk_61 (dk_at dksX4_meanNeed_0 8 rfl rfl)
theorem dX4_meanNeed_9 : decode cX4_meanNeed 9 = .ok (.iload_n 2, 1) := dk_28 (dk_at dksX4_meanNeed_0 9 rfl rfl)
theorem dX4_meanNeed_10 : decode cX4_meanNeed 10 = .ok (.aload_n 0, 1) := dk_42 (dk_at dksX4_meanNeed_0 10 rfl rfl)
theorem dX4_meanNeed_11 : decode cX4_meanNeed 11 = .ok (.getfield 13, 3) := dk_180 0 13 (dk_at dksX4_meanNeed_0 11 rfl rfl)
theorem dX4_meanNeed_14 : decode cX4_meanNeed 14 = .ok (.iconst 1, 1) := dk_4 (dk_at dksX4_meanNeed_0 14 rfl rfl)
theorem dX4_meanNeed_15 : decode cX4_meanNeed 15 = .ok (.iaload, 1) := dk_46 (dk_at dksX4_meanNeed_0 15 rfl rfl)
theorem dX4_meanNeed_16 : decode cX4_meanNeed 16 = .ok (.if_icmp .ge 36, 3) := dk_162 0 36 (dk_at dksX4_meanNeed_0 16 rfl rfl)
theorem dX4_meanNeed_19 : decode cX4_meanNeed 19 = .ok (.iconst 0, 1) := dk_3 (dk_at dksX4_meanNeed_0 19 rfl rfl)
theorem dX4_meanNeed_20 : decode cX4_meanNeed 20 = .ok (.istore_n 3, 1) := dk_62 (dk_at dksX4_meanNeed_0 20 rfl rfl)
theorem dX4_meanNeed_21 : decode cX4_meanNeed 21 = .ok (.iload_n 3, 1) := dk_29 (dk_at dksX4_meanNeed_0 21 rfl rfl)
theorem dX4_meanNeed_22 : decode cX4_meanNeed 22 = .ok (.aload_n 0, 1) := dk_42 (dk_at dksX4_meanNeed_0 22 rfl rfl)
theorem dX4_meanNeed_23 : decode cX4_meanNeed 23 = .ok (.getfield 13, 3) := dk_180 0 13 (dk_at dksX4_meanNeed_1 0 rfl rfl)
theorem dX4_meanNeed_26 : decode cX4_meanNeed 26 = .ok (.iconst 0, 1) := dk_3 (dk_at dksX4_meanNeed_1 3 rfl rfl)
theorem dX4_meanNeed_27 : decode cX4_meanNeed 27 = .ok (.iaload, 1) := dk_46 (dk_at dksX4_meanNeed_1 4 rfl rfl)
theorem dX4_meanNeed_28 : decode cX4_meanNeed 28 = .ok (.if_icmp .ge 18, 3) := dk_162 0 18 (dk_at dksX4_meanNeed_1 5 rfl rfl)
theorem dX4_meanNeed_31 : decode cX4_meanNeed 31 = .ok (.iload_n 1, 1) := dk_27 (dk_at dksX4_meanNeed_1 8 rfl rfl)
theorem dX4_meanNeed_32 : decode cX4_meanNeed 32 = .ok (.aload_n 0, 1) := dk_42 (dk_at dksX4_meanNeed_1 9 rfl rfl)
theorem dX4_meanNeed_33 : decode cX4_meanNeed 33 = .ok (.iload_n 2, 1) := dk_28 (dk_at dksX4_meanNeed_1 10 rfl rfl)
theorem dX4_meanNeed_34 : decode cX4_meanNeed 34 = .ok (.iload_n 3, 1) := dk_29 (dk_at dksX4_meanNeed_1 11 rfl rfl)
theorem dX4_meanNeed_35 : decode cX4_meanNeed 35 = .ok (.invokevirtual 77, 3) := dk_182 0 77 (dk_at dksX4_meanNeed_1 12 rfl rfl)
theorem dX4_meanNeed_38 : decode cX4_meanNeed 38 = .ok (.iadd, 1) := dk_96 (dk_at dksX4_meanNeed_1 15 rfl rfl)
theorem dX4_meanNeed_39 : decode cX4_meanNeed 39 = .ok (.istore_n 1, 1) := dk_60 (dk_at dksX4_meanNeed_1 16 rfl rfl)
theorem dX4_meanNeed_40 : decode cX4_meanNeed 40 = .ok (.iinc 3 1, 3) := dk_132 3 1 (dk_at dksX4_meanNeed_1 17 rfl rfl)
theorem dX4_meanNeed_43 : decode cX4_meanNeed 43 = .ok (.goto (-22), 3) := dk_167 255 234 (dk_at dksX4_meanNeed_1 20 rfl rfl)
theorem dX4_meanNeed_46 : decode cX4_meanNeed 46 = .ok (.iinc 2 1, 3) := dk_132 2 1 (dk_at dksX4_meanNeed_2 0 rfl rfl)
theorem dX4_meanNeed_49 : decode cX4_meanNeed 49 = .ok (.goto (-40), 3) := dk_167 255 216 (dk_at dksX4_meanNeed_2 3 rfl rfl)
theorem dX4_meanNeed_52 : decode cX4_meanNeed 52 = .ok (.iload_n 1, 1) := dk_27 (dk_at dksX4_meanNeed_2 6 rfl rfl)
theorem dX4_meanNeed_53 : decode cX4_meanNeed 53 = .ok (.i2d, 1) := dk_135 (dk_at dksX4_meanNeed_2 7 rfl rfl)
theorem dX4_meanNeed_54 : decode cX4_meanNeed 54 = .ok (.aload_n 0, 1) := dk_42 (dk_at dksX4_meanNeed_2 8 rfl rfl)
theorem dX4_meanNeed_55 : decode cX4_meanNeed 55 = .ok (.getfield 13, 3) := dk_180 0 13 (dk_at dksX4_meanNeed_2 9 rfl rfl)
theorem dX4_meanNeed_58 : decode cX4_meanNeed 58 = .ok (.iconst 1, 1) := dk_4 (dk_at dksX4_meanNeed_2 12 rfl rfl)
theorem dX4_meanNeed_59 : decode cX4_meanNeed 59 = .ok (.iaload, 1) := dk_46 (dk_at dksX4_meanNeed_2 13 rfl rfl)
theorem dX4_meanNeed_60 : decode cX4_meanNeed 60 = .ok (.i2d, 1) := dk_135 (dk_at dksX4_meanNeed_2 14 rfl rfl)
theorem dX4_meanNeed_61 : decode cX4_meanNeed 61 = .ok (.ddiv, 1) := dk_111 (dk_at dksX4_meanNeed_2 15 rfl rfl)
theorem dX4_meanNeed_62 : decode cX4_meanNeed 62 = .ok (.dreturn, 1) := dk_175 (dk_at dksX4_meanNeed_2 16 rfl rfl)
abbrev cX4_waitingCount : ByteArray := prog_33_method_82_code
def yX4_waitingCount : MethodName := ⟨RX4, "waitingCount", "()I"⟩
def dkwX4_waitingCount_0 : List UInt8 := [42, 3, 181, 0, 1, 42, 182, 0, 118, 172]
abbrev dktX4_waitingCount_0 : List UInt8 := dkwX4_waitingCount_0 ++ []
theorem dksX4_waitingCount_0 : cX4_waitingCount.data.toList.drop 0 = dktX4_waitingCount_0 := by decide +kernel
theorem dX4_waitingCount_0 : decode cX4_waitingCount 0 = .ok (.aload_n 0, 1) := dk_42 (dk_at dksX4_waitingCount_0 0 rfl rfl)
theorem dX4_waitingCount_1 : decode cX4_waitingCount 1 = .ok (.iconst 0, 1) := dk_3 (dk_at dksX4_waitingCount_0 1 rfl rfl)
theorem dX4_waitingCount_2 : decode cX4_waitingCount 2 = .ok (.putfield 1, 3) := dk_181 0 1 (dk_at dksX4_waitingCount_0 2 rfl rfl)
theorem dX4_waitingCount_5 : decode cX4_waitingCount 5 = .ok (.aload_n 0, 1) := dk_42 (dk_at dksX4_waitingCount_0 5 rfl rfl)
theorem dX4_waitingCount_6 : decode cX4_waitingCount 6 = .ok (.invokevirtual 118, 3) := dk_182 0 118 (dk_at dksX4_waitingCount_0 6 rfl rfl)
theorem dX4_waitingCount_9 : decode cX4_waitingCount 9 = .ok (.ireturn, 1) := dk_172 (dk_at dksX4_waitingCount_0 9 rfl rfl)
abbrev cX4_waiting : ByteArray := prog_33_method_28_code
def yX4_waiting : MethodName := ⟨RX4, "waiting", "()I"⟩
def dkwX4_waiting_1 : List UInt8 := [60, 132, 2, 1, 167, 255, 232, 27, 172]
abbrev dktX4_waiting_1 : List UInt8 := dkwX4_waiting_1 ++ []
def dkwX4_waiting_0 : List UInt8 := [3, 60, 3, 61, 28, 42, 180, 0, 13, 4, 46, 162, 0, 20, 27, 42, 28, 182, 0, 107, 184, 0, 111, 96]
abbrev dktX4_waiting_0 : List UInt8 := dkwX4_waiting_0 ++ dktX4_waiting_1
theorem dksX4_waiting_0 : cX4_waiting.data.toList.drop 0 = dktX4_waiting_0 := by decide +kernel
theorem dksX4_waiting_1 : cX4_waiting.data.toList.drop 24 = dktX4_waiting_1 := dk_seg dksX4_waiting_0 24 rfl rfl
theorem dX4_waiting_0 : decode cX4_waiting 0 = .ok (.iconst 0, 1) := dk_3 (dk_at dksX4_waiting_0 0 rfl rfl)
theorem dX4_waiting_1 : decode cX4_waiting 1 = .ok (.istore_n 1, 1) := dk_60 (dk_at dksX4_waiting_0 1 rfl rfl)
theorem dX4_waiting_2 : decode cX4_waiting 2 = .ok (.iconst 0, 1) := dk_3 (dk_at dksX4_waiting_0 2 rfl rfl)
theorem dX4_waiting_3 : decode cX4_waiting 3 = .ok (.istore_n 2, 1) := dk_61 (dk_at dksX4_waiting_0 3 rfl rfl)
theorem dX4_waiting_4 : decode cX4_waiting 4 = .ok (.iload_n 2, 1) := dk_28 (dk_at dksX4_waiting_0 4 rfl rfl)
theorem dX4_waiting_5 : decode cX4_waiting 5 = .ok (.aload_n 0, 1) := dk_42 (dk_at dksX4_waiting_0 5 rfl rfl)
theorem dX4_waiting_6 : decode cX4_waiting 6 = .ok (.getfield 13, 3) := dk_180 0 13 (dk_at dksX4_waiting_0 6 rfl rfl)
theorem dX4_waiting_9 : decode cX4_waiting 9 = .ok (.iconst 1, 1) := dk_4 (dk_at dksX4_waiting_0 9 rfl rfl)
theorem dX4_waiting_10 : decode cX4_waiting 10 = .ok (.iaload, 1) := dk_46 (dk_at dksX4_waiting_0 10 rfl rfl)
theorem dX4_waiting_11 : decode cX4_waiting 11 = .ok (.if_icmp .ge 20, 3) := dk_162 0 20 (dk_at dksX4_waiting_0 11 rfl rfl)
theorem dX4_waiting_14 : decode cX4_waiting 14 = .ok (.iload_n 1, 1) := dk_27 (dk_at dksX4_waiting_0 14 rfl rfl)
theorem dX4_waiting_15 : decode cX4_waiting 15 = .ok (.aload_n 0, 1) := dk_42 (dk_at dksX4_waiting_0 15 rfl rfl)
theorem dX4_waiting_16 : decode cX4_waiting 16 = .ok (.iload_n 2, 1) := dk_28 (dk_at dksX4_waiting_0 16 rfl rfl)
theorem dX4_waiting_17 : decode cX4_waiting 17 = .ok (.invokevirtual 107, 3) := dk_182 0 107 (dk_at dksX4_waiting_0 17 rfl rfl)
theorem dX4_waiting_20 : decode cX4_waiting 20 = .ok (.invokestatic 111, 3) := dk_184 0 111 (dk_at dksX4_waiting_0 20 rfl rfl)
theorem dX4_waiting_23 : decode cX4_waiting 23 = .ok (.iadd, 1) := dk_96 (dk_at dksX4_waiting_0 23 rfl rfl)
theorem dX4_waiting_24 : decode cX4_waiting 24 = .ok (.istore_n 1, 1) := dk_60 (dk_at dksX4_waiting_1 0 rfl rfl)
theorem dX4_waiting_25 : decode cX4_waiting 25 = .ok (.iinc 2 1, 3) := dk_132 2 1 (dk_at dksX4_waiting_1 1 rfl rfl)
theorem dX4_waiting_28 : decode cX4_waiting 28 = .ok (.goto (-24), 3) := dk_167 255 232 (dk_at dksX4_waiting_1 4 rfl rfl)
theorem dX4_waiting_31 : decode cX4_waiting 31 = .ok (.iload_n 1, 1) := dk_27 (dk_at dksX4_waiting_1 7 rfl rfl)
theorem dX4_waiting_32 : decode cX4_waiting 32 = .ok (.ireturn, 1) := dk_172 (dk_at dksX4_waiting_1 8 rfl rfl)
abbrev cX4_isWaiting : ByteArray := prog_33_method_22_code
def yX4_isWaiting : MethodName := ⟨RX4, "isWaiting", "(I)Z"⟩
def dkwX4_isWaiting_0 : List UInt8 := [42, 27, 16, 8, 182, 0, 63, 158, 0, 7, 4, 167, 0, 4, 3, 172]
abbrev dktX4_isWaiting_0 : List UInt8 := dkwX4_isWaiting_0 ++ []
theorem dksX4_isWaiting_0 : cX4_isWaiting.data.toList.drop 0 = dktX4_isWaiting_0 := by decide +kernel
theorem dX4_isWaiting_0 : decode cX4_isWaiting 0 = .ok (.aload_n 0, 1) := dk_42 (dk_at dksX4_isWaiting_0 0 rfl rfl)
theorem dX4_isWaiting_1 : decode cX4_isWaiting 1 = .ok (.iload_n 1, 1) := dk_27 (dk_at dksX4_isWaiting_0 1 rfl rfl)
theorem dX4_isWaiting_2 : decode cX4_isWaiting 2 = .ok (.bipush 8, 2) := dk_16 8 (dk_at dksX4_isWaiting_0 2 rfl rfl)
theorem dX4_isWaiting_4 : decode cX4_isWaiting 4 = .ok (.invokevirtual 63, 3) := dk_182 0 63 (dk_at dksX4_isWaiting_0 4 rfl rfl)
theorem dX4_isWaiting_7 : decode cX4_isWaiting 7 = .ok (.ifCond .le 7, 3) := dk_158 0 7 (dk_at dksX4_isWaiting_0 7 rfl rfl)
theorem dX4_isWaiting_10 : decode cX4_isWaiting 10 = .ok (.iconst 1, 1) := dk_4 (dk_at dksX4_isWaiting_0 10 rfl rfl)
theorem dX4_isWaiting_11 : decode cX4_isWaiting 11 = .ok (.goto 4, 3) := dk_167 0 4 (dk_at dksX4_isWaiting_0 11 rfl rfl)
theorem dX4_isWaiting_14 : decode cX4_isWaiting 14 = .ok (.iconst 0, 1) := dk_3 (dk_at dksX4_isWaiting_0 14 rfl rfl)
theorem dX4_isWaiting_15 : decode cX4_isWaiting 15 = .ok (.ireturn, 1) := dk_172 (dk_at dksX4_isWaiting_0 15 rfl rfl)
abbrev cX4_waitingOffice : ByteArray := prog_33_method_83_code
def yX4_waitingOffice : MethodName := ⟨RX4, "waitingOffice", "(I)I"⟩
def dkwX4_waitingOffice_0 : List UInt8 := [42, 3, 181, 0, 1, 42, 27, 182, 0, 121, 172]
abbrev dktX4_waitingOffice_0 : List UInt8 := dkwX4_waitingOffice_0 ++ []
theorem dksX4_waitingOffice_0 : cX4_waitingOffice.data.toList.drop 0 = dktX4_waitingOffice_0 := by decide +kernel
theorem dX4_waitingOffice_0 : decode cX4_waitingOffice 0 = .ok (.aload_n 0, 1) := dk_42 (dk_at dksX4_waitingOffice_0 0 rfl rfl)
theorem dX4_waitingOffice_1 : decode cX4_waitingOffice 1 = .ok (.iconst 0, 1) := dk_3 (dk_at dksX4_waitingOffice_0 1 rfl rfl)
theorem dX4_waitingOffice_2 : decode cX4_waitingOffice 2 = .ok (.putfield 1, 3) := dk_181 0 1 (dk_at dksX4_waitingOffice_0 2 rfl rfl)
theorem dX4_waitingOffice_5 : decode cX4_waitingOffice 5 = .ok (.aload_n 0, 1) := dk_42 (dk_at dksX4_waitingOffice_0 5 rfl rfl)
theorem dX4_waitingOffice_6 : decode cX4_waitingOffice 6 = .ok (.iload_n 1, 1) := dk_27 (dk_at dksX4_waitingOffice_0 6 rfl rfl)
theorem dX4_waitingOffice_7 : decode cX4_waitingOffice 7 = .ok (.invokevirtual 121, 3) := dk_182 0 121 (dk_at dksX4_waitingOffice_0 7 rfl rfl)
theorem dX4_waitingOffice_10 : decode cX4_waitingOffice 10 = .ok (.ireturn, 1) := dk_172 (dk_at dksX4_waitingOffice_0 10 rfl rfl)
abbrev cX4_waitingAt : ByteArray := prog_33_method_30_code
def yX4_waitingAt : MethodName := ⟨RX4, "waitingAt", "(I)I"⟩
def dkwX4_waitingAt_1 : List UInt8 := [182, 0, 115, 27, 160, 0, 5, 28, 172, 132, 2, 1, 167, 255, 224, 2, 172]
abbrev dktX4_waitingAt_1 : List UInt8 := dkwX4_waitingAt_1 ++ []
def dkwX4_waitingAt_0 : List UInt8 := [3, 61, 28, 42, 180, 0, 13, 4, 46, 162, 0, 28, 42, 28, 182, 0, 107, 153, 0, 14, 42, 28]
abbrev dktX4_waitingAt_0 : List UInt8 := dkwX4_waitingAt_0 ++ dktX4_waitingAt_1
theorem dksX4_waitingAt_0 : cX4_waitingAt.data.toList.drop 0 = dktX4_waitingAt_0 := by decide +kernel
theorem dksX4_waitingAt_1 : cX4_waitingAt.data.toList.drop 22 = dktX4_waitingAt_1 := dk_seg dksX4_waitingAt_0 22 rfl rfl
theorem dX4_waitingAt_0 : decode cX4_waitingAt 0 = .ok (.iconst 0, 1) := dk_3 (dk_at dksX4_waitingAt_0 0 rfl rfl)
theorem dX4_waitingAt_1 : decode cX4_waitingAt 1 = .ok (.istore_n 2, 1) := dk_61 (dk_at dksX4_waitingAt_0 1 rfl rfl)
theorem dX4_waitingAt_2 : decode cX4_waitingAt 2 = .ok (.iload_n 2, 1) := dk_28 (dk_at dksX4_waitingAt_0 2 rfl rfl)
theorem dX4_waitingAt_3 : decode cX4_waitingAt 3 = .ok (.aload_n 0, 1) := dk_42 (dk_at dksX4_waitingAt_0 3 rfl rfl)
theorem dX4_waitingAt_4 : decode cX4_waitingAt 4 = .ok (.getfield 13, 3) := dk_180 0 13 (dk_at dksX4_waitingAt_0 4 rfl rfl)
theorem dX4_waitingAt_7 : decode cX4_waitingAt 7 = .ok (.iconst 1, 1) := dk_4 (dk_at dksX4_waitingAt_0 7 rfl rfl)
theorem dX4_waitingAt_8 : decode cX4_waitingAt 8 = .ok (.iaload, 1) := dk_46 (dk_at dksX4_waitingAt_0 8 rfl rfl)
theorem dX4_waitingAt_9 : decode cX4_waitingAt 9 = .ok (.if_icmp .ge 28, 3) := dk_162 0 28 (dk_at dksX4_waitingAt_0 9 rfl rfl)
theorem dX4_waitingAt_12 : decode cX4_waitingAt 12 = .ok (.aload_n 0, 1) := dk_42 (dk_at dksX4_waitingAt_0 12 rfl rfl)
theorem dX4_waitingAt_13 : decode cX4_waitingAt 13 = .ok (.iload_n 2, 1) := dk_28 (dk_at dksX4_waitingAt_0 13 rfl rfl)
theorem dX4_waitingAt_14 : decode cX4_waitingAt 14 = .ok (.invokevirtual 107, 3) := dk_182 0 107 (dk_at dksX4_waitingAt_0 14 rfl rfl)
theorem dX4_waitingAt_17 : decode cX4_waitingAt 17 = .ok (.ifCond .eq 14, 3) := dk_153 0 14 (dk_at dksX4_waitingAt_0 17 rfl rfl)
theorem dX4_waitingAt_20 : decode cX4_waitingAt 20 = .ok (.aload_n 0, 1) := dk_42 (dk_at dksX4_waitingAt_0 20 rfl rfl)
theorem dX4_waitingAt_21 : decode cX4_waitingAt 21 = .ok (.iload_n 2, 1) := dk_28 (dk_at dksX4_waitingAt_0 21 rfl rfl)
theorem dX4_waitingAt_22 : decode cX4_waitingAt 22 = .ok (.invokevirtual 115, 3) := dk_182 0 115 (dk_at dksX4_waitingAt_1 0 rfl rfl)
theorem dX4_waitingAt_25 : decode cX4_waitingAt 25 = .ok (.iload_n 1, 1) := dk_27 (dk_at dksX4_waitingAt_1 3 rfl rfl)
theorem dX4_waitingAt_26 : decode cX4_waitingAt 26 = .ok (.if_icmp .ne 5, 3) := dk_160 0 5 (dk_at dksX4_waitingAt_1 4 rfl rfl)
theorem dX4_waitingAt_29 : decode cX4_waitingAt 29 = .ok (.iload_n 2, 1) := dk_28 (dk_at dksX4_waitingAt_1 7 rfl rfl)
theorem dX4_waitingAt_30 : decode cX4_waitingAt 30 = .ok (.ireturn, 1) := dk_172 (dk_at dksX4_waitingAt_1 8 rfl rfl)
theorem dX4_waitingAt_31 : decode cX4_waitingAt 31 = .ok (.iinc 2 1, 3) := dk_132 2 1 (dk_at dksX4_waitingAt_1 9 rfl rfl)
theorem dX4_waitingAt_34 : decode cX4_waitingAt 34 = .ok (.goto (-32), 3) := dk_167 255 224 (dk_at dksX4_waitingAt_1 12 rfl rfl)
theorem dX4_waitingAt_37 : decode cX4_waitingAt 37 = .ok (.iconst (-1), 1) := dk_2 (dk_at dksX4_waitingAt_1 15 rfl rfl)
theorem dX4_waitingAt_38 : decode cX4_waitingAt 38 = .ok (.ireturn, 1) := dk_172 (dk_at dksX4_waitingAt_1 16 rfl rfl)
abbrev cX4_placeOf : ByteArray := prog_33_method_29_code
def yX4_placeOf : MethodName := ⟨RX4, "placeOf", "(I)I"⟩
def dkwX4_placeOf_2 : List UInt8 := [96, 61, 132, 3, 1, 167, 255, 207, 28, 172]
abbrev dktX4_placeOf_2 : List UInt8 := dkwX4_placeOf_2 ++ []
def dkwX4_placeOf_1 : List UInt8 := [29, 16, 10, 182, 0, 63, 42, 27, 16, 10, 182, 0, 63, 162, 0, 7, 4, 167, 0, 4, 3, 184, 0, 111]
abbrev dktX4_placeOf_1 : List UInt8 := dkwX4_placeOf_1 ++ dktX4_placeOf_2
def dkwX4_placeOf_0 : List UInt8 := [3, 61, 3, 62, 29, 42, 180, 0, 13, 4, 46, 162, 0, 45, 28, 42, 29, 182, 0, 107, 153, 0, 24, 42]
abbrev dktX4_placeOf_0 : List UInt8 := dkwX4_placeOf_0 ++ dktX4_placeOf_1
theorem dksX4_placeOf_0 : cX4_placeOf.data.toList.drop 0 = dktX4_placeOf_0 := by decide +kernel
theorem dksX4_placeOf_1 : cX4_placeOf.data.toList.drop 24 = dktX4_placeOf_1 := dk_seg dksX4_placeOf_0 24 rfl rfl
theorem dksX4_placeOf_2 : cX4_placeOf.data.toList.drop 48 = dktX4_placeOf_2 := dk_seg dksX4_placeOf_1 24 rfl rfl
theorem dX4_placeOf_0 : decode cX4_placeOf 0 = .ok (.iconst 0, 1) := dk_3 (dk_at dksX4_placeOf_0 0 rfl rfl)
theorem dX4_placeOf_1 : decode cX4_placeOf 1 = .ok (.istore_n 2, 1) := dk_61 (dk_at dksX4_placeOf_0 1 rfl rfl)
theorem dX4_placeOf_2 : decode cX4_placeOf 2 = .ok (.iconst 0, 1) := dk_3 (dk_at dksX4_placeOf_0 2 rfl rfl)
theorem dX4_placeOf_3 : decode cX4_placeOf 3 = .ok (.istore_n 3, 1) := dk_62 (dk_at dksX4_placeOf_0 3 rfl rfl)
theorem dX4_placeOf_4 : decode cX4_placeOf 4 = .ok (.iload_n 3, 1) := dk_29 (dk_at dksX4_placeOf_0 4 rfl rfl)
theorem dX4_placeOf_5 : decode cX4_placeOf 5 = .ok (.aload_n 0, 1) := dk_42 (dk_at dksX4_placeOf_0 5 rfl rfl)
theorem dX4_placeOf_6 : decode cX4_placeOf 6 = .ok (.getfield 13, 3) := dk_180 0 13 (dk_at dksX4_placeOf_0 6 rfl rfl)
theorem dX4_placeOf_9 : decode cX4_placeOf 9 = .ok (.iconst 1, 1) := dk_4 (dk_at dksX4_placeOf_0 9 rfl rfl)
theorem dX4_placeOf_10 : decode cX4_placeOf 10 = .ok (.iaload, 1) := dk_46 (dk_at dksX4_placeOf_0 10 rfl rfl)
theorem dX4_placeOf_11 : decode cX4_placeOf 11 = .ok (.if_icmp .ge 45, 3) := dk_162 0 45 (dk_at dksX4_placeOf_0 11 rfl rfl)
theorem dX4_placeOf_14 : decode cX4_placeOf 14 = .ok (.iload_n 2, 1) := dk_28 (dk_at dksX4_placeOf_0 14 rfl rfl)
theorem dX4_placeOf_15 : decode cX4_placeOf 15 = .ok (.aload_n 0, 1) := dk_42 (dk_at dksX4_placeOf_0 15 rfl rfl)
theorem dX4_placeOf_16 : decode cX4_placeOf 16 = .ok (.iload_n 3, 1) := dk_29 (dk_at dksX4_placeOf_0 16 rfl rfl)
theorem dX4_placeOf_17 : decode cX4_placeOf 17 = .ok (.invokevirtual 107, 3) := dk_182 0 107 (dk_at dksX4_placeOf_0 17 rfl rfl)
theorem dX4_placeOf_20 : decode cX4_placeOf 20 = .ok (.ifCond .eq 24, 3) := dk_153 0 24 (dk_at dksX4_placeOf_0 20 rfl rfl)
theorem dX4_placeOf_23 : decode cX4_placeOf 23 = .ok (.aload_n 0, 1) := dk_42 (dk_at dksX4_placeOf_0 23 rfl rfl)
theorem dX4_placeOf_24 : decode cX4_placeOf 24 = .ok (.iload_n 3, 1) := dk_29 (dk_at dksX4_placeOf_1 0 rfl rfl)
theorem dX4_placeOf_25 : decode cX4_placeOf 25 = .ok (.bipush 10, 2) := dk_16 10 (dk_at dksX4_placeOf_1 1 rfl rfl)
theorem dX4_placeOf_27 : decode cX4_placeOf 27 = .ok (.invokevirtual 63, 3) := dk_182 0 63 (dk_at dksX4_placeOf_1 3 rfl rfl)
theorem dX4_placeOf_30 : decode cX4_placeOf 30 = .ok (.aload_n 0, 1) := dk_42 (dk_at dksX4_placeOf_1 6 rfl rfl)
theorem dX4_placeOf_31 : decode cX4_placeOf 31 = .ok (.iload_n 1, 1) := dk_27 (dk_at dksX4_placeOf_1 7 rfl rfl)
theorem dX4_placeOf_32 : decode cX4_placeOf 32 = .ok (.bipush 10, 2) := dk_16 10 (dk_at dksX4_placeOf_1 8 rfl rfl)
theorem dX4_placeOf_34 : decode cX4_placeOf 34 = .ok (.invokevirtual 63, 3) := dk_182 0 63 (dk_at dksX4_placeOf_1 10 rfl rfl)
theorem dX4_placeOf_37 : decode cX4_placeOf 37 = .ok (.if_icmp .ge 7, 3) := dk_162 0 7 (dk_at dksX4_placeOf_1 13 rfl rfl)
theorem dX4_placeOf_40 : decode cX4_placeOf 40 = .ok (.iconst 1, 1) := dk_4 (dk_at dksX4_placeOf_1 16 rfl rfl)
theorem dX4_placeOf_41 : decode cX4_placeOf 41 = .ok (.goto 4, 3) := dk_167 0 4 (dk_at dksX4_placeOf_1 17 rfl rfl)
theorem dX4_placeOf_44 : decode cX4_placeOf 44 = .ok (.iconst 0, 1) := dk_3 (dk_at dksX4_placeOf_1 20 rfl rfl)
theorem dX4_placeOf_45 : decode cX4_placeOf 45 = .ok (.invokestatic 111, 3) := dk_184 0 111 (dk_at dksX4_placeOf_1 21 rfl rfl)
theorem dX4_placeOf_48 : decode cX4_placeOf 48 = .ok (.iadd, 1) := dk_96 (dk_at dksX4_placeOf_2 0 rfl rfl)
theorem dX4_placeOf_49 : decode cX4_placeOf 49 = .ok (.istore_n 2, 1) := dk_61 (dk_at dksX4_placeOf_2 1 rfl rfl)
theorem dX4_placeOf_50 : decode cX4_placeOf 50 = .ok (.iinc 3 1, 3) := dk_132 3 1 (dk_at dksX4_placeOf_2 2 rfl rfl)
theorem dX4_placeOf_53 : decode cX4_placeOf 53 = .ok (.goto (-49), 3) := dk_167 255 207 (dk_at dksX4_placeOf_2 5 rfl rfl)
theorem dX4_placeOf_56 : decode cX4_placeOf 56 = .ok (.iload_n 2, 1) := dk_28 (dk_at dksX4_placeOf_2 8 rfl rfl)
theorem dX4_placeOf_57 : decode cX4_placeOf 57 = .ok (.ireturn, 1) := dk_172 (dk_at dksX4_placeOf_2 9 rfl rfl)
abbrev cX4_waitsForKind : ByteArray := prog_33_method_84_code
def yX4_waitsForKind : MethodName := ⟨RX4, "waitsForKind", "(I)I"⟩
def dkwX4_waitsForKind_1 : List UInt8 := [4, 100, 172]
abbrev dktX4_waitsForKind_1 : List UInt8 := dkwX4_waitsForKind_1 ++ []
def dkwX4_waitsForKind_0 : List UInt8 := [42, 3, 181, 0, 1, 42, 27, 182, 1, 12, 153, 0, 7, 3, 167, 0, 12, 42, 27, 16, 8, 182, 0, 63]
abbrev dktX4_waitsForKind_0 : List UInt8 := dkwX4_waitsForKind_0 ++ dktX4_waitsForKind_1
theorem dksX4_waitsForKind_0 : cX4_waitsForKind.data.toList.drop 0 = dktX4_waitsForKind_0 := by decide +kernel
theorem dksX4_waitsForKind_1 : cX4_waitsForKind.data.toList.drop 24 = dktX4_waitsForKind_1 := dk_seg dksX4_waitsForKind_0 24 rfl rfl
theorem dX4_waitsForKind_0 : decode cX4_waitsForKind 0 = .ok (.aload_n 0, 1) := dk_42 (dk_at dksX4_waitsForKind_0 0 rfl rfl)
theorem dX4_waitsForKind_1 : decode cX4_waitsForKind 1 = .ok (.iconst 0, 1) := dk_3 (dk_at dksX4_waitsForKind_0 1 rfl rfl)
theorem dX4_waitsForKind_2 : decode cX4_waitsForKind 2 = .ok (.putfield 1, 3) := dk_181 0 1 (dk_at dksX4_waitsForKind_0 2 rfl rfl)
theorem dX4_waitsForKind_5 : decode cX4_waitsForKind 5 = .ok (.aload_n 0, 1) := dk_42 (dk_at dksX4_waitsForKind_0 5 rfl rfl)
theorem dX4_waitsForKind_6 : decode cX4_waitsForKind 6 = .ok (.iload_n 1, 1) := dk_27 (dk_at dksX4_waitsForKind_0 6 rfl rfl)
theorem dX4_waitsForKind_7 : decode cX4_waitsForKind 7 = .ok (.invokevirtual 268, 3) := dk_182 1 12 (dk_at dksX4_waitsForKind_0 7 rfl rfl)
theorem dX4_waitsForKind_10 : decode cX4_waitsForKind 10 = .ok (.ifCond .eq 7, 3) := dk_153 0 7 (dk_at dksX4_waitsForKind_0 10 rfl rfl)
theorem dX4_waitsForKind_13 : decode cX4_waitsForKind 13 = .ok (.iconst 0, 1) := dk_3 (dk_at dksX4_waitsForKind_0 13 rfl rfl)
theorem dX4_waitsForKind_14 : decode cX4_waitsForKind 14 = .ok (.goto 12, 3) := dk_167 0 12 (dk_at dksX4_waitsForKind_0 14 rfl rfl)
theorem dX4_waitsForKind_17 : decode cX4_waitsForKind 17 = .ok (.aload_n 0, 1) := dk_42 (dk_at dksX4_waitsForKind_0 17 rfl rfl)
theorem dX4_waitsForKind_18 : decode cX4_waitsForKind 18 = .ok (.iload_n 1, 1) := dk_27 (dk_at dksX4_waitsForKind_0 18 rfl rfl)
theorem dX4_waitsForKind_19 : decode cX4_waitsForKind 19 = .ok (.bipush 8, 2) := dk_16 8 (dk_at dksX4_waitsForKind_0 19 rfl rfl)
theorem dX4_waitsForKind_21 : decode cX4_waitsForKind 21 = .ok (.invokevirtual 63, 3) := dk_182 0 63 (dk_at dksX4_waitsForKind_0 21 rfl rfl)
theorem dX4_waitsForKind_24 : decode cX4_waitsForKind 24 = .ok (.iconst 1, 1) := dk_4 (dk_at dksX4_waitsForKind_1 0 rfl rfl)
theorem dX4_waitsForKind_25 : decode cX4_waitsForKind 25 = .ok (.isub, 1) := dk_100 (dk_at dksX4_waitsForKind_1 1 rfl rfl)
theorem dX4_waitsForKind_26 : decode cX4_waitsForKind 26 = .ok (.ireturn, 1) := dk_172 (dk_at dksX4_waitsForKind_1 2 rfl rfl)
abbrev cX4_waitsForCount : ByteArray := prog_33_method_85_code
def yX4_waitsForCount : MethodName := ⟨RX4, "waitsForCount", "(I)I"⟩
def dkwX4_waitsForCount_1 : List UInt8 := [172]
abbrev dktX4_waitsForCount_1 : List UInt8 := dkwX4_waitsForCount_1 ++ []
def dkwX4_waitsForCount_0 : List UInt8 := [42, 3, 181, 0, 1, 42, 27, 182, 1, 12, 153, 0, 7, 3, 167, 0, 10, 42, 27, 16, 9, 182, 0, 63]
abbrev dktX4_waitsForCount_0 : List UInt8 := dkwX4_waitsForCount_0 ++ dktX4_waitsForCount_1
theorem dksX4_waitsForCount_0 : cX4_waitsForCount.data.toList.drop 0 = dktX4_waitsForCount_0 := by decide +kernel
theorem dksX4_waitsForCount_1 : cX4_waitsForCount.data.toList.drop 24 = dktX4_waitsForCount_1 := dk_seg dksX4_waitsForCount_0 24 rfl rfl
theorem dX4_waitsForCount_0 : decode cX4_waitsForCount 0 = .ok (.aload_n 0, 1) := dk_42 (dk_at dksX4_waitsForCount_0 0 rfl rfl)
theorem dX4_waitsForCount_1 : decode cX4_waitsForCount 1 = .ok (.iconst 0, 1) := dk_3 (dk_at dksX4_waitsForCount_0 1 rfl rfl)
theorem dX4_waitsForCount_2 : decode cX4_waitsForCount 2 = .ok (.putfield 1, 3) := dk_181 0 1 (dk_at dksX4_waitsForCount_0 2 rfl rfl)
theorem dX4_waitsForCount_5 : decode cX4_waitsForCount 5 = .ok (.aload_n 0, 1) := dk_42 (dk_at dksX4_waitsForCount_0 5 rfl rfl)
theorem dX4_waitsForCount_6 : decode cX4_waitsForCount 6 = .ok (.iload_n 1, 1) := dk_27 (dk_at dksX4_waitsForCount_0 6 rfl rfl)
theorem dX4_waitsForCount_7 : decode cX4_waitsForCount 7 = .ok (.invokevirtual 268, 3) := dk_182 1 12 (dk_at dksX4_waitsForCount_0 7 rfl rfl)
theorem dX4_waitsForCount_10 : decode cX4_waitsForCount 10 = .ok (.ifCond .eq 7, 3) := dk_153 0 7 (dk_at dksX4_waitsForCount_0 10 rfl rfl)
theorem dX4_waitsForCount_13 : decode cX4_waitsForCount 13 = .ok (.iconst 0, 1) := dk_3 (dk_at dksX4_waitsForCount_0 13 rfl rfl)
theorem dX4_waitsForCount_14 : decode cX4_waitsForCount 14 = .ok (.goto 10, 3) := dk_167 0 10 (dk_at dksX4_waitsForCount_0 14 rfl rfl)
theorem dX4_waitsForCount_17 : decode cX4_waitsForCount 17 = .ok (.aload_n 0, 1) := dk_42 (dk_at dksX4_waitsForCount_0 17 rfl rfl)
theorem dX4_waitsForCount_18 : decode cX4_waitsForCount 18 = .ok (.iload_n 1, 1) := dk_27 (dk_at dksX4_waitsForCount_0 18 rfl rfl)
theorem dX4_waitsForCount_19 : decode cX4_waitsForCount 19 = .ok (.bipush 9, 2) := dk_16 9 (dk_at dksX4_waitsForCount_0 19 rfl rfl)
theorem dX4_waitsForCount_21 : decode cX4_waitsForCount 21 = .ok (.invokevirtual 63, 3) := dk_182 0 63 (dk_at dksX4_waitsForCount_0 21 rfl rfl)
theorem dX4_waitsForCount_24 : decode cX4_waitsForCount 24 = .ok (.ireturn, 1) := dk_172 (dk_at dksX4_waitsForCount_1 0 rfl rfl)
abbrev cX4_waitedPrinters : ByteArray := prog_33_method_86_code
def yX4_waitedPrinters : MethodName := ⟨RX4, "waitedPrinters", "(I)I"⟩
def dkwX4_waitedPrinters_2 : List UInt8 := [182, 0, 63, 167, 0, 4, 3, 96, 61, 132, 3, 1, 167, 255, 216, 28, 172]
abbrev dktX4_waitedPrinters_2 : List UInt8 := dkwX4_waitedPrinters_2 ++ []
def dkwX4_waitedPrinters_1 : List UInt8 := [4, 46, 162, 0, 36, 28, 42, 29, 16, 8, 182, 0, 63, 27, 4, 96, 160, 0, 13, 42, 29, 16, 9]
abbrev dktX4_waitedPrinters_1 : List UInt8 := dkwX4_waitedPrinters_1 ++ dktX4_waitedPrinters_2
def dkwX4_waitedPrinters_0 : List UInt8 := [42, 3, 181, 0, 1, 42, 27, 182, 1, 6, 153, 0, 5, 3, 172, 3, 61, 3, 62, 29, 42, 180, 0, 13]
abbrev dktX4_waitedPrinters_0 : List UInt8 := dkwX4_waitedPrinters_0 ++ dktX4_waitedPrinters_1
theorem dksX4_waitedPrinters_0 : cX4_waitedPrinters.data.toList.drop 0 = dktX4_waitedPrinters_0 := by decide +kernel
theorem dksX4_waitedPrinters_1 : cX4_waitedPrinters.data.toList.drop 24 = dktX4_waitedPrinters_1 := dk_seg dksX4_waitedPrinters_0 24 rfl rfl
theorem dksX4_waitedPrinters_2 : cX4_waitedPrinters.data.toList.drop 47 = dktX4_waitedPrinters_2 := dk_seg dksX4_waitedPrinters_1 23 rfl rfl
theorem dX4_waitedPrinters_0 : decode cX4_waitedPrinters 0 = .ok (.aload_n 0, 1) := dk_42 (dk_at dksX4_waitedPrinters_0 0 rfl rfl)
theorem dX4_waitedPrinters_1 : decode cX4_waitedPrinters 1 = .ok (.iconst 0, 1) := dk_3 (dk_at dksX4_waitedPrinters_0 1 rfl rfl)
theorem dX4_waitedPrinters_2 : decode cX4_waitedPrinters 2 = .ok (.putfield 1, 3) := dk_181 0 1 (dk_at dksX4_waitedPrinters_0 2 rfl rfl)
theorem dX4_waitedPrinters_5 : decode cX4_waitedPrinters 5 = .ok (.aload_n 0, 1) := dk_42 (dk_at dksX4_waitedPrinters_0 5 rfl rfl)
theorem dX4_waitedPrinters_6 : decode cX4_waitedPrinters 6 = .ok (.iload_n 1, 1) := dk_27 (dk_at dksX4_waitedPrinters_0 6 rfl rfl)
theorem dX4_waitedPrinters_7 : decode cX4_waitedPrinters 7 = .ok (.invokevirtual 262, 3) := dk_182 1 6 (dk_at dksX4_waitedPrinters_0 7 rfl rfl)
theorem dX4_waitedPrinters_10 : decode cX4_waitedPrinters 10 = .ok (.ifCond .eq 5, 3) := dk_153 0 5 (dk_at dksX4_waitedPrinters_0 10 rfl rfl)
theorem dX4_waitedPrinters_13 : decode cX4_waitedPrinters 13 = .ok (.iconst 0, 1) := dk_3 (dk_at dksX4_waitedPrinters_0 13 rfl rfl)
theorem dX4_waitedPrinters_14 : decode cX4_waitedPrinters 14 = .ok (.ireturn, 1) := dk_172 (dk_at dksX4_waitedPrinters_0 14 rfl rfl)
theorem dX4_waitedPrinters_15 : decode cX4_waitedPrinters 15 = .ok (.iconst 0, 1) := dk_3 (dk_at dksX4_waitedPrinters_0 15 rfl rfl)
theorem dX4_waitedPrinters_16 : decode cX4_waitedPrinters 16 = .ok (.istore_n 2, 1) := dk_61 (dk_at dksX4_waitedPrinters_0 16 rfl rfl)
theorem dX4_waitedPrinters_17 : decode cX4_waitedPrinters 17 = .ok (.iconst 0, 1) := dk_3 (dk_at dksX4_waitedPrinters_0 17 rfl rfl)
theorem dX4_waitedPrinters_18 : decode cX4_waitedPrinters 18 = .ok (.istore_n 3, 1) := dk_62 (dk_at dksX4_waitedPrinters_0 18 rfl rfl)
theorem dX4_waitedPrinters_19 : decode cX4_waitedPrinters 19 = .ok (.iload_n 3, 1) := dk_29 (dk_at dksX4_waitedPrinters_0 19 rfl rfl)
theorem dX4_waitedPrinters_20 : decode cX4_waitedPrinters 20 = .ok (.aload_n 0, 1) := dk_42 (dk_at dksX4_waitedPrinters_0 20 rfl rfl)
theorem dX4_waitedPrinters_21 : decode cX4_waitedPrinters 21 = .ok (.getfield 13, 3) := dk_180 0 13 (dk_at dksX4_waitedPrinters_0 21 rfl rfl)
theorem dX4_waitedPrinters_24 : decode cX4_waitedPrinters 24 = .ok (.iconst 1, 1) := dk_4 (dk_at dksX4_waitedPrinters_1 0 rfl rfl)
theorem dX4_waitedPrinters_25 : decode cX4_waitedPrinters 25 = .ok (.iaload, 1) := dk_46 (dk_at dksX4_waitedPrinters_1 1 rfl rfl)
theorem dX4_waitedPrinters_26 : decode cX4_waitedPrinters 26 = .ok (.if_icmp .ge 36, 3) := dk_162 0 36 (dk_at dksX4_waitedPrinters_1 2 rfl rfl)
theorem dX4_waitedPrinters_29 : decode cX4_waitedPrinters 29 = .ok (.iload_n 2, 1) := dk_28 (dk_at dksX4_waitedPrinters_1 5 rfl rfl)
theorem dX4_waitedPrinters_30 : decode cX4_waitedPrinters 30 = .ok (.aload_n 0, 1) := dk_42 (dk_at dksX4_waitedPrinters_1 6 rfl rfl)
theorem dX4_waitedPrinters_31 : decode cX4_waitedPrinters 31 = .ok (.iload_n 3, 1) := dk_29 (dk_at dksX4_waitedPrinters_1 7 rfl rfl)
theorem dX4_waitedPrinters_32 : decode cX4_waitedPrinters 32 = .ok (.bipush 8, 2) := dk_16 8 (dk_at dksX4_waitedPrinters_1 8 rfl rfl)
theorem dX4_waitedPrinters_34 : decode cX4_waitedPrinters 34 = .ok (.invokevirtual 63, 3) := dk_182 0 63 (dk_at dksX4_waitedPrinters_1 10 rfl rfl)
theorem dX4_waitedPrinters_37 : decode cX4_waitedPrinters 37 = .ok (.iload_n 1, 1) := dk_27 (dk_at dksX4_waitedPrinters_1 13 rfl rfl)
theorem dX4_waitedPrinters_38 : decode cX4_waitedPrinters 38 = .ok (.iconst 1, 1) := dk_4 (dk_at dksX4_waitedPrinters_1 14 rfl rfl)
theorem dX4_waitedPrinters_39 : decode cX4_waitedPrinters 39 = .ok (.iadd, 1) := dk_96 (dk_at dksX4_waitedPrinters_1 15 rfl rfl)
theorem dX4_waitedPrinters_40 : decode cX4_waitedPrinters 40 = .ok (.if_icmp .ne 13, 3) := dk_160 0 13 (dk_at dksX4_waitedPrinters_1 16 rfl rfl)
theorem dX4_waitedPrinters_43 : decode cX4_waitedPrinters 43 = .ok (.aload_n 0, 1) := dk_42 (dk_at dksX4_waitedPrinters_1 19 rfl rfl)
theorem dX4_waitedPrinters_44 : decode cX4_waitedPrinters 44 = .ok (.iload_n 3, 1) := dk_29 (dk_at dksX4_waitedPrinters_1 20 rfl rfl)
theorem dX4_waitedPrinters_45 : decode cX4_waitedPrinters 45 = .ok (.bipush 9, 2) := dk_16 9 (dk_at dksX4_waitedPrinters_1 21 rfl rfl)
theorem dX4_waitedPrinters_47 : decode cX4_waitedPrinters 47 = .ok (.invokevirtual 63, 3) := dk_182 0 63 (dk_at dksX4_waitedPrinters_2 0 rfl rfl)
theorem dX4_waitedPrinters_50 : decode cX4_waitedPrinters 50 = .ok (.goto 4, 3) := dk_167 0 4 (dk_at dksX4_waitedPrinters_2 3 rfl rfl)
theorem dX4_waitedPrinters_53 : decode cX4_waitedPrinters 53 = .ok (.iconst 0, 1) := dk_3 (dk_at dksX4_waitedPrinters_2 6 rfl rfl)
theorem dX4_waitedPrinters_54 : decode cX4_waitedPrinters 54 = .ok (.iadd, 1) := dk_96 (dk_at dksX4_waitedPrinters_2 7 rfl rfl)
theorem dX4_waitedPrinters_55 : decode cX4_waitedPrinters 55 = .ok (.istore_n 2, 1) := dk_61 (dk_at dksX4_waitedPrinters_2 8 rfl rfl)
theorem dX4_waitedPrinters_56 : decode cX4_waitedPrinters 56 = .ok (.iinc 3 1, 3) := dk_132 3 1 (dk_at dksX4_waitedPrinters_2 9 rfl rfl)
theorem dX4_waitedPrinters_59 : decode cX4_waitedPrinters 59 = .ok (.goto (-40), 3) := dk_167 255 216 (dk_at dksX4_waitedPrinters_2 12 rfl rfl)
theorem dX4_waitedPrinters_62 : decode cX4_waitedPrinters 62 = .ok (.iload_n 2, 1) := dk_28 (dk_at dksX4_waitedPrinters_2 15 rfl rfl)
theorem dX4_waitedPrinters_63 : decode cX4_waitedPrinters 63 = .ok (.ireturn, 1) := dk_172 (dk_at dksX4_waitedPrinters_2 16 rfl rfl)
abbrev cX4_waitReason : ByteArray := prog_33_method_87_code
def yX4_waitReason : MethodName := ⟨RX4, "waitReason", "(I)I"⟩
def dkwX4_waitReason_2 : List UInt8 := [167, 0, 4, 5, 172]
abbrev dktX4_waitReason_2 : List UInt8 := dkwX4_waitReason_2 ++ []
def dkwX4_waitReason_1 : List UInt8 := [42, 27, 16, 8, 182, 0, 63, 4, 100, 182, 0, 70, 42, 27, 16, 9, 182, 0, 63, 162, 0, 7, 4]
abbrev dktX4_waitReason_1 : List UInt8 := dkwX4_waitReason_1 ++ dktX4_waitReason_2
def dkwX4_waitReason_0 : List UInt8 := [42, 3, 181, 0, 1, 42, 27, 182, 1, 12, 154, 0, 11, 42, 27, 182, 0, 107, 154, 0, 5, 3, 172, 42]
abbrev dktX4_waitReason_0 : List UInt8 := dkwX4_waitReason_0 ++ dktX4_waitReason_1
theorem dksX4_waitReason_0 : cX4_waitReason.data.toList.drop 0 = dktX4_waitReason_0 := by decide +kernel
theorem dksX4_waitReason_1 : cX4_waitReason.data.toList.drop 24 = dktX4_waitReason_1 := dk_seg dksX4_waitReason_0 24 rfl rfl
theorem dksX4_waitReason_2 : cX4_waitReason.data.toList.drop 47 = dktX4_waitReason_2 := dk_seg dksX4_waitReason_1 23 rfl rfl
theorem dX4_waitReason_0 : decode cX4_waitReason 0 = .ok (.aload_n 0, 1) := dk_42 (dk_at dksX4_waitReason_0 0 rfl rfl)
theorem dX4_waitReason_1 : decode cX4_waitReason 1 = .ok (.iconst 0, 1) := dk_3 (dk_at dksX4_waitReason_0 1 rfl rfl)
theorem dX4_waitReason_2 : decode cX4_waitReason 2 = .ok (.putfield 1, 3) := dk_181 0 1 (dk_at dksX4_waitReason_0 2 rfl rfl)
theorem dX4_waitReason_5 : decode cX4_waitReason 5 = .ok (.aload_n 0, 1) := dk_42 (dk_at dksX4_waitReason_0 5 rfl rfl)
theorem dX4_waitReason_6 : decode cX4_waitReason 6 = .ok (.iload_n 1, 1) := dk_27 (dk_at dksX4_waitReason_0 6 rfl rfl)
theorem dX4_waitReason_7 : decode cX4_waitReason 7 = .ok (.invokevirtual 268, 3) := dk_182 1 12 (dk_at dksX4_waitReason_0 7 rfl rfl)
theorem dX4_waitReason_10 : decode cX4_waitReason 10 = .ok (.ifCond .ne 11, 3) := dk_154 0 11 (dk_at dksX4_waitReason_0 10 rfl rfl)
theorem dX4_waitReason_13 : decode cX4_waitReason 13 = .ok (.aload_n 0, 1) := dk_42 (dk_at dksX4_waitReason_0 13 rfl rfl)
theorem dX4_waitReason_14 : decode cX4_waitReason 14 = .ok (.iload_n 1, 1) := dk_27 (dk_at dksX4_waitReason_0 14 rfl rfl)
theorem dX4_waitReason_15 : decode cX4_waitReason 15 = .ok (.invokevirtual 107, 3) := dk_182 0 107 (dk_at dksX4_waitReason_0 15 rfl rfl)
theorem dX4_waitReason_18 : decode cX4_waitReason 18 = .ok (.ifCond .ne 5, 3) := dk_154 0 5 (dk_at dksX4_waitReason_0 18 rfl rfl)
theorem dX4_waitReason_21 : decode cX4_waitReason 21 = .ok (.iconst 0, 1) := dk_3 (dk_at dksX4_waitReason_0 21 rfl rfl)
theorem dX4_waitReason_22 : decode cX4_waitReason 22 = .ok (.ireturn, 1) := dk_172 (dk_at dksX4_waitReason_0 22 rfl rfl)
theorem dX4_waitReason_23 : decode cX4_waitReason 23 = .ok (.aload_n 0, 1) := dk_42 (dk_at dksX4_waitReason_0 23 rfl rfl)
theorem dX4_waitReason_24 : decode cX4_waitReason 24 = .ok (.aload_n 0, 1) := dk_42 (dk_at dksX4_waitReason_1 0 rfl rfl)
theorem dX4_waitReason_25 : decode cX4_waitReason 25 = .ok (.iload_n 1, 1) := dk_27 (dk_at dksX4_waitReason_1 1 rfl rfl)
theorem dX4_waitReason_26 : decode cX4_waitReason 26 = .ok (.bipush 8, 2) := dk_16 8 (dk_at dksX4_waitReason_1 2 rfl rfl)
theorem dX4_waitReason_28 : decode cX4_waitReason 28 = .ok (.invokevirtual 63, 3) := dk_182 0 63 (dk_at dksX4_waitReason_1 4 rfl rfl)
theorem dX4_waitReason_31 : decode cX4_waitReason 31 = .ok (.iconst 1, 1) := dk_4 (dk_at dksX4_waitReason_1 7 rfl rfl)
theorem dX4_waitReason_32 : decode cX4_waitReason 32 = .ok (.isub, 1) := dk_100 (dk_at dksX4_waitReason_1 8 rfl rfl)
theorem dX4_waitReason_33 : decode cX4_waitReason 33 = .ok (.invokevirtual 70, 3) := dk_182 0 70 (dk_at dksX4_waitReason_1 9 rfl rfl)
theorem dX4_waitReason_36 : decode cX4_waitReason 36 = .ok (.aload_n 0, 1) := dk_42 (dk_at dksX4_waitReason_1 12 rfl rfl)
theorem dX4_waitReason_37 : decode cX4_waitReason 37 = .ok (.iload_n 1, 1) := dk_27 (dk_at dksX4_waitReason_1 13 rfl rfl)
theorem dX4_waitReason_38 : decode cX4_waitReason 38 = .ok (.bipush 9, 2) := dk_16 9 (dk_at dksX4_waitReason_1 14 rfl rfl)
theorem dX4_waitReason_40 : decode cX4_waitReason 40 = .ok (.invokevirtual 63, 3) := dk_182 0 63 (dk_at dksX4_waitReason_1 16 rfl rfl)
theorem dX4_waitReason_43 : decode cX4_waitReason 43 = .ok (.if_icmp .ge 7, 3) := dk_162 0 7 (dk_at dksX4_waitReason_1 19 rfl rfl)
theorem dX4_waitReason_46 : decode cX4_waitReason 46 = .ok (.iconst 1, 1) := dk_4 (dk_at dksX4_waitReason_1 22 rfl rfl)
theorem dX4_waitReason_47 : decode cX4_waitReason 47 = .ok (.goto 4, 3) := dk_167 0 4 (dk_at dksX4_waitReason_2 0 rfl rfl)
theorem dX4_waitReason_50 : decode cX4_waitReason 50 = .ok (.iconst 2, 1) := dk_5 (dk_at dksX4_waitReason_2 3 rfl rfl)
theorem dX4_waitReason_51 : decode cX4_waitReason 51 = .ok (.ireturn, 1) := dk_172 (dk_at dksX4_waitReason_2 4 rfl rfl)
abbrev cX4_sequenceOffice : ByteArray := prog_33_method_88_code
def yX4_sequenceOffice : MethodName := ⟨RX4, "sequenceOffice", "(I)I"⟩
def dkwX4_sequenceOffice_1 : List UInt8 := [182, 0, 86, 172]
abbrev dktX4_sequenceOffice_1 : List UInt8 := dkwX4_sequenceOffice_1 ++ []
def dkwX4_sequenceOffice_0 : List UInt8 := [42, 3, 181, 0, 1, 42, 27, 182, 1, 12, 153, 0, 7, 3, 167, 0, 12, 42, 42, 27, 182, 0, 89]
abbrev dktX4_sequenceOffice_0 : List UInt8 := dkwX4_sequenceOffice_0 ++ dktX4_sequenceOffice_1
theorem dksX4_sequenceOffice_0 : cX4_sequenceOffice.data.toList.drop 0 = dktX4_sequenceOffice_0 := by decide +kernel
theorem dksX4_sequenceOffice_1 : cX4_sequenceOffice.data.toList.drop 23 = dktX4_sequenceOffice_1 := dk_seg dksX4_sequenceOffice_0 23 rfl rfl
theorem dX4_sequenceOffice_0 : decode cX4_sequenceOffice 0 = .ok (.aload_n 0, 1) := dk_42 (dk_at dksX4_sequenceOffice_0 0 rfl rfl)
theorem dX4_sequenceOffice_1 : decode cX4_sequenceOffice 1 = .ok (.iconst 0, 1) := dk_3 (dk_at dksX4_sequenceOffice_0 1 rfl rfl)
theorem dX4_sequenceOffice_2 : decode cX4_sequenceOffice 2 = .ok (.putfield 1, 3) := dk_181 0 1 (dk_at dksX4_sequenceOffice_0 2 rfl rfl)
theorem dX4_sequenceOffice_5 : decode cX4_sequenceOffice 5 = .ok (.aload_n 0, 1) := dk_42 (dk_at dksX4_sequenceOffice_0 5 rfl rfl)
theorem dX4_sequenceOffice_6 : decode cX4_sequenceOffice 6 = .ok (.iload_n 1, 1) := dk_27 (dk_at dksX4_sequenceOffice_0 6 rfl rfl)
theorem dX4_sequenceOffice_7 : decode cX4_sequenceOffice 7 = .ok (.invokevirtual 268, 3) := dk_182 1 12 (dk_at dksX4_sequenceOffice_0 7 rfl rfl)
theorem dX4_sequenceOffice_10 : decode cX4_sequenceOffice 10 = .ok (.ifCond .eq 7, 3) := dk_153 0 7 (dk_at dksX4_sequenceOffice_0 10 rfl rfl)
theorem dX4_sequenceOffice_13 : decode cX4_sequenceOffice 13 = .ok (.iconst 0, 1) := dk_3 (dk_at dksX4_sequenceOffice_0 13 rfl rfl)
theorem dX4_sequenceOffice_14 : decode cX4_sequenceOffice 14 = .ok (.goto 12, 3) := dk_167 0 12 (dk_at dksX4_sequenceOffice_0 14 rfl rfl)
theorem dX4_sequenceOffice_17 : decode cX4_sequenceOffice 17 = .ok (.aload_n 0, 1) := dk_42 (dk_at dksX4_sequenceOffice_0 17 rfl rfl)
theorem dX4_sequenceOffice_18 : decode cX4_sequenceOffice 18 = .ok (.aload_n 0, 1) := dk_42 (dk_at dksX4_sequenceOffice_0 18 rfl rfl)
theorem dX4_sequenceOffice_19 : decode cX4_sequenceOffice 19 = .ok (.iload_n 1, 1) := dk_27 (dk_at dksX4_sequenceOffice_0 19 rfl rfl)
theorem dX4_sequenceOffice_20 : decode cX4_sequenceOffice 20 = .ok (.invokevirtual 89, 3) := dk_182 0 89 (dk_at dksX4_sequenceOffice_0 20 rfl rfl)
theorem dX4_sequenceOffice_23 : decode cX4_sequenceOffice 23 = .ok (.invokevirtual 86, 3) := dk_182 0 86 (dk_at dksX4_sequenceOffice_1 0 rfl rfl)
theorem dX4_sequenceOffice_26 : decode cX4_sequenceOffice 26 = .ok (.ireturn, 1) := dk_172 (dk_at dksX4_sequenceOffice_1 3 rfl rfl)
abbrev cX4_sequenceAvailable : ByteArray := prog_33_method_89_code
def yX4_sequenceAvailable : MethodName := ⟨RX4, "sequenceAvailable", "(II)I"⟩
def dkwX4_sequenceAvailable_1 : List UInt8 := [28, 182, 0, 80, 172]
abbrev dktX4_sequenceAvailable_1 : List UInt8 := dkwX4_sequenceAvailable_1 ++ []
def dkwX4_sequenceAvailable_0 : List UInt8 := [42, 3, 181, 0, 1, 42, 27, 28, 182, 1, 15, 153, 0, 7, 3, 167, 0, 13, 42, 42, 27, 182, 0, 89]
abbrev dktX4_sequenceAvailable_0 : List UInt8 := dkwX4_sequenceAvailable_0 ++ dktX4_sequenceAvailable_1
theorem dksX4_sequenceAvailable_0 : cX4_sequenceAvailable.data.toList.drop 0 = dktX4_sequenceAvailable_0 := by decide +kernel
theorem dksX4_sequenceAvailable_1 : cX4_sequenceAvailable.data.toList.drop 24 = dktX4_sequenceAvailable_1 := dk_seg dksX4_sequenceAvailable_0 24 rfl rfl
theorem dX4_sequenceAvailable_0 : decode cX4_sequenceAvailable 0 = .ok (.aload_n 0, 1) := dk_42 (dk_at dksX4_sequenceAvailable_0 0 rfl rfl)
theorem dX4_sequenceAvailable_1 : decode cX4_sequenceAvailable 1 = .ok (.iconst 0, 1) := dk_3 (dk_at dksX4_sequenceAvailable_0 1 rfl rfl)
theorem dX4_sequenceAvailable_2 : decode cX4_sequenceAvailable 2 = .ok (.putfield 1, 3) := dk_181 0 1 (dk_at dksX4_sequenceAvailable_0 2 rfl rfl)
theorem dX4_sequenceAvailable_5 : decode cX4_sequenceAvailable 5 = .ok (.aload_n 0, 1) := dk_42 (dk_at dksX4_sequenceAvailable_0 5 rfl rfl)
theorem dX4_sequenceAvailable_6 : decode cX4_sequenceAvailable 6 = .ok (.iload_n 1, 1) := dk_27 (dk_at dksX4_sequenceAvailable_0 6 rfl rfl)
theorem dX4_sequenceAvailable_7 : decode cX4_sequenceAvailable 7 = .ok (.iload_n 2, 1) := dk_28 (dk_at dksX4_sequenceAvailable_0 7 rfl rfl)
theorem dX4_sequenceAvailable_8 : decode cX4_sequenceAvailable 8 = .ok (.invokevirtual 271, 3) := dk_182 1 15 (dk_at dksX4_sequenceAvailable_0 8 rfl rfl)
theorem dX4_sequenceAvailable_11 : decode cX4_sequenceAvailable 11 = .ok (.ifCond .eq 7, 3) := dk_153 0 7 (dk_at dksX4_sequenceAvailable_0 11 rfl rfl)
theorem dX4_sequenceAvailable_14 : decode cX4_sequenceAvailable 14 = .ok (.iconst 0, 1) := dk_3 (dk_at dksX4_sequenceAvailable_0 14 rfl rfl)
theorem dX4_sequenceAvailable_15 : decode cX4_sequenceAvailable 15 = .ok (.goto 13, 3) := dk_167 0 13 (dk_at dksX4_sequenceAvailable_0 15 rfl rfl)
theorem dX4_sequenceAvailable_18 : decode cX4_sequenceAvailable 18 = .ok (.aload_n 0, 1) := dk_42 (dk_at dksX4_sequenceAvailable_0 18 rfl rfl)
theorem dX4_sequenceAvailable_19 : decode cX4_sequenceAvailable 19 = .ok (.aload_n 0, 1) := dk_42 (dk_at dksX4_sequenceAvailable_0 19 rfl rfl)
theorem dX4_sequenceAvailable_20 : decode cX4_sequenceAvailable 20 = .ok (.iload_n 1, 1) := dk_27 (dk_at dksX4_sequenceAvailable_0 20 rfl rfl)
theorem dX4_sequenceAvailable_21 : decode cX4_sequenceAvailable 21 = .ok (.invokevirtual 89, 3) := dk_182 0 89 (dk_at dksX4_sequenceAvailable_0 21 rfl rfl)
theorem dX4_sequenceAvailable_24 : decode cX4_sequenceAvailable 24 = .ok (.iload_n 2, 1) := dk_28 (dk_at dksX4_sequenceAvailable_1 0 rfl rfl)
theorem dX4_sequenceAvailable_25 : decode cX4_sequenceAvailable 25 = .ok (.invokevirtual 80, 3) := dk_182 0 80 (dk_at dksX4_sequenceAvailable_1 1 rfl rfl)
theorem dX4_sequenceAvailable_28 : decode cX4_sequenceAvailable 28 = .ok (.ireturn, 1) := dk_172 (dk_at dksX4_sequenceAvailable_1 4 rfl rfl)
abbrev cX4_sequenceCount : ByteArray := prog_33_method_90_code
def yX4_sequenceCount : MethodName := ⟨RX4, "sequenceCount", "()I"⟩
def dkwX4_sequenceCount_1 : List UInt8 := [172]
abbrev dktX4_sequenceCount_1 : List UInt8 := dkwX4_sequenceCount_1 ++ []
def dkwX4_sequenceCount_0 : List UInt8 := [42, 3, 181, 0, 1, 42, 182, 1, 21, 42, 180, 0, 29, 4, 42, 180, 0, 13, 4, 46, 120, 4, 100, 46]
abbrev dktX4_sequenceCount_0 : List UInt8 := dkwX4_sequenceCount_0 ++ dktX4_sequenceCount_1
theorem dksX4_sequenceCount_0 : cX4_sequenceCount.data.toList.drop 0 = dktX4_sequenceCount_0 := by decide +kernel
theorem dksX4_sequenceCount_1 : cX4_sequenceCount.data.toList.drop 24 = dktX4_sequenceCount_1 := dk_seg dksX4_sequenceCount_0 24 rfl rfl
theorem dX4_sequenceCount_0 : decode cX4_sequenceCount 0 = .ok (.aload_n 0, 1) := dk_42 (dk_at dksX4_sequenceCount_0 0 rfl rfl)
theorem dX4_sequenceCount_1 : decode cX4_sequenceCount 1 = .ok (.iconst 0, 1) := dk_3 (dk_at dksX4_sequenceCount_0 1 rfl rfl)
theorem dX4_sequenceCount_2 : decode cX4_sequenceCount 2 = .ok (.putfield 1, 3) := dk_181 0 1 (dk_at dksX4_sequenceCount_0 2 rfl rfl)
theorem dX4_sequenceCount_5 : decode cX4_sequenceCount 5 = .ok (.aload_n 0, 1) := dk_42 (dk_at dksX4_sequenceCount_0 5 rfl rfl)
theorem dX4_sequenceCount_6 : decode cX4_sequenceCount 6 = .ok (.invokevirtual 277, 3) := dk_182 1 21 (dk_at dksX4_sequenceCount_0 6 rfl rfl)
theorem dX4_sequenceCount_9 : decode cX4_sequenceCount 9 = .ok (.aload_n 0, 1) := dk_42 (dk_at dksX4_sequenceCount_0 9 rfl rfl)
theorem dX4_sequenceCount_10 : decode cX4_sequenceCount 10 = .ok (.getfield 29, 3) := dk_180 0 29 (dk_at dksX4_sequenceCount_0 10 rfl rfl)
theorem dX4_sequenceCount_13 : decode cX4_sequenceCount 13 = .ok (.iconst 1, 1) := dk_4 (dk_at dksX4_sequenceCount_0 13 rfl rfl)
theorem dX4_sequenceCount_14 : decode cX4_sequenceCount 14 = .ok (.aload_n 0, 1) := dk_42 (dk_at dksX4_sequenceCount_0 14 rfl rfl)
theorem dX4_sequenceCount_15 : decode cX4_sequenceCount 15 = .ok (.getfield 13, 3) := dk_180 0 13 (dk_at dksX4_sequenceCount_0 15 rfl rfl)
theorem dX4_sequenceCount_18 : decode cX4_sequenceCount 18 = .ok (.iconst 1, 1) := dk_4 (dk_at dksX4_sequenceCount_0 18 rfl rfl)
theorem dX4_sequenceCount_19 : decode cX4_sequenceCount 19 = .ok (.iaload, 1) := dk_46 (dk_at dksX4_sequenceCount_0 19 rfl rfl)
theorem dX4_sequenceCount_20 : decode cX4_sequenceCount 20 = .ok (.ishl, 1) := dk_120 (dk_at dksX4_sequenceCount_0 20 rfl rfl)
theorem dX4_sequenceCount_21 : decode cX4_sequenceCount 21 = .ok (.iconst 1, 1) := dk_4 (dk_at dksX4_sequenceCount_0 21 rfl rfl)
theorem dX4_sequenceCount_22 : decode cX4_sequenceCount 22 = .ok (.isub, 1) := dk_100 (dk_at dksX4_sequenceCount_0 22 rfl rfl)
theorem dX4_sequenceCount_23 : decode cX4_sequenceCount 23 = .ok (.iaload, 1) := dk_46 (dk_at dksX4_sequenceCount_0 23 rfl rfl)
theorem dX4_sequenceCount_24 : decode cX4_sequenceCount 24 = .ok (.ireturn, 1) := dk_172 (dk_at dksX4_sequenceCount_1 0 rfl rfl)
abbrev cX4_countsOrders : ByteArray := prog_33_method_20_code
def yX4_countsOrders : MethodName := ⟨RX4, "countsOrders", "()V"⟩
def dkwX4_countsOrders_4 : List UInt8 := [180, 0, 29, 28, 46, 96, 79, 132, 3, 1, 167, 255, 198, 132, 2, 1, 167, 255, 185, 177]
abbrev dktX4_countsOrders_4 : List UInt8 := dkwX4_countsOrders_4 ++ []
def dkwX4_countsOrders_3 : List UInt8 := [154, 0, 31, 42, 29, 28, 182, 0, 83, 153, 0, 22, 42, 180, 0, 29, 28, 4, 29, 120, 128, 92, 46, 42]
abbrev dktX4_countsOrders_3 : List UInt8 := dkwX4_countsOrders_3 ++ dktX4_countsOrders_4
def dkwX4_countsOrders_2 : List UInt8 := [180, 0, 13, 4, 46, 162, 0, 54, 42, 180, 0, 29, 28, 46, 158, 0, 45, 28, 29, 184, 0, 73]
abbrev dktX4_countsOrders_2 : List UInt8 := dkwX4_countsOrders_2 ++ dktX4_countsOrders_3
def dkwX4_countsOrders_1 : List UInt8 := [132, 2, 1, 167, 255, 241, 42, 180, 0, 29, 3, 4, 79, 3, 61, 28, 27, 162, 0, 72, 3, 62, 29, 42]
abbrev dktX4_countsOrders_1 : List UInt8 := dkwX4_countsOrders_1 ++ dktX4_countsOrders_2
def dkwX4_countsOrders_0 : List UInt8 := [4, 42, 180, 0, 13, 4, 46, 120, 60, 3, 61, 28, 27, 162, 0, 16, 42, 180, 0, 29, 28, 3, 79]
abbrev dktX4_countsOrders_0 : List UInt8 := dkwX4_countsOrders_0 ++ dktX4_countsOrders_1
theorem dksX4_countsOrders_0 : cX4_countsOrders.data.toList.drop 0 = dktX4_countsOrders_0 := by decide +kernel
theorem dksX4_countsOrders_1 : cX4_countsOrders.data.toList.drop 23 = dktX4_countsOrders_1 := dk_seg dksX4_countsOrders_0 23 rfl rfl
theorem dksX4_countsOrders_2 : cX4_countsOrders.data.toList.drop 47 = dktX4_countsOrders_2 := dk_seg dksX4_countsOrders_1 24 rfl rfl
theorem dksX4_countsOrders_3 : cX4_countsOrders.data.toList.drop 69 = dktX4_countsOrders_3 := dk_seg dksX4_countsOrders_2 22 rfl rfl
theorem dksX4_countsOrders_4 : cX4_countsOrders.data.toList.drop 93 = dktX4_countsOrders_4 := dk_seg dksX4_countsOrders_3 24 rfl rfl
theorem dX4_countsOrders_0 : decode cX4_countsOrders 0 = .ok (.iconst 1, 1) := dk_4 (dk_at dksX4_countsOrders_0 0 rfl rfl)
theorem dX4_countsOrders_1 : decode cX4_countsOrders 1 = .ok (.aload_n 0, 1) := dk_42 (dk_at dksX4_countsOrders_0 1 rfl rfl)
theorem dX4_countsOrders_2 : decode cX4_countsOrders 2 = .ok (.getfield 13, 3) := dk_180 0 13 (dk_at dksX4_countsOrders_0 2 rfl rfl)
theorem dX4_countsOrders_5 : decode cX4_countsOrders 5 = .ok (.iconst 1, 1) := dk_4 (dk_at dksX4_countsOrders_0 5 rfl rfl)
theorem dX4_countsOrders_6 : decode cX4_countsOrders 6 = .ok (.iaload, 1) := dk_46 (dk_at dksX4_countsOrders_0 6 rfl rfl)
theorem dX4_countsOrders_7 : decode cX4_countsOrders 7 = .ok (.ishl, 1) := dk_120 (dk_at dksX4_countsOrders_0 7 rfl rfl)
theorem dX4_countsOrders_8 : decode cX4_countsOrders 8 = .ok (.istore_n 1, 1) := dk_60 (dk_at dksX4_countsOrders_0 8 rfl rfl)
theorem dX4_countsOrders_9 : decode cX4_countsOrders 9 = .ok (.iconst 0, 1) := dk_3 (dk_at dksX4_countsOrders_0 9 rfl rfl)
theorem dX4_countsOrders_10 : decode cX4_countsOrders 10 = .ok (.istore_n 2, 1) := dk_61 (dk_at dksX4_countsOrders_0 10 rfl rfl)
theorem dX4_countsOrders_11 : decode cX4_countsOrders 11 = .ok (.iload_n 2, 1) := dk_28 (dk_at dksX4_countsOrders_0 11 rfl rfl)
theorem dX4_countsOrders_12 : decode cX4_countsOrders 12 = .ok (.iload_n 1, 1) := dk_27 (dk_at dksX4_countsOrders_0 12 rfl rfl)
theorem dX4_countsOrders_13 : decode cX4_countsOrders 13 = .ok (.if_icmp .ge 16, 3) := dk_162 0 16 (dk_at dksX4_countsOrders_0 13 rfl rfl)
theorem dX4_countsOrders_16 : decode cX4_countsOrders 16 = .ok (.aload_n 0, 1) := dk_42 (dk_at dksX4_countsOrders_0 16 rfl rfl)
theorem dX4_countsOrders_17 : decode cX4_countsOrders 17 = .ok (.getfield 29, 3) := dk_180 0 29 (dk_at dksX4_countsOrders_0 17 rfl rfl)
theorem dX4_countsOrders_20 : decode cX4_countsOrders 20 = .ok (.iload_n 2, 1) := dk_28 (dk_at dksX4_countsOrders_0 20 rfl rfl)
theorem dX4_countsOrders_21 : decode cX4_countsOrders 21 = .ok (.iconst 0, 1) := dk_3 (dk_at dksX4_countsOrders_0 21 rfl rfl)
theorem dX4_countsOrders_22 : decode cX4_countsOrders 22 = .ok (.iastore, 1) := dk_79 (dk_at dksX4_countsOrders_0 22 rfl rfl)
theorem dX4_countsOrders_23 : decode cX4_countsOrders 23 = .ok (.iinc 2 1, 3) := dk_132 2 1 (dk_at dksX4_countsOrders_1 0 rfl rfl)
theorem dX4_countsOrders_26 : decode cX4_countsOrders 26 = .ok (.goto (-15), 3) := dk_167 255 241 (dk_at dksX4_countsOrders_1 3 rfl rfl)
theorem dX4_countsOrders_29 : decode cX4_countsOrders 29 = .ok (.aload_n 0, 1) := dk_42 (dk_at dksX4_countsOrders_1 6 rfl rfl)
theorem dX4_countsOrders_30 : decode cX4_countsOrders 30 = .ok (.getfield 29, 3) := dk_180 0 29 (dk_at dksX4_countsOrders_1 7 rfl rfl)
theorem dX4_countsOrders_33 : decode cX4_countsOrders 33 = .ok (.iconst 0, 1) := dk_3 (dk_at dksX4_countsOrders_1 10 rfl rfl)
theorem dX4_countsOrders_34 : decode cX4_countsOrders 34 = .ok (.iconst 1, 1) := dk_4 (dk_at dksX4_countsOrders_1 11 rfl rfl)
theorem dX4_countsOrders_35 : decode cX4_countsOrders 35 = .ok (.iastore, 1) := dk_79 (dk_at dksX4_countsOrders_1 12 rfl rfl)
theorem dX4_countsOrders_36 : decode cX4_countsOrders 36 = .ok (.iconst 0, 1) := dk_3 (dk_at dksX4_countsOrders_1 13 rfl rfl)
theorem dX4_countsOrders_37 : decode cX4_countsOrders 37 = .ok (.istore_n 2, 1) := dk_61 (dk_at dksX4_countsOrders_1 14 rfl rfl)
theorem dX4_countsOrders_38 : decode cX4_countsOrders 38 = .ok (.iload_n 2, 1) := dk_28 (dk_at dksX4_countsOrders_1 15 rfl rfl)
theorem dX4_countsOrders_39 : decode cX4_countsOrders 39 = .ok (.iload_n 1, 1) := dk_27 (dk_at dksX4_countsOrders_1 16 rfl rfl)
theorem dX4_countsOrders_40 : decode cX4_countsOrders 40 = .ok (.if_icmp .ge 72, 3) := dk_162 0 72 (dk_at dksX4_countsOrders_1 17 rfl rfl)
theorem dX4_countsOrders_43 : decode cX4_countsOrders 43 = .ok (.iconst 0, 1) := dk_3 (dk_at dksX4_countsOrders_1 20 rfl rfl)
theorem dX4_countsOrders_44 : decode cX4_countsOrders 44 = .ok (.istore_n 3, 1) := dk_62 (dk_at dksX4_countsOrders_1 21 rfl rfl)
theorem dX4_countsOrders_45 : decode cX4_countsOrders 45 = .ok (.iload_n 3, 1) := dk_29 (dk_at dksX4_countsOrders_1 22 rfl rfl)
theorem dX4_countsOrders_46 : decode cX4_countsOrders 46 = .ok (.aload_n 0, 1) := dk_42 (dk_at dksX4_countsOrders_1 23 rfl rfl)
theorem dX4_countsOrders_47 : decode cX4_countsOrders 47 = .ok (.getfield 13, 3) := dk_180 0 13 (dk_at dksX4_countsOrders_2 0 rfl rfl)
theorem dX4_countsOrders_50 : decode cX4_countsOrders 50 = .ok (.iconst 1, 1) := dk_4 (dk_at dksX4_countsOrders_2 3 rfl rfl)
theorem dX4_countsOrders_51 : decode cX4_countsOrders 51 = .ok (.iaload, 1) := dk_46 (dk_at dksX4_countsOrders_2 4 rfl rfl)
theorem dX4_countsOrders_52 : decode cX4_countsOrders 52 = .ok (.if_icmp .ge 54, 3) := dk_162 0 54 (dk_at dksX4_countsOrders_2 5 rfl rfl)
theorem dX4_countsOrders_55 : decode cX4_countsOrders 55 = .ok (.aload_n 0, 1) := dk_42 (dk_at dksX4_countsOrders_2 8 rfl rfl)
theorem dX4_countsOrders_56 : decode cX4_countsOrders 56 = .ok (.getfield 29, 3) := dk_180 0 29 (dk_at dksX4_countsOrders_2 9 rfl rfl)
theorem dX4_countsOrders_59 : decode cX4_countsOrders 59 = .ok (.iload_n 2, 1) := dk_28 (dk_at dksX4_countsOrders_2 12 rfl rfl)
theorem dX4_countsOrders_60 : decode cX4_countsOrders 60 = .ok (.iaload, 1) := dk_46 (dk_at dksX4_countsOrders_2 13 rfl rfl)
theorem dX4_countsOrders_61 : decode cX4_countsOrders 61 = .ok (.ifCond .le 45, 3) := dk_158 0 45 (dk_at dksX4_countsOrders_2 14 rfl rfl)
theorem dX4_countsOrders_64 : decode cX4_countsOrders 64 = .ok (.iload_n 2, 1) := dk_28 (dk_at dksX4_countsOrders_2 17 rfl rfl)
theorem dX4_countsOrders_65 : decode cX4_countsOrders 65 = .ok (.iload_n 3, 1) := dk_29 (dk_at dksX4_countsOrders_2 18 rfl rfl)
theorem dX4_countsOrders_66 : decode cX4_countsOrders 66 = .ok (.invokestatic 73, 3) := dk_184 0 73 (dk_at dksX4_countsOrders_2 19 rfl rfl)
theorem dX4_countsOrders_69 : decode cX4_countsOrders 69 = .ok (.ifCond .ne 31, 3) := dk_154 0 31 (dk_at dksX4_countsOrders_3 0 rfl rfl)
theorem dX4_countsOrders_72 : decode cX4_countsOrders 72 = .ok (.aload_n 0, 1) := dk_42 (dk_at dksX4_countsOrders_3 3 rfl rfl)
theorem dX4_countsOrders_73 : decode cX4_countsOrders 73 = .ok (.iload_n 3, 1) := dk_29 (dk_at dksX4_countsOrders_3 4 rfl rfl)
theorem dX4_countsOrders_74 : decode cX4_countsOrders 74 = .ok (.iload_n 2, 1) := dk_28 (dk_at dksX4_countsOrders_3 5 rfl rfl)
theorem dX4_countsOrders_75 : decode cX4_countsOrders 75 = .ok (.invokevirtual 83, 3) := dk_182 0 83 (dk_at dksX4_countsOrders_3 6 rfl rfl)
theorem dX4_countsOrders_78 : decode cX4_countsOrders 78 = .ok (.ifCond .eq 22, 3) := dk_153 0 22 (dk_at dksX4_countsOrders_3 9 rfl rfl)
theorem dX4_countsOrders_81 : decode cX4_countsOrders 81 = .ok (.aload_n 0, 1) := dk_42 (dk_at dksX4_countsOrders_3 12 rfl rfl)
theorem dX4_countsOrders_82 : decode cX4_countsOrders 82 = .ok (.getfield 29, 3) := dk_180 0 29 (dk_at dksX4_countsOrders_3 13 rfl rfl)
theorem dX4_countsOrders_85 : decode cX4_countsOrders 85 = .ok (.iload_n 2, 1) := dk_28 (dk_at dksX4_countsOrders_3 16 rfl rfl)
theorem dX4_countsOrders_86 : decode cX4_countsOrders 86 = .ok (.iconst 1, 1) := dk_4 (dk_at dksX4_countsOrders_3 17 rfl rfl)
theorem dX4_countsOrders_87 : decode cX4_countsOrders 87 = .ok (.iload_n 3, 1) := dk_29 (dk_at dksX4_countsOrders_3 18 rfl rfl)
theorem dX4_countsOrders_88 : decode cX4_countsOrders 88 = .ok (.ishl, 1) := dk_120 (dk_at dksX4_countsOrders_3 19 rfl rfl)
theorem dX4_countsOrders_89 : decode cX4_countsOrders 89 = .ok (.ior, 1) := dk_128 (dk_at dksX4_countsOrders_3 20 rfl rfl)
theorem dX4_countsOrders_90 : decode cX4_countsOrders 90 = .ok (.dup2, 1) := dk_92 (dk_at dksX4_countsOrders_3 21 rfl rfl)
theorem dX4_countsOrders_91 : decode cX4_countsOrders 91 = .ok (.iaload, 1) := dk_46 (dk_at dksX4_countsOrders_3 22 rfl rfl)
theorem dX4_countsOrders_92 : decode cX4_countsOrders 92 = .ok (.aload_n 0, 1) := dk_42 (dk_at dksX4_countsOrders_3 23 rfl rfl)
theorem dX4_countsOrders_93 : decode cX4_countsOrders 93 = .ok (.getfield 29, 3) := dk_180 0 29 (dk_at dksX4_countsOrders_4 0 rfl rfl)
theorem dX4_countsOrders_96 : decode cX4_countsOrders 96 = .ok (.iload_n 2, 1) := dk_28 (dk_at dksX4_countsOrders_4 3 rfl rfl)
theorem dX4_countsOrders_97 : decode cX4_countsOrders 97 = .ok (.iaload, 1) := dk_46 (dk_at dksX4_countsOrders_4 4 rfl rfl)
theorem dX4_countsOrders_98 : decode cX4_countsOrders 98 = .ok (.iadd, 1) := dk_96 (dk_at dksX4_countsOrders_4 5 rfl rfl)
theorem dX4_countsOrders_99 : decode cX4_countsOrders 99 = .ok (.iastore, 1) := dk_79 (dk_at dksX4_countsOrders_4 6 rfl rfl)
theorem dX4_countsOrders_100 : decode cX4_countsOrders 100 = .ok (.iinc 3 1, 3) := dk_132 3 1 (dk_at dksX4_countsOrders_4 7 rfl rfl)
theorem dX4_countsOrders_103 : decode cX4_countsOrders 103 = .ok (.goto (-58), 3) := dk_167 255 198 (dk_at dksX4_countsOrders_4 10 rfl rfl)
theorem dX4_countsOrders_106 : decode cX4_countsOrders 106 = .ok (.iinc 2 1, 3) := dk_132 2 1 (dk_at dksX4_countsOrders_4 13 rfl rfl)
theorem dX4_countsOrders_109 : decode cX4_countsOrders 109 = .ok (.goto (-71), 3) := dk_167 255 185 (dk_at dksX4_countsOrders_4 16 rfl rfl)
theorem dX4_countsOrders_112 : decode cX4_countsOrders 112 = .ok (.return_, 1) := dk_177 (dk_at dksX4_countsOrders_4 19 rfl rfl)
abbrev cX4_earliestPlace : ByteArray := prog_33_method_91_code
def yX4_earliestPlace : MethodName := ⟨RX4, "earliestPlace", "(I)I"⟩
def dkwX4_earliestPlace_3 : List UInt8 := [28, 162, 0, 8, 29, 184, 1, 24, 61, 132, 3, 1, 167, 255, 202, 28, 172]
abbrev dktX4_earliestPlace_3 : List UInt8 := dkwX4_earliestPlace_3 ++ []
def dkwX4_earliestPlace_2 : List UInt8 := [158, 0, 33, 29, 27, 184, 0, 73, 154, 0, 25, 42, 27, 29, 182, 0, 83, 153, 0, 16, 29, 184, 1, 24]
abbrev dktX4_earliestPlace_2 : List UInt8 := dkwX4_earliestPlace_2 ++ dktX4_earliestPlace_3
def dkwX4_earliestPlace_1 : List UInt8 := [46, 61, 3, 62, 29, 4, 42, 180, 0, 13, 4, 46, 120, 162, 0, 48, 42, 180, 0, 29, 29, 46]
abbrev dktX4_earliestPlace_1 : List UInt8 := dkwX4_earliestPlace_1 ++ dktX4_earliestPlace_2
def dkwX4_earliestPlace_0 : List UInt8 := [42, 3, 181, 0, 1, 42, 27, 182, 1, 12, 153, 0, 5, 3, 172, 42, 182, 1, 21, 42, 180, 0, 13, 4]
abbrev dktX4_earliestPlace_0 : List UInt8 := dkwX4_earliestPlace_0 ++ dktX4_earliestPlace_1
theorem dksX4_earliestPlace_0 : cX4_earliestPlace.data.toList.drop 0 = dktX4_earliestPlace_0 := by decide +kernel
theorem dksX4_earliestPlace_1 : cX4_earliestPlace.data.toList.drop 24 = dktX4_earliestPlace_1 := dk_seg dksX4_earliestPlace_0 24 rfl rfl
theorem dksX4_earliestPlace_2 : cX4_earliestPlace.data.toList.drop 46 = dktX4_earliestPlace_2 := dk_seg dksX4_earliestPlace_1 22 rfl rfl
theorem dksX4_earliestPlace_3 : cX4_earliestPlace.data.toList.drop 70 = dktX4_earliestPlace_3 := dk_seg dksX4_earliestPlace_2 24 rfl rfl
theorem dX4_earliestPlace_0 : decode cX4_earliestPlace 0 = .ok (.aload_n 0, 1) := dk_42 (dk_at dksX4_earliestPlace_0 0 rfl rfl)
theorem dX4_earliestPlace_1 : decode cX4_earliestPlace 1 = .ok (.iconst 0, 1) := dk_3 (dk_at dksX4_earliestPlace_0 1 rfl rfl)
theorem dX4_earliestPlace_2 : decode cX4_earliestPlace 2 = .ok (.putfield 1, 3) := dk_181 0 1 (dk_at dksX4_earliestPlace_0 2 rfl rfl)
theorem dX4_earliestPlace_5 : decode cX4_earliestPlace 5 = .ok (.aload_n 0, 1) := dk_42 (dk_at dksX4_earliestPlace_0 5 rfl rfl)
theorem dX4_earliestPlace_6 : decode cX4_earliestPlace 6 = .ok (.iload_n 1, 1) := dk_27 (dk_at dksX4_earliestPlace_0 6 rfl rfl)
theorem dX4_earliestPlace_7 : decode cX4_earliestPlace 7 = .ok (.invokevirtual 268, 3) := dk_182 1 12 (dk_at dksX4_earliestPlace_0 7 rfl rfl)
theorem dX4_earliestPlace_10 : decode cX4_earliestPlace 10 = .ok (.ifCond .eq 5, 3) := dk_153 0 5 (dk_at dksX4_earliestPlace_0 10 rfl rfl)
theorem dX4_earliestPlace_13 : decode cX4_earliestPlace 13 = .ok (.iconst 0, 1) := dk_3 (dk_at dksX4_earliestPlace_0 13 rfl rfl)
theorem dX4_earliestPlace_14 : decode cX4_earliestPlace 14 = .ok (.ireturn, 1) := dk_172 (dk_at dksX4_earliestPlace_0 14 rfl rfl)
theorem dX4_earliestPlace_15 : decode cX4_earliestPlace 15 = .ok (.aload_n 0, 1) := dk_42 (dk_at dksX4_earliestPlace_0 15 rfl rfl)
theorem dX4_earliestPlace_16 : decode cX4_earliestPlace 16 = .ok (.invokevirtual 277, 3) := dk_182 1 21 (dk_at dksX4_earliestPlace_0 16 rfl rfl)
theorem dX4_earliestPlace_19 : decode cX4_earliestPlace 19 = .ok (.aload_n 0, 1) := dk_42 (dk_at dksX4_earliestPlace_0 19 rfl rfl)
theorem dX4_earliestPlace_20 : decode cX4_earliestPlace 20 = .ok (.getfield 13, 3) := dk_180 0 13 (dk_at dksX4_earliestPlace_0 20 rfl rfl)
theorem dX4_earliestPlace_23 : decode cX4_earliestPlace 23 = .ok (.iconst 1, 1) := dk_4 (dk_at dksX4_earliestPlace_0 23 rfl rfl)
theorem dX4_earliestPlace_24 : decode cX4_earliestPlace 24 = .ok (.iaload, 1) := dk_46 (dk_at dksX4_earliestPlace_1 0 rfl rfl)
theorem dX4_earliestPlace_25 : decode cX4_earliestPlace 25 = .ok (.istore_n 2, 1) := dk_61 (dk_at dksX4_earliestPlace_1 1 rfl rfl)
theorem dX4_earliestPlace_26 : decode cX4_earliestPlace 26 = .ok (.iconst 0, 1) := dk_3 (dk_at dksX4_earliestPlace_1 2 rfl rfl)
theorem dX4_earliestPlace_27 : decode cX4_earliestPlace 27 = .ok (.istore_n 3, 1) := dk_62 (dk_at dksX4_earliestPlace_1 3 rfl rfl)
theorem dX4_earliestPlace_28 : decode cX4_earliestPlace 28 = .ok (.iload_n 3, 1) := dk_29 (dk_at dksX4_earliestPlace_1 4 rfl rfl)
theorem dX4_earliestPlace_29 : decode cX4_earliestPlace 29 = .ok (.iconst 1, 1) := dk_4 (dk_at dksX4_earliestPlace_1 5 rfl rfl)
theorem dX4_earliestPlace_30 : decode cX4_earliestPlace 30 = .ok (.aload_n 0, 1) := dk_42 (dk_at dksX4_earliestPlace_1 6 rfl rfl)
theorem dX4_earliestPlace_31 : decode cX4_earliestPlace 31 = .ok (.getfield 13, 3) := dk_180 0 13 (dk_at dksX4_earliestPlace_1 7 rfl rfl)
theorem dX4_earliestPlace_34 : decode cX4_earliestPlace 34 = .ok (.iconst 1, 1) := dk_4 (dk_at dksX4_earliestPlace_1 10 rfl rfl)
theorem dX4_earliestPlace_35 : decode cX4_earliestPlace 35 = .ok (.iaload, 1) := dk_46 (dk_at dksX4_earliestPlace_1 11 rfl rfl)
theorem dX4_earliestPlace_36 : decode cX4_earliestPlace 36 = .ok (.ishl, 1) := dk_120 (dk_at dksX4_earliestPlace_1 12 rfl rfl)
theorem dX4_earliestPlace_37 : decode cX4_earliestPlace 37 = .ok (.if_icmp .ge 48, 3) := dk_162 0 48 (dk_at dksX4_earliestPlace_1 13 rfl rfl)
theorem dX4_earliestPlace_40 : decode cX4_earliestPlace 40 = .ok (.aload_n 0, 1) := dk_42 (dk_at dksX4_earliestPlace_1 16 rfl rfl)
theorem dX4_earliestPlace_41 : decode cX4_earliestPlace 41 = .ok (.getfield 29, 3) := dk_180 0 29 (dk_at dksX4_earliestPlace_1 17 rfl rfl)
theorem dX4_earliestPlace_44 : decode cX4_earliestPlace 44 = .ok (.iload_n 3, 1) := dk_29 (dk_at dksX4_earliestPlace_1 20 rfl rfl)
theorem dX4_earliestPlace_45 : decode cX4_earliestPlace 45 = .ok (.iaload, 1) := dk_46 (dk_at dksX4_earliestPlace_1 21 rfl rfl)
theorem dX4_earliestPlace_46 : decode cX4_earliestPlace 46 = .ok (.ifCond .le 33, 3) := dk_158 0 33 (dk_at dksX4_earliestPlace_2 0 rfl rfl)
theorem dX4_earliestPlace_49 : decode cX4_earliestPlace 49 = .ok (.iload_n 3, 1) := dk_29 (dk_at dksX4_earliestPlace_2 3 rfl rfl)
theorem dX4_earliestPlace_50 : decode cX4_earliestPlace 50 = .ok (.iload_n 1, 1) := dk_27 (dk_at dksX4_earliestPlace_2 4 rfl rfl)
theorem dX4_earliestPlace_51 : decode cX4_earliestPlace 51 = .ok (.invokestatic 73, 3) := dk_184 0 73 (dk_at dksX4_earliestPlace_2 5 rfl rfl)
theorem dX4_earliestPlace_54 : decode cX4_earliestPlace 54 = .ok (.ifCond .ne 25, 3) := dk_154 0 25 (dk_at dksX4_earliestPlace_2 8 rfl rfl)
theorem dX4_earliestPlace_57 : decode cX4_earliestPlace 57 = .ok (.aload_n 0, 1) := dk_42 (dk_at dksX4_earliestPlace_2 11 rfl rfl)
theorem dX4_earliestPlace_58 : decode cX4_earliestPlace 58 = .ok (.iload_n 1, 1) := dk_27 (dk_at dksX4_earliestPlace_2 12 rfl rfl)
theorem dX4_earliestPlace_59 : decode cX4_earliestPlace 59 = .ok (.iload_n 3, 1) := dk_29 (dk_at dksX4_earliestPlace_2 13 rfl rfl)
theorem dX4_earliestPlace_60 : decode cX4_earliestPlace 60 = .ok (.invokevirtual 83, 3) := dk_182 0 83 (dk_at dksX4_earliestPlace_2 14 rfl rfl)
theorem dX4_earliestPlace_63 : decode cX4_earliestPlace 63 = .ok (.ifCond .eq 16, 3) := dk_153 0 16 (dk_at dksX4_earliestPlace_2 17 rfl rfl)
theorem dX4_earliestPlace_66 : decode cX4_earliestPlace 66 = .ok (.iload_n 3, 1) := dk_29 (dk_at dksX4_earliestPlace_2 20 rfl rfl)
theorem dX4_earliestPlace_67 : decode cX4_earliestPlace 67 = .ok (.invokestatic 280, 3) := dk_184 1 24 (dk_at dksX4_earliestPlace_2 21 rfl rfl)
theorem dX4_earliestPlace_70 : decode cX4_earliestPlace 70 = .ok (.iload_n 2, 1) := dk_28 (dk_at dksX4_earliestPlace_3 0 rfl rfl)
theorem dX4_earliestPlace_71 : decode cX4_earliestPlace 71 = .ok (.if_icmp .ge 8, 3) := dk_162 0 8 (dk_at dksX4_earliestPlace_3 1 rfl rfl)
theorem dX4_earliestPlace_74 : decode cX4_earliestPlace 74 = .ok (.iload_n 3, 1) := dk_29 (dk_at dksX4_earliestPlace_3 4 rfl rfl)
theorem dX4_earliestPlace_75 : decode cX4_earliestPlace 75 = .ok (.invokestatic 280, 3) := dk_184 1 24 (dk_at dksX4_earliestPlace_3 5 rfl rfl)
theorem dX4_earliestPlace_78 : decode cX4_earliestPlace 78 = .ok (.istore_n 2, 1) := dk_61 (dk_at dksX4_earliestPlace_3 8 rfl rfl)
theorem dX4_earliestPlace_79 : decode cX4_earliestPlace 79 = .ok (.iinc 3 1, 3) := dk_132 3 1 (dk_at dksX4_earliestPlace_3 9 rfl rfl)
theorem dX4_earliestPlace_82 : decode cX4_earliestPlace 82 = .ok (.goto (-54), 3) := dk_167 255 202 (dk_at dksX4_earliestPlace_3 12 rfl rfl)
theorem dX4_earliestPlace_85 : decode cX4_earliestPlace 85 = .ok (.iload_n 2, 1) := dk_28 (dk_at dksX4_earliestPlace_3 15 rfl rfl)
theorem dX4_earliestPlace_86 : decode cX4_earliestPlace 86 = .ok (.ireturn, 1) := dk_172 (dk_at dksX4_earliestPlace_3 16 rfl rfl)
abbrev cX4_sizeOf : ByteArray := prog_33_method_21_code
def yX4_sizeOf : MethodName := ⟨RX4, "sizeOf", "(I)I"⟩
def dkwX4_sizeOf_0 : List UInt8 := [3, 60, 26, 61, 28, 158, 0, 16, 27, 28, 4, 126, 96, 60, 28, 4, 122, 61, 167, 255, 242, 27, 172]
abbrev dktX4_sizeOf_0 : List UInt8 := dkwX4_sizeOf_0 ++ []
theorem dksX4_sizeOf_0 : cX4_sizeOf.data.toList.drop 0 = dktX4_sizeOf_0 := by decide +kernel
theorem dX4_sizeOf_0 : decode cX4_sizeOf 0 = .ok (.iconst 0, 1) := dk_3 (dk_at dksX4_sizeOf_0 0 rfl rfl)
theorem dX4_sizeOf_1 : decode cX4_sizeOf 1 = .ok (.istore_n 1, 1) := dk_60 (dk_at dksX4_sizeOf_0 1 rfl rfl)
theorem dX4_sizeOf_2 : decode cX4_sizeOf 2 = .ok (.iload_n 0, 1) := dk_26 (dk_at dksX4_sizeOf_0 2 rfl rfl)
theorem dX4_sizeOf_3 : decode cX4_sizeOf 3 = .ok (.istore_n 2, 1) := dk_61 (dk_at dksX4_sizeOf_0 3 rfl rfl)
theorem dX4_sizeOf_4 : decode cX4_sizeOf 4 = .ok (.iload_n 2, 1) := dk_28 (dk_at dksX4_sizeOf_0 4 rfl rfl)
theorem dX4_sizeOf_5 : decode cX4_sizeOf 5 = .ok (.ifCond .le 16, 3) := dk_158 0 16 (dk_at dksX4_sizeOf_0 5 rfl rfl)
theorem dX4_sizeOf_8 : decode cX4_sizeOf 8 = .ok (.iload_n 1, 1) := dk_27 (dk_at dksX4_sizeOf_0 8 rfl rfl)
theorem dX4_sizeOf_9 : decode cX4_sizeOf 9 = .ok (.iload_n 2, 1) := dk_28 (dk_at dksX4_sizeOf_0 9 rfl rfl)
theorem dX4_sizeOf_10 : decode cX4_sizeOf 10 = .ok (.iconst 1, 1) := dk_4 (dk_at dksX4_sizeOf_0 10 rfl rfl)
theorem dX4_sizeOf_11 : decode cX4_sizeOf 11 = .ok (.iand, 1) := dk_126 (dk_at dksX4_sizeOf_0 11 rfl rfl)
theorem dX4_sizeOf_12 : decode cX4_sizeOf 12 = .ok (.iadd, 1) := dk_96 (dk_at dksX4_sizeOf_0 12 rfl rfl)
theorem dX4_sizeOf_13 : decode cX4_sizeOf 13 = .ok (.istore_n 1, 1) := dk_60 (dk_at dksX4_sizeOf_0 13 rfl rfl)
theorem dX4_sizeOf_14 : decode cX4_sizeOf 14 = .ok (.iload_n 2, 1) := dk_28 (dk_at dksX4_sizeOf_0 14 rfl rfl)
theorem dX4_sizeOf_15 : decode cX4_sizeOf 15 = .ok (.iconst 1, 1) := dk_4 (dk_at dksX4_sizeOf_0 15 rfl rfl)
theorem dX4_sizeOf_16 : decode cX4_sizeOf 16 = .ok (.ishr, 1) := dk_122 (dk_at dksX4_sizeOf_0 16 rfl rfl)
theorem dX4_sizeOf_17 : decode cX4_sizeOf 17 = .ok (.istore_n 2, 1) := dk_61 (dk_at dksX4_sizeOf_0 17 rfl rfl)
theorem dX4_sizeOf_18 : decode cX4_sizeOf 18 = .ok (.goto (-14), 3) := dk_167 255 242 (dk_at dksX4_sizeOf_0 18 rfl rfl)
theorem dX4_sizeOf_21 : decode cX4_sizeOf 21 = .ok (.iload_n 1, 1) := dk_27 (dk_at dksX4_sizeOf_0 21 rfl rfl)
theorem dX4_sizeOf_22 : decode cX4_sizeOf 22 = .ok (.ireturn, 1) := dk_172 (dk_at dksX4_sizeOf_0 22 rfl rfl)
abbrev cX4_requestObstacle : ByteArray := prog_33_method_95_code
def yX4_requestObstacle : MethodName := ⟨RX4, "requestObstacle", "(III)I"⟩
def dkwX4_requestObstacle_1 : List UInt8 := [182, 0, 241, 153, 0, 7, 3, 167, 0, 10, 42, 27, 28, 29, 182, 1, 27, 172]
abbrev dktX4_requestObstacle_1 : List UInt8 := dkwX4_requestObstacle_1 ++ []
def dkwX4_requestObstacle_0 : List UInt8 := [42, 3, 181, 0, 1, 42, 27, 28, 182, 1, 15, 154, 0, 18, 42, 29, 4, 16, 20, 184, 0, 209, 5]
abbrev dktX4_requestObstacle_0 : List UInt8 := dkwX4_requestObstacle_0 ++ dktX4_requestObstacle_1
theorem dksX4_requestObstacle_0 : cX4_requestObstacle.data.toList.drop 0 = dktX4_requestObstacle_0 := by decide +kernel
theorem dksX4_requestObstacle_1 : cX4_requestObstacle.data.toList.drop 23 = dktX4_requestObstacle_1 := dk_seg dksX4_requestObstacle_0 23 rfl rfl
theorem dX4_requestObstacle_0 : decode cX4_requestObstacle 0 = .ok (.aload_n 0, 1) := dk_42 (dk_at dksX4_requestObstacle_0 0 rfl rfl)
theorem dX4_requestObstacle_1 : decode cX4_requestObstacle 1 = .ok (.iconst 0, 1) := dk_3 (dk_at dksX4_requestObstacle_0 1 rfl rfl)
theorem dX4_requestObstacle_2 : decode cX4_requestObstacle 2 = .ok (.putfield 1, 3) := dk_181 0 1 (dk_at dksX4_requestObstacle_0 2 rfl rfl)
theorem dX4_requestObstacle_5 : decode cX4_requestObstacle 5 = .ok (.aload_n 0, 1) := dk_42 (dk_at dksX4_requestObstacle_0 5 rfl rfl)
theorem dX4_requestObstacle_6 : decode cX4_requestObstacle 6 = .ok (.iload_n 1, 1) := dk_27 (dk_at dksX4_requestObstacle_0 6 rfl rfl)
theorem dX4_requestObstacle_7 : decode cX4_requestObstacle 7 = .ok (.iload_n 2, 1) := dk_28 (dk_at dksX4_requestObstacle_0 7 rfl rfl)
theorem dX4_requestObstacle_8 : decode cX4_requestObstacle 8 = .ok (.invokevirtual 271, 3) := dk_182 1 15 (dk_at dksX4_requestObstacle_0 8 rfl rfl)
theorem dX4_requestObstacle_11 : decode cX4_requestObstacle 11 = .ok (.ifCond .ne 18, 3) := dk_154 0 18 (dk_at dksX4_requestObstacle_0 11 rfl rfl)
theorem dX4_requestObstacle_14 : decode cX4_requestObstacle 14 = .ok (.aload_n 0, 1) := dk_42 (dk_at dksX4_requestObstacle_0 14 rfl rfl)
theorem dX4_requestObstacle_15 : decode cX4_requestObstacle 15 = .ok (.iload_n 3, 1) := dk_29 (dk_at dksX4_requestObstacle_0 15 rfl rfl)
theorem dX4_requestObstacle_16 : decode cX4_requestObstacle 16 = .ok (.iconst 1, 1) := dk_4 (dk_at dksX4_requestObstacle_0 16 rfl rfl)
theorem dX4_requestObstacle_17 : decode cX4_requestObstacle 17 = .ok (.bipush 20, 2) := dk_16 20 (dk_at dksX4_requestObstacle_0 17 rfl rfl)
theorem dX4_requestObstacle_19 : decode cX4_requestObstacle 19 = .ok (.invokestatic 209, 3) := dk_184 0 209 (dk_at dksX4_requestObstacle_0 19 rfl rfl)
theorem dX4_requestObstacle_22 : decode cX4_requestObstacle 22 = .ok (.iconst 2, 1) := dk_5 (dk_at dksX4_requestObstacle_0 22 rfl rfl)
theorem dX4_requestObstacle_23 : decode cX4_requestObstacle 23 = .ok (.invokevirtual 241, 3) := dk_182 0 241 (dk_at dksX4_requestObstacle_1 0 rfl rfl)
theorem dX4_requestObstacle_26 : decode cX4_requestObstacle 26 = .ok (.ifCond .eq 7, 3) := dk_153 0 7 (dk_at dksX4_requestObstacle_1 3 rfl rfl)
theorem dX4_requestObstacle_29 : decode cX4_requestObstacle 29 = .ok (.iconst 0, 1) := dk_3 (dk_at dksX4_requestObstacle_1 6 rfl rfl)
theorem dX4_requestObstacle_30 : decode cX4_requestObstacle 30 = .ok (.goto 10, 3) := dk_167 0 10 (dk_at dksX4_requestObstacle_1 7 rfl rfl)
theorem dX4_requestObstacle_33 : decode cX4_requestObstacle 33 = .ok (.aload_n 0, 1) := dk_42 (dk_at dksX4_requestObstacle_1 10 rfl rfl)
theorem dX4_requestObstacle_34 : decode cX4_requestObstacle 34 = .ok (.iload_n 1, 1) := dk_27 (dk_at dksX4_requestObstacle_1 11 rfl rfl)
theorem dX4_requestObstacle_35 : decode cX4_requestObstacle 35 = .ok (.iload_n 2, 1) := dk_28 (dk_at dksX4_requestObstacle_1 12 rfl rfl)
theorem dX4_requestObstacle_36 : decode cX4_requestObstacle 36 = .ok (.iload_n 3, 1) := dk_29 (dk_at dksX4_requestObstacle_1 13 rfl rfl)
theorem dX4_requestObstacle_37 : decode cX4_requestObstacle 37 = .ok (.invokevirtual 283, 3) := dk_182 1 27 (dk_at dksX4_requestObstacle_1 14 rfl rfl)
theorem dX4_requestObstacle_40 : decode cX4_requestObstacle 40 = .ok (.ireturn, 1) := dk_172 (dk_at dksX4_requestObstacle_1 17 rfl rfl)
abbrev cX4_obstacle : ByteArray := prog_33_method_94_code
def yX4_obstacle : MethodName := ⟨RX4, "obstacle", "(III)I"⟩
def dkwX4_obstacle_2 : List UInt8 := [172]
abbrev dktX4_obstacle_2 : List UInt8 := dkwX4_obstacle_2 ++ []
def dkwX4_obstacle_1 : List UInt8 := [182, 0, 70, 29, 162, 0, 5, 6, 172, 42, 27, 28, 29, 182, 0, 103, 153, 0, 7, 3, 167, 0, 4, 7]
abbrev dktX4_obstacle_1 : List UInt8 := dkwX4_obstacle_1 ++ dktX4_obstacle_2
def dkwX4_obstacle_0 : List UInt8 := [42, 27, 182, 0, 107, 153, 0, 5, 4, 172, 29, 42, 27, 28, 182, 0, 77, 164, 0, 5, 5, 172, 42, 28]
abbrev dktX4_obstacle_0 : List UInt8 := dkwX4_obstacle_0 ++ dktX4_obstacle_1
theorem dksX4_obstacle_0 : cX4_obstacle.data.toList.drop 0 = dktX4_obstacle_0 := by decide +kernel
theorem dksX4_obstacle_1 : cX4_obstacle.data.toList.drop 24 = dktX4_obstacle_1 := dk_seg dksX4_obstacle_0 24 rfl rfl
theorem dksX4_obstacle_2 : cX4_obstacle.data.toList.drop 48 = dktX4_obstacle_2 := dk_seg dksX4_obstacle_1 24 rfl rfl
theorem dX4_obstacle_0 : decode cX4_obstacle 0 = .ok (.aload_n 0, 1) := dk_42 (dk_at dksX4_obstacle_0 0 rfl rfl)
theorem dX4_obstacle_1 : decode cX4_obstacle 1 = .ok (.iload_n 1, 1) := dk_27 (dk_at dksX4_obstacle_0 1 rfl rfl)
theorem dX4_obstacle_2 : decode cX4_obstacle 2 = .ok (.invokevirtual 107, 3) := dk_182 0 107 (dk_at dksX4_obstacle_0 2 rfl rfl)
theorem dX4_obstacle_5 : decode cX4_obstacle 5 = .ok (.ifCond .eq 5, 3) := dk_153 0 5 (dk_at dksX4_obstacle_0 5 rfl rfl)
theorem dX4_obstacle_8 : decode cX4_obstacle 8 = .ok (.iconst 1, 1) := dk_4 (dk_at dksX4_obstacle_0 8 rfl rfl)
theorem dX4_obstacle_9 : decode cX4_obstacle 9 = .ok (.ireturn, 1) := dk_172 (dk_at dksX4_obstacle_0 9 rfl rfl)
theorem dX4_obstacle_10 : decode cX4_obstacle 10 = .ok (.iload_n 3, 1) := dk_29 (dk_at dksX4_obstacle_0 10 rfl rfl)
theorem dX4_obstacle_11 : decode cX4_obstacle 11 = .ok (.aload_n 0, 1) := dk_42 (dk_at dksX4_obstacle_0 11 rfl rfl)
theorem dX4_obstacle_12 : decode cX4_obstacle 12 = .ok (.iload_n 1, 1) := dk_27 (dk_at dksX4_obstacle_0 12 rfl rfl)
theorem dX4_obstacle_13 : decode cX4_obstacle 13 = .ok (.iload_n 2, 1) := dk_28 (dk_at dksX4_obstacle_0 13 rfl rfl)
theorem dX4_obstacle_14 : decode cX4_obstacle 14 = .ok (.invokevirtual 77, 3) := dk_182 0 77 (dk_at dksX4_obstacle_0 14 rfl rfl)
theorem dX4_obstacle_17 : decode cX4_obstacle 17 = .ok (.if_icmp .le 5, 3) := dk_164 0 5 (dk_at dksX4_obstacle_0 17 rfl rfl)
theorem dX4_obstacle_20 : decode cX4_obstacle 20 = .ok (.iconst 2, 1) := dk_5 (dk_at dksX4_obstacle_0 20 rfl rfl)
theorem dX4_obstacle_21 : decode cX4_obstacle 21 = .ok (.ireturn, 1) := dk_172 (dk_at dksX4_obstacle_0 21 rfl rfl)
theorem dX4_obstacle_22 : decode cX4_obstacle 22 = .ok (.aload_n 0, 1) := dk_42 (dk_at dksX4_obstacle_0 22 rfl rfl)
theorem dX4_obstacle_23 : decode cX4_obstacle 23 = .ok (.iload_n 2, 1) := dk_28 (dk_at dksX4_obstacle_0 23 rfl rfl)
theorem dX4_obstacle_24 : decode cX4_obstacle 24 = .ok (.invokevirtual 70, 3) := dk_182 0 70 (dk_at dksX4_obstacle_1 0 rfl rfl)
theorem dX4_obstacle_27 : decode cX4_obstacle 27 = .ok (.iload_n 3, 1) := dk_29 (dk_at dksX4_obstacle_1 3 rfl rfl)
theorem dX4_obstacle_28 : decode cX4_obstacle 28 = .ok (.if_icmp .ge 5, 3) := dk_162 0 5 (dk_at dksX4_obstacle_1 4 rfl rfl)
theorem dX4_obstacle_31 : decode cX4_obstacle 31 = .ok (.iconst 3, 1) := dk_6 (dk_at dksX4_obstacle_1 7 rfl rfl)
theorem dX4_obstacle_32 : decode cX4_obstacle 32 = .ok (.ireturn, 1) := dk_172 (dk_at dksX4_obstacle_1 8 rfl rfl)
theorem dX4_obstacle_33 : decode cX4_obstacle 33 = .ok (.aload_n 0, 1) := dk_42 (dk_at dksX4_obstacle_1 9 rfl rfl)
theorem dX4_obstacle_34 : decode cX4_obstacle 34 = .ok (.iload_n 1, 1) := dk_27 (dk_at dksX4_obstacle_1 10 rfl rfl)
theorem dX4_obstacle_35 : decode cX4_obstacle 35 = .ok (.iload_n 2, 1) := dk_28 (dk_at dksX4_obstacle_1 11 rfl rfl)
theorem dX4_obstacle_36 : decode cX4_obstacle 36 = .ok (.iload_n 3, 1) := dk_29 (dk_at dksX4_obstacle_1 12 rfl rfl)
theorem dX4_obstacle_37 : decode cX4_obstacle 37 = .ok (.invokevirtual 103, 3) := dk_182 0 103 (dk_at dksX4_obstacle_1 13 rfl rfl)
theorem dX4_obstacle_40 : decode cX4_obstacle 40 = .ok (.ifCond .eq 7, 3) := dk_153 0 7 (dk_at dksX4_obstacle_1 16 rfl rfl)
theorem dX4_obstacle_43 : decode cX4_obstacle 43 = .ok (.iconst 0, 1) := dk_3 (dk_at dksX4_obstacle_1 19 rfl rfl)
theorem dX4_obstacle_44 : decode cX4_obstacle 44 = .ok (.goto 4, 3) := dk_167 0 4 (dk_at dksX4_obstacle_1 20 rfl rfl)
theorem dX4_obstacle_47 : decode cX4_obstacle 47 = .ok (.iconst 4, 1) := dk_7 (dk_at dksX4_obstacle_1 23 rfl rfl)
theorem dX4_obstacle_48 : decode cX4_obstacle 48 = .ok (.ireturn, 1) := dk_172 (dk_at dksX4_obstacle_2 0 rfl rfl)
abbrev cX4_isSafeWith : ByteArray := prog_33_method_24_code
def yX4_isSafeWith : MethodName := ⟨RX4, "isSafeWith", "(III)Z"⟩
def dkwX4_isSafeWith_0 : List UInt8 := [42, 27, 28, 29, 182, 0, 96, 42, 182, 0, 99, 54, 4, 42, 27, 28, 29, 116, 182, 0, 96, 21, 4, 172]
abbrev dktX4_isSafeWith_0 : List UInt8 := dkwX4_isSafeWith_0 ++ []
theorem dksX4_isSafeWith_0 : cX4_isSafeWith.data.toList.drop 0 = dktX4_isSafeWith_0 := by decide +kernel
theorem dX4_isSafeWith_0 : decode cX4_isSafeWith 0 = .ok (.aload_n 0, 1) := dk_42 (dk_at dksX4_isSafeWith_0 0 rfl rfl)
theorem dX4_isSafeWith_1 : decode cX4_isSafeWith 1 = .ok (.iload_n 1, 1) := dk_27 (dk_at dksX4_isSafeWith_0 1 rfl rfl)
theorem dX4_isSafeWith_2 : decode cX4_isSafeWith 2 = .ok (.iload_n 2, 1) := dk_28 (dk_at dksX4_isSafeWith_0 2 rfl rfl)
theorem dX4_isSafeWith_3 : decode cX4_isSafeWith 3 = .ok (.iload_n 3, 1) := dk_29 (dk_at dksX4_isSafeWith_0 3 rfl rfl)
theorem dX4_isSafeWith_4 : decode cX4_isSafeWith 4 = .ok (.invokevirtual 96, 3) := dk_182 0 96 (dk_at dksX4_isSafeWith_0 4 rfl rfl)
theorem dX4_isSafeWith_7 : decode cX4_isSafeWith 7 = .ok (.aload_n 0, 1) := dk_42 (dk_at dksX4_isSafeWith_0 7 rfl rfl)
theorem dX4_isSafeWith_8 : decode cX4_isSafeWith 8 = .ok (.invokevirtual 99, 3) := dk_182 0 99 (dk_at dksX4_isSafeWith_0 8 rfl rfl)
theorem dX4_isSafeWith_11 : decode cX4_isSafeWith 11 = .ok (.istore 4, 2) := dk_54 4 (dk_at dksX4_isSafeWith_0 11 rfl rfl)
theorem dX4_isSafeWith_13 : decode cX4_isSafeWith 13 = .ok (.aload_n 0, 1) := dk_42 (dk_at dksX4_isSafeWith_0 13 rfl rfl)
theorem dX4_isSafeWith_14 : decode cX4_isSafeWith 14 = .ok (.iload_n 1, 1) := dk_27 (dk_at dksX4_isSafeWith_0 14 rfl rfl)
theorem dX4_isSafeWith_15 : decode cX4_isSafeWith 15 = .ok (.iload_n 2, 1) := dk_28 (dk_at dksX4_isSafeWith_0 15 rfl rfl)
theorem dX4_isSafeWith_16 : decode cX4_isSafeWith 16 = .ok (.iload_n 3, 1) := dk_29 (dk_at dksX4_isSafeWith_0 16 rfl rfl)
theorem dX4_isSafeWith_17 : decode cX4_isSafeWith 17 = .ok (.ineg, 1) := dk_116 (dk_at dksX4_isSafeWith_0 17 rfl rfl)
theorem dX4_isSafeWith_18 : decode cX4_isSafeWith 18 = .ok (.invokevirtual 96, 3) := dk_182 0 96 (dk_at dksX4_isSafeWith_0 18 rfl rfl)
theorem dX4_isSafeWith_21 : decode cX4_isSafeWith 21 = .ok (.iload 4, 2) := dk_21 4 (dk_at dksX4_isSafeWith_0 21 rfl rfl)
theorem dX4_isSafeWith_23 : decode cX4_isSafeWith 23 = .ok (.ireturn, 1) := dk_172 (dk_at dksX4_isSafeWith_0 23 rfl rfl)
abbrev cX4_gives : ByteArray := prog_33_method_23_code
def yX4_gives : MethodName := ⟨RX4, "gives", "(III)V"⟩
def dkwX4_gives_0 : List UInt8 := [42, 27, 7, 28, 96, 42, 27, 7, 28, 96, 182, 0, 63, 29, 96, 182, 0, 92, 177]
abbrev dktX4_gives_0 : List UInt8 := dkwX4_gives_0 ++ []
theorem dksX4_gives_0 : cX4_gives.data.toList.drop 0 = dktX4_gives_0 := by decide +kernel
theorem dX4_gives_0 : decode cX4_gives 0 = .ok (.aload_n 0, 1) := dk_42 (dk_at dksX4_gives_0 0 rfl rfl)
theorem dX4_gives_1 : decode cX4_gives 1 = .ok (.iload_n 1, 1) := dk_27 (dk_at dksX4_gives_0 1 rfl rfl)
theorem dX4_gives_2 : decode cX4_gives 2 = .ok (.iconst 4, 1) := dk_7 (dk_at dksX4_gives_0 2 rfl rfl)
theorem dX4_gives_3 : decode cX4_gives 3 = .ok (.iload_n 2, 1) := dk_28 (dk_at dksX4_gives_0 3 rfl rfl)
theorem dX4_gives_4 : decode cX4_gives 4 = .ok (.iadd, 1) := dk_96 (dk_at dksX4_gives_0 4 rfl rfl)
theorem dX4_gives_5 : decode cX4_gives 5 = .ok (.aload_n 0, 1) := dk_42 (dk_at dksX4_gives_0 5 rfl rfl)
theorem dX4_gives_6 : decode cX4_gives 6 = .ok (.iload_n 1, 1) := dk_27 (dk_at dksX4_gives_0 6 rfl rfl)
theorem dX4_gives_7 : decode cX4_gives 7 = .ok (.iconst 4, 1) := dk_7 (dk_at dksX4_gives_0 7 rfl rfl)
theorem dX4_gives_8 : decode cX4_gives 8 = .ok (.iload_n 2, 1) := dk_28 (dk_at dksX4_gives_0 8 rfl rfl)
theorem dX4_gives_9 : decode cX4_gives 9 = .ok (.iadd, 1) := dk_96 (dk_at dksX4_gives_0 9 rfl rfl)
theorem dX4_gives_10 : decode cX4_gives 10 = .ok (.invokevirtual 63, 3) := dk_182 0 63 (dk_at dksX4_gives_0 10 rfl rfl)
theorem dX4_gives_13 : decode cX4_gives 13 = .ok (.iload_n 3, 1) := dk_29 (dk_at dksX4_gives_0 13 rfl rfl)
theorem dX4_gives_14 : decode cX4_gives 14 = .ok (.iadd, 1) := dk_96 (dk_at dksX4_gives_0 14 rfl rfl)
theorem dX4_gives_15 : decode cX4_gives 15 = .ok (.invokevirtual 92, 3) := dk_182 0 92 (dk_at dksX4_gives_0 15 rfl rfl)
theorem dX4_gives_18 : decode cX4_gives 18 = .ok (.return_, 1) := dk_177 (dk_at dksX4_gives_0 18 rfl rfl)
abbrev cX4_greatestGrant : ByteArray := prog_33_method_96_code
def yX4_greatestGrant : MethodName := ⟨RX4, "greatestGrant", "(II)I"⟩
def dkwX4_greatestGrant_1 : List UInt8 := [158, 0, 19, 42, 27, 28, 29, 182, 0, 124, 154, 0, 9, 132, 3, 255, 167, 255, 239, 29, 172]
abbrev dktX4_greatestGrant_1 : List UInt8 := dkwX4_greatestGrant_1 ++ []
def dkwX4_greatestGrant_0 : List UInt8 := [42, 3, 181, 0, 1, 42, 27, 28, 182, 1, 15, 153, 0, 5, 3, 172, 42, 27, 28, 182, 0, 77, 62, 29]
abbrev dktX4_greatestGrant_0 : List UInt8 := dkwX4_greatestGrant_0 ++ dktX4_greatestGrant_1
theorem dksX4_greatestGrant_0 : cX4_greatestGrant.data.toList.drop 0 = dktX4_greatestGrant_0 := by decide +kernel
theorem dksX4_greatestGrant_1 : cX4_greatestGrant.data.toList.drop 24 = dktX4_greatestGrant_1 := dk_seg dksX4_greatestGrant_0 24 rfl rfl
theorem dX4_greatestGrant_0 : decode cX4_greatestGrant 0 = .ok (.aload_n 0, 1) := dk_42 (dk_at dksX4_greatestGrant_0 0 rfl rfl)
theorem dX4_greatestGrant_1 : decode cX4_greatestGrant 1 = .ok (.iconst 0, 1) := dk_3 (dk_at dksX4_greatestGrant_0 1 rfl rfl)
theorem dX4_greatestGrant_2 : decode cX4_greatestGrant 2 = .ok (.putfield 1, 3) := dk_181 0 1 (dk_at dksX4_greatestGrant_0 2 rfl rfl)
theorem dX4_greatestGrant_5 : decode cX4_greatestGrant 5 = .ok (.aload_n 0, 1) := dk_42 (dk_at dksX4_greatestGrant_0 5 rfl rfl)
theorem dX4_greatestGrant_6 : decode cX4_greatestGrant 6 = .ok (.iload_n 1, 1) := dk_27 (dk_at dksX4_greatestGrant_0 6 rfl rfl)
theorem dX4_greatestGrant_7 : decode cX4_greatestGrant 7 = .ok (.iload_n 2, 1) := dk_28 (dk_at dksX4_greatestGrant_0 7 rfl rfl)
theorem dX4_greatestGrant_8 : decode cX4_greatestGrant 8 = .ok (.invokevirtual 271, 3) := dk_182 1 15 (dk_at dksX4_greatestGrant_0 8 rfl rfl)
theorem dX4_greatestGrant_11 : decode cX4_greatestGrant 11 = .ok (.ifCond .eq 5, 3) := dk_153 0 5 (dk_at dksX4_greatestGrant_0 11 rfl rfl)
theorem dX4_greatestGrant_14 : decode cX4_greatestGrant 14 = .ok (.iconst 0, 1) := dk_3 (dk_at dksX4_greatestGrant_0 14 rfl rfl)
theorem dX4_greatestGrant_15 : decode cX4_greatestGrant 15 = .ok (.ireturn, 1) := dk_172 (dk_at dksX4_greatestGrant_0 15 rfl rfl)
theorem dX4_greatestGrant_16 : decode cX4_greatestGrant 16 = .ok (.aload_n 0, 1) := dk_42 (dk_at dksX4_greatestGrant_0 16 rfl rfl)
theorem dX4_greatestGrant_17 : decode cX4_greatestGrant 17 = .ok (.iload_n 1, 1) := dk_27 (dk_at dksX4_greatestGrant_0 17 rfl rfl)
theorem dX4_greatestGrant_18 : decode cX4_greatestGrant 18 = .ok (.iload_n 2, 1) := dk_28 (dk_at dksX4_greatestGrant_0 18 rfl rfl)
theorem dX4_greatestGrant_19 : decode cX4_greatestGrant 19 = .ok (.invokevirtual 77, 3) := dk_182 0 77 (dk_at dksX4_greatestGrant_0 19 rfl rfl)
theorem dX4_greatestGrant_22 : decode cX4_greatestGrant 22 = .ok (.istore_n 3, 1) := dk_62 (dk_at dksX4_greatestGrant_0 22 rfl rfl)
theorem dX4_greatestGrant_23 : decode cX4_greatestGrant 23 = .ok (.iload_n 3, 1) := dk_29 (dk_at dksX4_greatestGrant_0 23 rfl rfl)
theorem dX4_greatestGrant_24 : decode cX4_greatestGrant 24 = .ok (.ifCond .le 19, 3) := dk_158 0 19 (dk_at dksX4_greatestGrant_1 0 rfl rfl)
theorem dX4_greatestGrant_27 : decode cX4_greatestGrant 27 = .ok (.aload_n 0, 1) := dk_42 (dk_at dksX4_greatestGrant_1 3 rfl rfl)
theorem dX4_greatestGrant_28 : decode cX4_greatestGrant 28 = .ok (.iload_n 1, 1) := dk_27 (dk_at dksX4_greatestGrant_1 4 rfl rfl)
theorem dX4_greatestGrant_29 : decode cX4_greatestGrant 29 = .ok (.iload_n 2, 1) := dk_28 (dk_at dksX4_greatestGrant_1 5 rfl rfl)
theorem dX4_greatestGrant_30 : decode cX4_greatestGrant 30 = .ok (.iload_n 3, 1) := dk_29 (dk_at dksX4_greatestGrant_1 6 rfl rfl)
theorem dX4_greatestGrant_31 : decode cX4_greatestGrant 31 = .ok (.invokevirtual 124, 3) := dk_182 0 124 (dk_at dksX4_greatestGrant_1 7 rfl rfl)
theorem dX4_greatestGrant_34 : decode cX4_greatestGrant 34 = .ok (.ifCond .ne 9, 3) := dk_154 0 9 (dk_at dksX4_greatestGrant_1 10 rfl rfl)
theorem dX4_greatestGrant_37 : decode cX4_greatestGrant 37 = .ok (.iinc 3 (-1), 3) := dk_132 3 255 (dk_at dksX4_greatestGrant_1 13 rfl rfl)
theorem dX4_greatestGrant_40 : decode cX4_greatestGrant 40 = .ok (.goto (-17), 3) := dk_167 255 239 (dk_at dksX4_greatestGrant_1 16 rfl rfl)
theorem dX4_greatestGrant_43 : decode cX4_greatestGrant 43 = .ok (.iload_n 3, 1) := dk_29 (dk_at dksX4_greatestGrant_1 19 rfl rfl)
theorem dX4_greatestGrant_44 : decode cX4_greatestGrant 44 = .ok (.ireturn, 1) := dk_172 (dk_at dksX4_greatestGrant_1 20 rfl rfl)
abbrev cX4_canGrant : ByteArray := prog_33_method_25_code
def yX4_canGrant : MethodName := ⟨RX4, "canGrant", "(III)Z"⟩
def dkwX4_canGrant_1 : List UInt8 := [172]
abbrev dktX4_canGrant_1 : List UInt8 := dkwX4_canGrant_1 ++ []
def dkwX4_canGrant_0 : List UInt8 := [42, 28, 182, 0, 70, 29, 161, 0, 17, 42, 27, 28, 29, 182, 0, 103, 153, 0, 7, 4, 167, 0, 4, 3]
abbrev dktX4_canGrant_0 : List UInt8 := dkwX4_canGrant_0 ++ dktX4_canGrant_1
theorem dksX4_canGrant_0 : cX4_canGrant.data.toList.drop 0 = dktX4_canGrant_0 := by decide +kernel
theorem dksX4_canGrant_1 : cX4_canGrant.data.toList.drop 24 = dktX4_canGrant_1 := dk_seg dksX4_canGrant_0 24 rfl rfl
theorem dX4_canGrant_0 : decode cX4_canGrant 0 = .ok (.aload_n 0, 1) := dk_42 (dk_at dksX4_canGrant_0 0 rfl rfl)
theorem dX4_canGrant_1 : decode cX4_canGrant 1 = .ok (.iload_n 2, 1) := dk_28 (dk_at dksX4_canGrant_0 1 rfl rfl)
theorem dX4_canGrant_2 : decode cX4_canGrant 2 = .ok (.invokevirtual 70, 3) := dk_182 0 70 (dk_at dksX4_canGrant_0 2 rfl rfl)
theorem dX4_canGrant_5 : decode cX4_canGrant 5 = .ok (.iload_n 3, 1) := dk_29 (dk_at dksX4_canGrant_0 5 rfl rfl)
theorem dX4_canGrant_6 : decode cX4_canGrant 6 = .ok (.if_icmp .lt 17, 3) := dk_161 0 17 (dk_at dksX4_canGrant_0 6 rfl rfl)
theorem dX4_canGrant_9 : decode cX4_canGrant 9 = .ok (.aload_n 0, 1) := dk_42 (dk_at dksX4_canGrant_0 9 rfl rfl)
theorem dX4_canGrant_10 : decode cX4_canGrant 10 = .ok (.iload_n 1, 1) := dk_27 (dk_at dksX4_canGrant_0 10 rfl rfl)
theorem dX4_canGrant_11 : decode cX4_canGrant 11 = .ok (.iload_n 2, 1) := dk_28 (dk_at dksX4_canGrant_0 11 rfl rfl)
theorem dX4_canGrant_12 : decode cX4_canGrant 12 = .ok (.iload_n 3, 1) := dk_29 (dk_at dksX4_canGrant_0 12 rfl rfl)
theorem dX4_canGrant_13 : decode cX4_canGrant 13 = .ok (.invokevirtual 103, 3) := dk_182 0 103 (dk_at dksX4_canGrant_0 13 rfl rfl)
theorem dX4_canGrant_16 : decode cX4_canGrant 16 = .ok (.ifCond .eq 7, 3) := dk_153 0 7 (dk_at dksX4_canGrant_0 16 rfl rfl)
theorem dX4_canGrant_19 : decode cX4_canGrant 19 = .ok (.iconst 1, 1) := dk_4 (dk_at dksX4_canGrant_0 19 rfl rfl)
theorem dX4_canGrant_20 : decode cX4_canGrant 20 = .ok (.goto 4, 3) := dk_167 0 4 (dk_at dksX4_canGrant_0 20 rfl rfl)
theorem dX4_canGrant_23 : decode cX4_canGrant 23 = .ok (.iconst 0, 1) := dk_3 (dk_at dksX4_canGrant_0 23 rfl rfl)
theorem dX4_canGrant_24 : decode cX4_canGrant 24 = .ok (.ireturn, 1) := dk_172 (dk_at dksX4_canGrant_1 0 rfl rfl)
abbrev cX4_spare : ByteArray := prog_33_method_97_code
def yX4_spare : MethodName := ⟨RX4, "spare", "(I)I"⟩
def dkwX4_spare_1 : List UInt8 := [28, 182, 0, 143, 154, 0, 9, 132, 2, 255, 167, 255, 240, 28, 172]
abbrev dktX4_spare_1 : List UInt8 := dkwX4_spare_1 ++ []
def dkwX4_spare_0 : List UInt8 := [42, 3, 181, 0, 1, 42, 27, 182, 1, 6, 153, 0, 5, 3, 172, 16, 20, 61, 28, 158, 0, 18, 42, 27]
abbrev dktX4_spare_0 : List UInt8 := dkwX4_spare_0 ++ dktX4_spare_1
theorem dksX4_spare_0 : cX4_spare.data.toList.drop 0 = dktX4_spare_0 := by decide +kernel
theorem dksX4_spare_1 : cX4_spare.data.toList.drop 24 = dktX4_spare_1 := dk_seg dksX4_spare_0 24 rfl rfl
theorem dX4_spare_0 : decode cX4_spare 0 = .ok (.aload_n 0, 1) := dk_42 (dk_at dksX4_spare_0 0 rfl rfl)
theorem dX4_spare_1 : decode cX4_spare 1 = .ok (.iconst 0, 1) := dk_3 (dk_at dksX4_spare_0 1 rfl rfl)
theorem dX4_spare_2 : decode cX4_spare 2 = .ok (.putfield 1, 3) := dk_181 0 1 (dk_at dksX4_spare_0 2 rfl rfl)
theorem dX4_spare_5 : decode cX4_spare 5 = .ok (.aload_n 0, 1) := dk_42 (dk_at dksX4_spare_0 5 rfl rfl)
theorem dX4_spare_6 : decode cX4_spare 6 = .ok (.iload_n 1, 1) := dk_27 (dk_at dksX4_spare_0 6 rfl rfl)
theorem dX4_spare_7 : decode cX4_spare 7 = .ok (.invokevirtual 262, 3) := dk_182 1 6 (dk_at dksX4_spare_0 7 rfl rfl)
theorem dX4_spare_10 : decode cX4_spare 10 = .ok (.ifCond .eq 5, 3) := dk_153 0 5 (dk_at dksX4_spare_0 10 rfl rfl)
theorem dX4_spare_13 : decode cX4_spare 13 = .ok (.iconst 0, 1) := dk_3 (dk_at dksX4_spare_0 13 rfl rfl)
theorem dX4_spare_14 : decode cX4_spare 14 = .ok (.ireturn, 1) := dk_172 (dk_at dksX4_spare_0 14 rfl rfl)
theorem dX4_spare_15 : decode cX4_spare 15 = .ok (.bipush 20, 2) := dk_16 20 (dk_at dksX4_spare_0 15 rfl rfl)
theorem dX4_spare_17 : decode cX4_spare 17 = .ok (.istore_n 2, 1) := dk_61 (dk_at dksX4_spare_0 17 rfl rfl)
theorem dX4_spare_18 : decode cX4_spare 18 = .ok (.iload_n 2, 1) := dk_28 (dk_at dksX4_spare_0 18 rfl rfl)
theorem dX4_spare_19 : decode cX4_spare 19 = .ok (.ifCond .le 18, 3) := dk_158 0 18 (dk_at dksX4_spare_0 19 rfl rfl)
theorem dX4_spare_22 : decode cX4_spare 22 = .ok (.aload_n 0, 1) := dk_42 (dk_at dksX4_spare_0 22 rfl rfl)
theorem dX4_spare_23 : decode cX4_spare 23 = .ok (.iload_n 1, 1) := dk_27 (dk_at dksX4_spare_0 23 rfl rfl)
theorem dX4_spare_24 : decode cX4_spare 24 = .ok (.iload_n 2, 1) := dk_28 (dk_at dksX4_spare_1 0 rfl rfl)
theorem dX4_spare_25 : decode cX4_spare 25 = .ok (.invokevirtual 143, 3) := dk_182 0 143 (dk_at dksX4_spare_1 1 rfl rfl)
theorem dX4_spare_28 : decode cX4_spare 28 = .ok (.ifCond .ne 9, 3) := dk_154 0 9 (dk_at dksX4_spare_1 4 rfl rfl)
theorem dX4_spare_31 : decode cX4_spare 31 = .ok (.iinc 2 (-1), 3) := dk_132 2 255 (dk_at dksX4_spare_1 7 rfl rfl)
theorem dX4_spare_34 : decode cX4_spare 34 = .ok (.goto (-16), 3) := dk_167 255 240 (dk_at dksX4_spare_1 10 rfl rfl)
theorem dX4_spare_37 : decode cX4_spare 37 = .ok (.iload_n 2, 1) := dk_28 (dk_at dksX4_spare_1 13 rfl rfl)
theorem dX4_spare_38 : decode cX4_spare 38 = .ok (.ireturn, 1) := dk_172 (dk_at dksX4_spare_1 14 rfl rfl)
abbrev cX4_canRetire : ByteArray := prog_33_method_35_code
def yX4_canRetire : MethodName := ⟨RX4, "canRetire", "(II)Z"⟩
def dkwX4_canRetire_3 : List UInt8 := [42, 180, 0, 13, 16, 9, 27, 96, 92, 46, 28, 96, 79, 29, 172]
abbrev dktX4_canRetire_3 : List UInt8 := dkwX4_canRetire_3 ++ []
def dkwX4_canRetire_2 : List UInt8 := [132, 3, 1, 167, 255, 219, 42, 180, 0, 13, 16, 9, 27, 96, 92, 46, 28, 100, 79, 42, 182, 0, 99, 62]
abbrev dktX4_canRetire_2 : List UInt8 := dkwX4_canRetire_2 ++ dktX4_canRetire_3
def dkwX4_canRetire_1 : List UInt8 := [29, 3, 27, 96, 182, 0, 63, 42, 180, 0, 13, 16, 9, 27, 96, 46, 28, 100, 164, 0, 5, 3, 172]
abbrev dktX4_canRetire_1 : List UInt8 := dkwX4_canRetire_1 ++ dktX4_canRetire_2
def dkwX4_canRetire_0 : List UInt8 := [42, 27, 182, 0, 70, 28, 162, 0, 5, 3, 172, 3, 62, 29, 42, 180, 0, 13, 4, 46, 162, 0, 33, 42]
abbrev dktX4_canRetire_0 : List UInt8 := dkwX4_canRetire_0 ++ dktX4_canRetire_1
theorem dksX4_canRetire_0 : cX4_canRetire.data.toList.drop 0 = dktX4_canRetire_0 := by decide +kernel
theorem dksX4_canRetire_1 : cX4_canRetire.data.toList.drop 24 = dktX4_canRetire_1 := dk_seg dksX4_canRetire_0 24 rfl rfl
theorem dksX4_canRetire_2 : cX4_canRetire.data.toList.drop 47 = dktX4_canRetire_2 := dk_seg dksX4_canRetire_1 23 rfl rfl
theorem dksX4_canRetire_3 : cX4_canRetire.data.toList.drop 71 = dktX4_canRetire_3 := dk_seg dksX4_canRetire_2 24 rfl rfl
theorem dX4_canRetire_0 : decode cX4_canRetire 0 = .ok (.aload_n 0, 1) := dk_42 (dk_at dksX4_canRetire_0 0 rfl rfl)
theorem dX4_canRetire_1 : decode cX4_canRetire 1 = .ok (.iload_n 1, 1) := dk_27 (dk_at dksX4_canRetire_0 1 rfl rfl)
theorem dX4_canRetire_2 : decode cX4_canRetire 2 = .ok (.invokevirtual 70, 3) := dk_182 0 70 (dk_at dksX4_canRetire_0 2 rfl rfl)
theorem dX4_canRetire_5 : decode cX4_canRetire 5 = .ok (.iload_n 2, 1) := dk_28 (dk_at dksX4_canRetire_0 5 rfl rfl)
theorem dX4_canRetire_6 : decode cX4_canRetire 6 = .ok (.if_icmp .ge 5, 3) := dk_162 0 5 (dk_at dksX4_canRetire_0 6 rfl rfl)
theorem dX4_canRetire_9 : decode cX4_canRetire 9 = .ok (.iconst 0, 1) := dk_3 (dk_at dksX4_canRetire_0 9 rfl rfl)
theorem dX4_canRetire_10 : decode cX4_canRetire 10 = .ok (.ireturn, 1) := dk_172 (dk_at dksX4_canRetire_0 10 rfl rfl)
theorem dX4_canRetire_11 : decode cX4_canRetire 11 = .ok (.iconst 0, 1) := dk_3 (dk_at dksX4_canRetire_0 11 rfl rfl)
theorem dX4_canRetire_12 : decode cX4_canRetire 12 = .ok (.istore_n 3, 1) := dk_62 (dk_at dksX4_canRetire_0 12 rfl rfl)
theorem dX4_canRetire_13 : decode cX4_canRetire 13 = .ok (.iload_n 3, 1) := dk_29 (dk_at dksX4_canRetire_0 13 rfl rfl)
theorem dX4_canRetire_14 : decode cX4_canRetire 14 = .ok (.aload_n 0, 1) := dk_42 (dk_at dksX4_canRetire_0 14 rfl rfl)
theorem dX4_canRetire_15 : decode cX4_canRetire 15 = .ok (.getfield 13, 3) := dk_180 0 13 (dk_at dksX4_canRetire_0 15 rfl rfl)
theorem dX4_canRetire_18 : decode cX4_canRetire 18 = .ok (.iconst 1, 1) := dk_4 (dk_at dksX4_canRetire_0 18 rfl rfl)
theorem dX4_canRetire_19 : decode cX4_canRetire 19 = .ok (.iaload, 1) := dk_46 (dk_at dksX4_canRetire_0 19 rfl rfl)
theorem dX4_canRetire_20 : decode cX4_canRetire 20 = .ok (.if_icmp .ge 33, 3) := dk_162 0 33 (dk_at dksX4_canRetire_0 20 rfl rfl)
theorem dX4_canRetire_23 : decode cX4_canRetire 23 = .ok (.aload_n 0, 1) := dk_42 (dk_at dksX4_canRetire_0 23 rfl rfl)
theorem dX4_canRetire_24 : decode cX4_canRetire 24 = .ok (.iload_n 3, 1) := dk_29 (dk_at dksX4_canRetire_1 0 rfl rfl)
theorem dX4_canRetire_25 : decode cX4_canRetire 25 = .ok (.iconst 0, 1) := dk_3 (dk_at dksX4_canRetire_1 1 rfl rfl)
theorem dX4_canRetire_26 : decode cX4_canRetire 26 = .ok (.iload_n 1, 1) := dk_27 (dk_at dksX4_canRetire_1 2 rfl rfl)
theorem dX4_canRetire_27 : decode cX4_canRetire 27 = .ok (.iadd, 1) := dk_96 (dk_at dksX4_canRetire_1 3 rfl rfl)
theorem dX4_canRetire_28 : decode cX4_canRetire 28 = .ok (.invokevirtual 63, 3) := dk_182 0 63 (dk_at dksX4_canRetire_1 4 rfl rfl)
theorem dX4_canRetire_31 : decode cX4_canRetire 31 = .ok (.aload_n 0, 1) := dk_42 (dk_at dksX4_canRetire_1 7 rfl rfl)
theorem dX4_canRetire_32 : decode cX4_canRetire 32 = .ok (.getfield 13, 3) := dk_180 0 13 (dk_at dksX4_canRetire_1 8 rfl rfl)
theorem dX4_canRetire_35 : decode cX4_canRetire 35 = .ok (.bipush 9, 2) := dk_16 9 (dk_at dksX4_canRetire_1 11 rfl rfl)
theorem dX4_canRetire_37 : decode cX4_canRetire 37 = .ok (.iload_n 1, 1) := dk_27 (dk_at dksX4_canRetire_1 13 rfl rfl)
theorem dX4_canRetire_38 : decode cX4_canRetire 38 = .ok (.iadd, 1) := dk_96 (dk_at dksX4_canRetire_1 14 rfl rfl)
theorem dX4_canRetire_39 : decode cX4_canRetire 39 = .ok (.iaload, 1) := dk_46 (dk_at dksX4_canRetire_1 15 rfl rfl)
theorem dX4_canRetire_40 : decode cX4_canRetire 40 = .ok (.iload_n 2, 1) := dk_28 (dk_at dksX4_canRetire_1 16 rfl rfl)
theorem dX4_canRetire_41 : decode cX4_canRetire 41 = .ok (.isub, 1) := dk_100 (dk_at dksX4_canRetire_1 17 rfl rfl)
theorem dX4_canRetire_42 : decode cX4_canRetire 42 = .ok (.if_icmp .le 5, 3) := dk_164 0 5 (dk_at dksX4_canRetire_1 18 rfl rfl)
theorem dX4_canRetire_45 : decode cX4_canRetire 45 = .ok (.iconst 0, 1) := dk_3 (dk_at dksX4_canRetire_1 21 rfl rfl)
theorem dX4_canRetire_46 : decode cX4_canRetire 46 = .ok (.ireturn, 1) := dk_172 (dk_at dksX4_canRetire_1 22 rfl rfl)
theorem dX4_canRetire_47 : decode cX4_canRetire 47 = .ok (.iinc 3 1, 3) := dk_132 3 1 (dk_at dksX4_canRetire_2 0 rfl rfl)
theorem dX4_canRetire_50 : decode cX4_canRetire 50 = .ok (.goto (-37), 3) := dk_167 255 219 (dk_at dksX4_canRetire_2 3 rfl rfl)
theorem dX4_canRetire_53 : decode cX4_canRetire 53 = .ok (.aload_n 0, 1) := dk_42 (dk_at dksX4_canRetire_2 6 rfl rfl)
theorem dX4_canRetire_54 : decode cX4_canRetire 54 = .ok (.getfield 13, 3) := dk_180 0 13 (dk_at dksX4_canRetire_2 7 rfl rfl)
theorem dX4_canRetire_57 : decode cX4_canRetire 57 = .ok (.bipush 9, 2) := dk_16 9 (dk_at dksX4_canRetire_2 10 rfl rfl)
theorem dX4_canRetire_59 : decode cX4_canRetire 59 = .ok (.iload_n 1, 1) := dk_27 (dk_at dksX4_canRetire_2 12 rfl rfl)
theorem dX4_canRetire_60 : decode cX4_canRetire 60 = .ok (.iadd, 1) := dk_96 (dk_at dksX4_canRetire_2 13 rfl rfl)
theorem dX4_canRetire_61 : decode cX4_canRetire 61 = .ok (.dup2, 1) := dk_92 (dk_at dksX4_canRetire_2 14 rfl rfl)
theorem dX4_canRetire_62 : decode cX4_canRetire 62 = .ok (.iaload, 1) := dk_46 (dk_at dksX4_canRetire_2 15 rfl rfl)
theorem dX4_canRetire_63 : decode cX4_canRetire 63 = .ok (.iload_n 2, 1) := dk_28 (dk_at dksX4_canRetire_2 16 rfl rfl)
theorem dX4_canRetire_64 : decode cX4_canRetire 64 = .ok (.isub, 1) := dk_100 (dk_at dksX4_canRetire_2 17 rfl rfl)
theorem dX4_canRetire_65 : decode cX4_canRetire 65 = .ok (.iastore, 1) := dk_79 (dk_at dksX4_canRetire_2 18 rfl rfl)
theorem dX4_canRetire_66 : decode cX4_canRetire 66 = .ok (.aload_n 0, 1) := dk_42 (dk_at dksX4_canRetire_2 19 rfl rfl)
theorem dX4_canRetire_67 : decode cX4_canRetire 67 = .ok (.invokevirtual 99, 3) := dk_182 0 99 (dk_at dksX4_canRetire_2 20 rfl rfl)
theorem dX4_canRetire_70 : decode cX4_canRetire 70 = .ok (.istore_n 3, 1) := dk_62 (dk_at dksX4_canRetire_2 23 rfl rfl)
theorem dX4_canRetire_71 : decode cX4_canRetire 71 = .ok (.aload_n 0, 1) := dk_42 (dk_at dksX4_canRetire_3 0 rfl rfl)
theorem dX4_canRetire_72 : decode cX4_canRetire 72 = .ok (.getfield 13, 3) := dk_180 0 13 (dk_at dksX4_canRetire_3 1 rfl rfl)
theorem dX4_canRetire_75 : decode cX4_canRetire 75 = .ok (.bipush 9, 2) := dk_16 9 (dk_at dksX4_canRetire_3 4 rfl rfl)
theorem dX4_canRetire_77 : decode cX4_canRetire 77 = .ok (.iload_n 1, 1) := dk_27 (dk_at dksX4_canRetire_3 6 rfl rfl)
theorem dX4_canRetire_78 : decode cX4_canRetire 78 = .ok (.iadd, 1) := dk_96 (dk_at dksX4_canRetire_3 7 rfl rfl)
theorem dX4_canRetire_79 : decode cX4_canRetire 79 = .ok (.dup2, 1) := dk_92 (dk_at dksX4_canRetire_3 8 rfl rfl)
theorem dX4_canRetire_80 : decode cX4_canRetire 80 = .ok (.iaload, 1) := dk_46 (dk_at dksX4_canRetire_3 9 rfl rfl)
theorem dX4_canRetire_81 : decode cX4_canRetire 81 = .ok (.iload_n 2, 1) := dk_28 (dk_at dksX4_canRetire_3 10 rfl rfl)
theorem dX4_canRetire_82 : decode cX4_canRetire 82 = .ok (.iadd, 1) := dk_96 (dk_at dksX4_canRetire_3 11 rfl rfl)
theorem dX4_canRetire_83 : decode cX4_canRetire 83 = .ok (.iastore, 1) := dk_79 (dk_at dksX4_canRetire_3 12 rfl rfl)
theorem dX4_canRetire_84 : decode cX4_canRetire 84 = .ok (.iload_n 3, 1) := dk_29 (dk_at dksX4_canRetire_3 13 rfl rfl)
theorem dX4_canRetire_85 : decode cX4_canRetire 85 = .ok (.ireturn, 1) := dk_172 (dk_at dksX4_canRetire_3 14 rfl rfl)
abbrev cX4_wouldWake : ByteArray := prog_33_method_98_code
def yX4_wouldWake : MethodName := ⟨RX4, "wouldWake", "(I)I"⟩
def dkwX4_wouldWake_1 : List UInt8 := [182, 0, 156, 182, 1, 33, 172]
abbrev dktX4_wouldWake_1 : List UInt8 := dkwX4_wouldWake_1 ++ []
def dkwX4_wouldWake_0 : List UInt8 := [42, 3, 181, 0, 1, 42, 27, 182, 1, 12, 153, 0, 5, 3, 172, 42, 182, 1, 30, 42, 42, 27]
abbrev dktX4_wouldWake_0 : List UInt8 := dkwX4_wouldWake_0 ++ dktX4_wouldWake_1
theorem dksX4_wouldWake_0 : cX4_wouldWake.data.toList.drop 0 = dktX4_wouldWake_0 := by decide +kernel
theorem dksX4_wouldWake_1 : cX4_wouldWake.data.toList.drop 22 = dktX4_wouldWake_1 := dk_seg dksX4_wouldWake_0 22 rfl rfl
theorem dX4_wouldWake_0 : decode cX4_wouldWake 0 = .ok (.aload_n 0, 1) := dk_42 (dk_at dksX4_wouldWake_0 0 rfl rfl)
theorem dX4_wouldWake_1 : decode cX4_wouldWake 1 = .ok (.iconst 0, 1) := dk_3 (dk_at dksX4_wouldWake_0 1 rfl rfl)
theorem dX4_wouldWake_2 : decode cX4_wouldWake 2 = .ok (.putfield 1, 3) := dk_181 0 1 (dk_at dksX4_wouldWake_0 2 rfl rfl)
theorem dX4_wouldWake_5 : decode cX4_wouldWake 5 = .ok (.aload_n 0, 1) := dk_42 (dk_at dksX4_wouldWake_0 5 rfl rfl)
theorem dX4_wouldWake_6 : decode cX4_wouldWake 6 = .ok (.iload_n 1, 1) := dk_27 (dk_at dksX4_wouldWake_0 6 rfl rfl)
theorem dX4_wouldWake_7 : decode cX4_wouldWake 7 = .ok (.invokevirtual 268, 3) := dk_182 1 12 (dk_at dksX4_wouldWake_0 7 rfl rfl)
theorem dX4_wouldWake_10 : decode cX4_wouldWake 10 = .ok (.ifCond .eq 5, 3) := dk_153 0 5 (dk_at dksX4_wouldWake_0 10 rfl rfl)
theorem dX4_wouldWake_13 : decode cX4_wouldWake 13 = .ok (.iconst 0, 1) := dk_3 (dk_at dksX4_wouldWake_0 13 rfl rfl)
theorem dX4_wouldWake_14 : decode cX4_wouldWake 14 = .ok (.ireturn, 1) := dk_172 (dk_at dksX4_wouldWake_0 14 rfl rfl)
theorem dX4_wouldWake_15 : decode cX4_wouldWake 15 = .ok (.aload_n 0, 1) := dk_42 (dk_at dksX4_wouldWake_0 15 rfl rfl)
theorem dX4_wouldWake_16 : decode cX4_wouldWake 16 = .ok (.invokevirtual 286, 3) := dk_182 1 30 (dk_at dksX4_wouldWake_0 16 rfl rfl)
theorem dX4_wouldWake_19 : decode cX4_wouldWake 19 = .ok (.aload_n 0, 1) := dk_42 (dk_at dksX4_wouldWake_0 19 rfl rfl)
theorem dX4_wouldWake_20 : decode cX4_wouldWake 20 = .ok (.aload_n 0, 1) := dk_42 (dk_at dksX4_wouldWake_0 20 rfl rfl)
theorem dX4_wouldWake_21 : decode cX4_wouldWake 21 = .ok (.iload_n 1, 1) := dk_27 (dk_at dksX4_wouldWake_0 21 rfl rfl)
theorem dX4_wouldWake_22 : decode cX4_wouldWake 22 = .ok (.invokevirtual 156, 3) := dk_182 0 156 (dk_at dksX4_wouldWake_1 0 rfl rfl)
theorem dX4_wouldWake_25 : decode cX4_wouldWake 25 = .ok (.invokevirtual 289, 3) := dk_182 1 33 (dk_at dksX4_wouldWake_1 3 rfl rfl)
theorem dX4_wouldWake_28 : decode cX4_wouldWake 28 = .ok (.ireturn, 1) := dk_172 (dk_at dksX4_wouldWake_1 6 rfl rfl)
abbrev cX4_tries : ByteArray := prog_33_method_92_code
def yX4_tries : MethodName := ⟨RX4, "tries", "()V"⟩
def dkwX4_tries_0 : List UInt8 := [42, 180, 0, 13, 3, 42, 180, 0, 23, 3, 16, 101, 184, 0, 245, 177]
abbrev dktX4_tries_0 : List UInt8 := dkwX4_tries_0 ++ []
theorem dksX4_tries_0 : cX4_tries.data.toList.drop 0 = dktX4_tries_0 := by decide +kernel
theorem dX4_tries_0 : decode cX4_tries 0 = .ok (.aload_n 0, 1) := dk_42 (dk_at dksX4_tries_0 0 rfl rfl)
theorem dX4_tries_1 : decode cX4_tries 1 = .ok (.getfield 13, 3) := dk_180 0 13 (dk_at dksX4_tries_0 1 rfl rfl)
theorem dX4_tries_4 : decode cX4_tries 4 = .ok (.iconst 0, 1) := dk_3 (dk_at dksX4_tries_0 4 rfl rfl)
theorem dX4_tries_5 : decode cX4_tries 5 = .ok (.aload_n 0, 1) := dk_42 (dk_at dksX4_tries_0 5 rfl rfl)
theorem dX4_tries_6 : decode cX4_tries 6 = .ok (.getfield 23, 3) := dk_180 0 23 (dk_at dksX4_tries_0 6 rfl rfl)
theorem dX4_tries_9 : decode cX4_tries 9 = .ok (.iconst 0, 1) := dk_3 (dk_at dksX4_tries_0 9 rfl rfl)
theorem dX4_tries_10 : decode cX4_tries 10 = .ok (.bipush 101, 2) := dk_16 101 (dk_at dksX4_tries_0 10 rfl rfl)
theorem dX4_tries_12 : decode cX4_tries 12 = .ok (.invokestatic 245, 3) := dk_184 0 245 (dk_at dksX4_tries_0 12 rfl rfl)
theorem dX4_tries_15 : decode cX4_tries 15 = .ok (.return_, 1) := dk_177 (dk_at dksX4_tries_0 15 rfl rfl)
abbrev cX4_finishes : ByteArray := prog_33_method_39_code
def yX4_finishes : MethodName := ⟨RX4, "finishes", "(I)I"⟩
def dkwX4_finishes_2 : List UInt8 := [167, 255, 216, 42, 182, 0, 146, 172]
abbrev dktX4_finishes_2 : List UInt8 := dkwX4_finishes_2 ++ []
def dkwX4_finishes_1 : List UInt8 := [46, 42, 27, 7, 28, 96, 182, 0, 63, 96, 79, 42, 27, 7, 28, 96, 3, 182, 0, 92, 132, 2, 1]
abbrev dktX4_finishes_1 : List UInt8 := dkwX4_finishes_1 ++ dktX4_finishes_2
def dkwX4_finishes_0 : List UInt8 := [42, 27, 182, 0, 130, 3, 61, 28, 42, 180, 0, 13, 3, 46, 162, 0, 36, 42, 180, 0, 13, 16, 8, 92]
abbrev dktX4_finishes_0 : List UInt8 := dkwX4_finishes_0 ++ dktX4_finishes_1
theorem dksX4_finishes_0 : cX4_finishes.data.toList.drop 0 = dktX4_finishes_0 := by decide +kernel
theorem dksX4_finishes_1 : cX4_finishes.data.toList.drop 24 = dktX4_finishes_1 := dk_seg dksX4_finishes_0 24 rfl rfl
theorem dksX4_finishes_2 : cX4_finishes.data.toList.drop 47 = dktX4_finishes_2 := dk_seg dksX4_finishes_1 23 rfl rfl
theorem dX4_finishes_0 : decode cX4_finishes 0 = .ok (.aload_n 0, 1) := dk_42 (dk_at dksX4_finishes_0 0 rfl rfl)
theorem dX4_finishes_1 : decode cX4_finishes 1 = .ok (.iload_n 1, 1) := dk_27 (dk_at dksX4_finishes_0 1 rfl rfl)
theorem dX4_finishes_2 : decode cX4_finishes 2 = .ok (.invokevirtual 130, 3) := dk_182 0 130 (dk_at dksX4_finishes_0 2 rfl rfl)
theorem dX4_finishes_5 : decode cX4_finishes 5 = .ok (.iconst 0, 1) := dk_3 (dk_at dksX4_finishes_0 5 rfl rfl)
theorem dX4_finishes_6 : decode cX4_finishes 6 = .ok (.istore_n 2, 1) := dk_61 (dk_at dksX4_finishes_0 6 rfl rfl)
theorem dX4_finishes_7 : decode cX4_finishes 7 = .ok (.iload_n 2, 1) := dk_28 (dk_at dksX4_finishes_0 7 rfl rfl)
theorem dX4_finishes_8 : decode cX4_finishes 8 = .ok (.aload_n 0, 1) := dk_42 (dk_at dksX4_finishes_0 8 rfl rfl)
theorem dX4_finishes_9 : decode cX4_finishes 9 = .ok (.getfield 13, 3) := dk_180 0 13 (dk_at dksX4_finishes_0 9 rfl rfl)
theorem dX4_finishes_12 : decode cX4_finishes 12 = .ok (.iconst 0, 1) := dk_3 (dk_at dksX4_finishes_0 12 rfl rfl)
theorem dX4_finishes_13 : decode cX4_finishes 13 = .ok (.iaload, 1) := dk_46 (dk_at dksX4_finishes_0 13 rfl rfl)
theorem dX4_finishes_14 : decode cX4_finishes 14 = .ok (.if_icmp .ge 36, 3) := dk_162 0 36 (dk_at dksX4_finishes_0 14 rfl rfl)
theorem dX4_finishes_17 : decode cX4_finishes 17 = .ok (.aload_n 0, 1) := dk_42 (dk_at dksX4_finishes_0 17 rfl rfl)
theorem dX4_finishes_18 : decode cX4_finishes 18 = .ok (.getfield 13, 3) := dk_180 0 13 (dk_at dksX4_finishes_0 18 rfl rfl)
theorem dX4_finishes_21 : decode cX4_finishes 21 = .ok (.bipush 8, 2) := dk_16 8 (dk_at dksX4_finishes_0 21 rfl rfl)
theorem dX4_finishes_23 : decode cX4_finishes 23 = .ok (.dup2, 1) := dk_92 (dk_at dksX4_finishes_0 23 rfl rfl)
theorem dX4_finishes_24 : decode cX4_finishes 24 = .ok (.iaload, 1) := dk_46 (dk_at dksX4_finishes_1 0 rfl rfl)
theorem dX4_finishes_25 : decode cX4_finishes 25 = .ok (.aload_n 0, 1) := dk_42 (dk_at dksX4_finishes_1 1 rfl rfl)
theorem dX4_finishes_26 : decode cX4_finishes 26 = .ok (.iload_n 1, 1) := dk_27 (dk_at dksX4_finishes_1 2 rfl rfl)
theorem dX4_finishes_27 : decode cX4_finishes 27 = .ok (.iconst 4, 1) := dk_7 (dk_at dksX4_finishes_1 3 rfl rfl)
theorem dX4_finishes_28 : decode cX4_finishes 28 = .ok (.iload_n 2, 1) := dk_28 (dk_at dksX4_finishes_1 4 rfl rfl)
theorem dX4_finishes_29 : decode cX4_finishes 29 = .ok (.iadd, 1) := dk_96 (dk_at dksX4_finishes_1 5 rfl rfl)
theorem dX4_finishes_30 : decode cX4_finishes 30 = .ok (.invokevirtual 63, 3) := dk_182 0 63 (dk_at dksX4_finishes_1 6 rfl rfl)
theorem dX4_finishes_33 : decode cX4_finishes 33 = .ok (.iadd, 1) := dk_96 (dk_at dksX4_finishes_1 9 rfl rfl)
theorem dX4_finishes_34 : decode cX4_finishes 34 = .ok (.iastore, 1) := dk_79 (dk_at dksX4_finishes_1 10 rfl rfl)
theorem dX4_finishes_35 : decode cX4_finishes 35 = .ok (.aload_n 0, 1) := dk_42 (dk_at dksX4_finishes_1 11 rfl rfl)
theorem dX4_finishes_36 : decode cX4_finishes 36 = .ok (.iload_n 1, 1) := dk_27 (dk_at dksX4_finishes_1 12 rfl rfl)
theorem dX4_finishes_37 : decode cX4_finishes 37 = .ok (.iconst 4, 1) := dk_7 (dk_at dksX4_finishes_1 13 rfl rfl)
theorem dX4_finishes_38 : decode cX4_finishes 38 = .ok (.iload_n 2, 1) := dk_28 (dk_at dksX4_finishes_1 14 rfl rfl)
theorem dX4_finishes_39 : decode cX4_finishes 39 = .ok (.iadd, 1) := dk_96 (dk_at dksX4_finishes_1 15 rfl rfl)
theorem dX4_finishes_40 : decode cX4_finishes 40 = .ok (.iconst 0, 1) := dk_3 (dk_at dksX4_finishes_1 16 rfl rfl)
theorem dX4_finishes_41 : decode cX4_finishes 41 = .ok (.invokevirtual 92, 3) := dk_182 0 92 (dk_at dksX4_finishes_1 17 rfl rfl)
theorem dX4_finishes_44 : decode cX4_finishes 44 = .ok (.iinc 2 1, 3) := dk_132 2 1 (dk_at dksX4_finishes_1 20 rfl rfl)
theorem dX4_finishes_47 : decode cX4_finishes 47 = .ok (.goto (-40), 3) := dk_167 255 216 (dk_at dksX4_finishes_2 0 rfl rfl)
theorem dX4_finishes_50 : decode cX4_finishes 50 = .ok (.aload_n 0, 1) := dk_42 (dk_at dksX4_finishes_2 3 rfl rfl)
theorem dX4_finishes_51 : decode cX4_finishes 51 = .ok (.invokevirtual 146, 3) := dk_182 0 146 (dk_at dksX4_finishes_2 4 rfl rfl)
theorem dX4_finishes_54 : decode cX4_finishes 54 = .ok (.ireturn, 1) := dk_172 (dk_at dksX4_finishes_2 7 rfl rfl)
abbrev cX4_forgets : ByteArray := prog_33_method_27_code
def yX4_forgets : MethodName := ⟨RX4, "forgets", "(I)V"⟩
def dkwX4_forgets_1 : List UInt8 := [177]
abbrev dktX4_forgets_1 : List UInt8 := dkwX4_forgets_1 ++ []
def dkwX4_forgets_0 : List UInt8 := [42, 27, 16, 8, 3, 182, 0, 92, 42, 27, 16, 9, 3, 182, 0, 92, 42, 27, 16, 10, 3, 182, 0, 92]
abbrev dktX4_forgets_0 : List UInt8 := dkwX4_forgets_0 ++ dktX4_forgets_1
theorem dksX4_forgets_0 : cX4_forgets.data.toList.drop 0 = dktX4_forgets_0 := by decide +kernel
theorem dksX4_forgets_1 : cX4_forgets.data.toList.drop 24 = dktX4_forgets_1 := dk_seg dksX4_forgets_0 24 rfl rfl
theorem dX4_forgets_0 : decode cX4_forgets 0 = .ok (.aload_n 0, 1) := dk_42 (dk_at dksX4_forgets_0 0 rfl rfl)
theorem dX4_forgets_1 : decode cX4_forgets 1 = .ok (.iload_n 1, 1) := dk_27 (dk_at dksX4_forgets_0 1 rfl rfl)
theorem dX4_forgets_2 : decode cX4_forgets 2 = .ok (.bipush 8, 2) := dk_16 8 (dk_at dksX4_forgets_0 2 rfl rfl)
theorem dX4_forgets_4 : decode cX4_forgets 4 = .ok (.iconst 0, 1) := dk_3 (dk_at dksX4_forgets_0 4 rfl rfl)
theorem dX4_forgets_5 : decode cX4_forgets 5 = .ok (.invokevirtual 92, 3) := dk_182 0 92 (dk_at dksX4_forgets_0 5 rfl rfl)
theorem dX4_forgets_8 : decode cX4_forgets 8 = .ok (.aload_n 0, 1) := dk_42 (dk_at dksX4_forgets_0 8 rfl rfl)
theorem dX4_forgets_9 : decode cX4_forgets 9 = .ok (.iload_n 1, 1) := dk_27 (dk_at dksX4_forgets_0 9 rfl rfl)
theorem dX4_forgets_10 : decode cX4_forgets 10 = .ok (.bipush 9, 2) := dk_16 9 (dk_at dksX4_forgets_0 10 rfl rfl)
theorem dX4_forgets_12 : decode cX4_forgets 12 = .ok (.iconst 0, 1) := dk_3 (dk_at dksX4_forgets_0 12 rfl rfl)
theorem dX4_forgets_13 : decode cX4_forgets 13 = .ok (.invokevirtual 92, 3) := dk_182 0 92 (dk_at dksX4_forgets_0 13 rfl rfl)
theorem dX4_forgets_16 : decode cX4_forgets 16 = .ok (.aload_n 0, 1) := dk_42 (dk_at dksX4_forgets_0 16 rfl rfl)
theorem dX4_forgets_17 : decode cX4_forgets 17 = .ok (.iload_n 1, 1) := dk_27 (dk_at dksX4_forgets_0 17 rfl rfl)
theorem dX4_forgets_18 : decode cX4_forgets 18 = .ok (.bipush 10, 2) := dk_16 10 (dk_at dksX4_forgets_0 18 rfl rfl)
theorem dX4_forgets_20 : decode cX4_forgets 20 = .ok (.iconst 0, 1) := dk_3 (dk_at dksX4_forgets_0 20 rfl rfl)
theorem dX4_forgets_21 : decode cX4_forgets 21 = .ok (.invokevirtual 92, 3) := dk_182 0 92 (dk_at dksX4_forgets_0 21 rfl rfl)
theorem dX4_forgets_24 : decode cX4_forgets 24 = .ok (.return_, 1) := dk_177 (dk_at dksX4_forgets_1 0 rfl rfl)
abbrev cX4_serves : ByteArray := prog_33_method_32_code
def yX4_serves : MethodName := ⟨RX4, "serves", "()I"⟩
def dkwX4_serves_2 : List UInt8 := [182, 0, 127, 61, 167, 255, 211, 27, 172]
abbrev dktX4_serves_2 : List UInt8 := dkwX4_serves_2 ++ []
def dkwX4_serves_1 : List UInt8 := [16, 9, 182, 0, 63, 54, 4, 42, 28, 182, 0, 130, 42, 28, 29, 21, 4, 182, 0, 134, 132, 1, 1, 42]
abbrev dktX4_serves_1 : List UInt8 := dkwX4_serves_1 ++ dktX4_serves_2
def dkwX4_serves_0 : List UInt8 := [3, 60, 42, 182, 0, 127, 61, 28, 2, 159, 0, 46, 42, 28, 16, 8, 182, 0, 63, 4, 100, 62, 42, 28]
abbrev dktX4_serves_0 : List UInt8 := dkwX4_serves_0 ++ dktX4_serves_1
theorem dksX4_serves_0 : cX4_serves.data.toList.drop 0 = dktX4_serves_0 := by decide +kernel
theorem dksX4_serves_1 : cX4_serves.data.toList.drop 24 = dktX4_serves_1 := dk_seg dksX4_serves_0 24 rfl rfl
theorem dksX4_serves_2 : cX4_serves.data.toList.drop 48 = dktX4_serves_2 := dk_seg dksX4_serves_1 24 rfl rfl
theorem dX4_serves_0 : decode cX4_serves 0 = .ok (.iconst 0, 1) := dk_3 (dk_at dksX4_serves_0 0 rfl rfl)
theorem dX4_serves_1 : decode cX4_serves 1 = .ok (.istore_n 1, 1) := dk_60 (dk_at dksX4_serves_0 1 rfl rfl)
theorem dX4_serves_2 : decode cX4_serves 2 = .ok (.aload_n 0, 1) := dk_42 (dk_at dksX4_serves_0 2 rfl rfl)
theorem dX4_serves_3 : decode cX4_serves 3 = .ok (.invokevirtual 127, 3) := dk_182 0 127 (dk_at dksX4_serves_0 3 rfl rfl)
theorem dX4_serves_6 : decode cX4_serves 6 = .ok (.istore_n 2, 1) := dk_61 (dk_at dksX4_serves_0 6 rfl rfl)
theorem dX4_serves_7 : decode cX4_serves 7 = .ok (.iload_n 2, 1) := dk_28 (dk_at dksX4_serves_0 7 rfl rfl)
theorem dX4_serves_8 : decode cX4_serves 8 = .ok (.iconst (-1), 1) := dk_2 (dk_at dksX4_serves_0 8 rfl rfl)
theorem dX4_serves_9 : decode cX4_serves 9 = .ok (.if_icmp .eq 46, 3) := dk_159 0 46 (dk_at dksX4_serves_0 9 rfl rfl)
theorem dX4_serves_12 : decode cX4_serves 12 = .ok (.aload_n 0, 1) := dk_42 (dk_at dksX4_serves_0 12 rfl rfl)
theorem dX4_serves_13 : decode cX4_serves 13 = .ok (.iload_n 2, 1) := dk_28 (dk_at dksX4_serves_0 13 rfl rfl)
theorem dX4_serves_14 : decode cX4_serves 14 = .ok (.bipush 8, 2) := dk_16 8 (dk_at dksX4_serves_0 14 rfl rfl)
theorem dX4_serves_16 : decode cX4_serves 16 = .ok (.invokevirtual 63, 3) := dk_182 0 63 (dk_at dksX4_serves_0 16 rfl rfl)
theorem dX4_serves_19 : decode cX4_serves 19 = .ok (.iconst 1, 1) := dk_4 (dk_at dksX4_serves_0 19 rfl rfl)
theorem dX4_serves_20 : decode cX4_serves 20 = .ok (.isub, 1) := dk_100 (dk_at dksX4_serves_0 20 rfl rfl)
theorem dX4_serves_21 : decode cX4_serves 21 = .ok (.istore_n 3, 1) := dk_62 (dk_at dksX4_serves_0 21 rfl rfl)
theorem dX4_serves_22 : decode cX4_serves 22 = .ok (.aload_n 0, 1) := dk_42 (dk_at dksX4_serves_0 22 rfl rfl)
theorem dX4_serves_23 : decode cX4_serves 23 = .ok (.iload_n 2, 1) := dk_28 (dk_at dksX4_serves_0 23 rfl rfl)
theorem dX4_serves_24 : decode cX4_serves 24 = .ok (.bipush 9, 2) := dk_16 9 (dk_at dksX4_serves_1 0 rfl rfl)
theorem dX4_serves_26 : decode cX4_serves 26 = .ok (.invokevirtual 63, 3) := dk_182 0 63 (dk_at dksX4_serves_1 2 rfl rfl)
theorem dX4_serves_29 : decode cX4_serves 29 = .ok (.istore 4, 2) := dk_54 4 (dk_at dksX4_serves_1 5 rfl rfl)
theorem dX4_serves_31 : decode cX4_serves 31 = .ok (.aload_n 0, 1) := dk_42 (dk_at dksX4_serves_1 7 rfl rfl)
theorem dX4_serves_32 : decode cX4_serves 32 = .ok (.iload_n 2, 1) := dk_28 (dk_at dksX4_serves_1 8 rfl rfl)
theorem dX4_serves_33 : decode cX4_serves 33 = .ok (.invokevirtual 130, 3) := dk_182 0 130 (dk_at dksX4_serves_1 9 rfl rfl)
theorem dX4_serves_36 : decode cX4_serves 36 = .ok (.aload_n 0, 1) := dk_42 (dk_at dksX4_serves_1 12 rfl rfl)
theorem dX4_serves_37 : decode cX4_serves 37 = .ok (.iload_n 2, 1) := dk_28 (dk_at dksX4_serves_1 13 rfl rfl)
theorem dX4_serves_38 : decode cX4_serves 38 = .ok (.iload_n 3, 1) := dk_29 (dk_at dksX4_serves_1 14 rfl rfl)
theorem dX4_serves_39 : decode cX4_serves 39 = .ok (.iload 4, 2) := dk_21 4 (dk_at dksX4_serves_1 15 rfl rfl)
theorem dX4_serves_41 : decode cX4_serves 41 = .ok (.invokevirtual 134, 3) := dk_182 0 134 (dk_at dksX4_serves_1 17 rfl rfl)
theorem dX4_serves_44 : decode cX4_serves 44 = .ok (.iinc 1 1, 3) := dk_132 1 1 (dk_at dksX4_serves_1 20 rfl rfl)
theorem dX4_serves_47 : decode cX4_serves 47 = .ok (.aload_n 0, 1) := dk_42 (dk_at dksX4_serves_1 23 rfl rfl)
theorem dX4_serves_48 : decode cX4_serves 48 = .ok (.invokevirtual 127, 3) := dk_182 0 127 (dk_at dksX4_serves_2 0 rfl rfl)
theorem dX4_serves_51 : decode cX4_serves 51 = .ok (.istore_n 2, 1) := dk_61 (dk_at dksX4_serves_2 3 rfl rfl)
theorem dX4_serves_52 : decode cX4_serves 52 = .ok (.goto (-45), 3) := dk_167 255 211 (dk_at dksX4_serves_2 4 rfl rfl)
theorem dX4_serves_55 : decode cX4_serves 55 = .ok (.iload_n 1, 1) := dk_27 (dk_at dksX4_serves_2 7 rfl rfl)
theorem dX4_serves_56 : decode cX4_serves 56 = .ok (.ireturn, 1) := dk_172 (dk_at dksX4_serves_2 8 rfl rfl)
abbrev cX4_firstToGrant : ByteArray := prog_33_method_31_code
def yX4_firstToGrant : MethodName := ⟨RX4, "firstToGrant", "()I"⟩
def dkwX4_firstToGrant_2 : List UInt8 := [167, 255, 213, 2, 172]
abbrev dktX4_firstToGrant_2 : List UInt8 := dkwX4_firstToGrant_2 ++ []
def dkwX4_firstToGrant_1 : List UInt8 := [182, 0, 63, 4, 100, 42, 28, 16, 9, 182, 0, 63, 182, 0, 124, 153, 0, 5, 28, 172, 132, 1, 1]
abbrev dktX4_firstToGrant_1 : List UInt8 := dkwX4_firstToGrant_1 ++ dktX4_firstToGrant_2
def dkwX4_firstToGrant_0 : List UInt8 := [3, 60, 27, 42, 182, 0, 118, 162, 0, 41, 42, 27, 182, 0, 121, 61, 42, 28, 42, 28, 16, 8]
abbrev dktX4_firstToGrant_0 : List UInt8 := dkwX4_firstToGrant_0 ++ dktX4_firstToGrant_1
theorem dksX4_firstToGrant_0 : cX4_firstToGrant.data.toList.drop 0 = dktX4_firstToGrant_0 := by decide +kernel
theorem dksX4_firstToGrant_1 : cX4_firstToGrant.data.toList.drop 22 = dktX4_firstToGrant_1 := dk_seg dksX4_firstToGrant_0 22 rfl rfl
theorem dksX4_firstToGrant_2 : cX4_firstToGrant.data.toList.drop 45 = dktX4_firstToGrant_2 := dk_seg dksX4_firstToGrant_1 23 rfl rfl
theorem dX4_firstToGrant_0 : decode cX4_firstToGrant 0 = .ok (.iconst 0, 1) := dk_3 (dk_at dksX4_firstToGrant_0 0 rfl rfl)
theorem dX4_firstToGrant_1 : decode cX4_firstToGrant 1 = .ok (.istore_n 1, 1) := dk_60 (dk_at dksX4_firstToGrant_0 1 rfl rfl)
theorem dX4_firstToGrant_2 : decode cX4_firstToGrant 2 = .ok (.iload_n 1, 1) := dk_27 (dk_at dksX4_firstToGrant_0 2 rfl rfl)
theorem dX4_firstToGrant_3 : decode cX4_firstToGrant 3 = .ok (.aload_n 0, 1) := dk_42 (dk_at dksX4_firstToGrant_0 3 rfl rfl)
theorem dX4_firstToGrant_4 : decode cX4_firstToGrant 4 = .ok (.invokevirtual 118, 3) := dk_182 0 118 (dk_at dksX4_firstToGrant_0 4 rfl rfl)
theorem dX4_firstToGrant_7 : decode cX4_firstToGrant 7 = .ok (.if_icmp .ge 41, 3) := dk_162 0 41 (dk_at dksX4_firstToGrant_0 7 rfl rfl)
theorem dX4_firstToGrant_10 : decode cX4_firstToGrant 10 = .ok (.aload_n 0, 1) := dk_42 (dk_at dksX4_firstToGrant_0 10 rfl rfl)
theorem dX4_firstToGrant_11 : decode cX4_firstToGrant 11 = .ok (.iload_n 1, 1) := dk_27 (dk_at dksX4_firstToGrant_0 11 rfl rfl)
theorem dX4_firstToGrant_12 : decode cX4_firstToGrant 12 = .ok (.invokevirtual 121, 3) := dk_182 0 121 (dk_at dksX4_firstToGrant_0 12 rfl rfl)
theorem dX4_firstToGrant_15 : decode cX4_firstToGrant 15 = .ok (.istore_n 2, 1) := dk_61 (dk_at dksX4_firstToGrant_0 15 rfl rfl)
theorem dX4_firstToGrant_16 : decode cX4_firstToGrant 16 = .ok (.aload_n 0, 1) := dk_42 (dk_at dksX4_firstToGrant_0 16 rfl rfl)
theorem dX4_firstToGrant_17 : decode cX4_firstToGrant 17 = .ok (.iload_n 2, 1) := dk_28 (dk_at dksX4_firstToGrant_0 17 rfl rfl)
theorem dX4_firstToGrant_18 : decode cX4_firstToGrant 18 = .ok (.aload_n 0, 1) := dk_42 (dk_at dksX4_firstToGrant_0 18 rfl rfl)
theorem dX4_firstToGrant_19 : decode cX4_firstToGrant 19 = .ok (.iload_n 2, 1) := dk_28 (dk_at dksX4_firstToGrant_0 19 rfl rfl)
theorem dX4_firstToGrant_20 : decode cX4_firstToGrant 20 = .ok (.bipush 8, 2) := dk_16 8 (dk_at dksX4_firstToGrant_0 20 rfl rfl)
theorem dX4_firstToGrant_22 : decode cX4_firstToGrant 22 = .ok (.invokevirtual 63, 3) := dk_182 0 63 (dk_at dksX4_firstToGrant_1 0 rfl rfl)
theorem dX4_firstToGrant_25 : decode cX4_firstToGrant 25 = .ok (.iconst 1, 1) := dk_4 (dk_at dksX4_firstToGrant_1 3 rfl rfl)
theorem dX4_firstToGrant_26 : decode cX4_firstToGrant 26 = .ok (.isub, 1) := dk_100 (dk_at dksX4_firstToGrant_1 4 rfl rfl)
theorem dX4_firstToGrant_27 : decode cX4_firstToGrant 27 = .ok (.aload_n 0, 1) := dk_42 (dk_at dksX4_firstToGrant_1 5 rfl rfl)
theorem dX4_firstToGrant_28 : decode cX4_firstToGrant 28 = .ok (.iload_n 2, 1) := dk_28 (dk_at dksX4_firstToGrant_1 6 rfl rfl)
theorem dX4_firstToGrant_29 : decode cX4_firstToGrant 29 = .ok (.bipush 9, 2) := dk_16 9 (dk_at dksX4_firstToGrant_1 7 rfl rfl)
theorem dX4_firstToGrant_31 : decode cX4_firstToGrant 31 = .ok (.invokevirtual 63, 3) := dk_182 0 63 (dk_at dksX4_firstToGrant_1 9 rfl rfl)
theorem dX4_firstToGrant_34 : decode cX4_firstToGrant 34 = .ok (.invokevirtual 124, 3) := dk_182 0 124 (dk_at dksX4_firstToGrant_1 12 rfl rfl)
theorem dX4_firstToGrant_37 : decode cX4_firstToGrant 37 = .ok (.ifCond .eq 5, 3) := dk_153 0 5 (dk_at dksX4_firstToGrant_1 15 rfl rfl)
theorem dX4_firstToGrant_40 : decode cX4_firstToGrant 40 = .ok (.iload_n 2, 1) := dk_28 (dk_at dksX4_firstToGrant_1 18 rfl rfl)
theorem dX4_firstToGrant_41 : decode cX4_firstToGrant 41 = .ok (.ireturn, 1) := dk_172 (dk_at dksX4_firstToGrant_1 19 rfl rfl)
theorem dX4_firstToGrant_42 : decode cX4_firstToGrant 42 = .ok (.iinc 1 1, 3) := dk_132 1 1 (dk_at dksX4_firstToGrant_1 20 rfl rfl)
theorem dX4_firstToGrant_45 : decode cX4_firstToGrant 45 = .ok (.goto (-43), 3) := dk_167 255 213 (dk_at dksX4_firstToGrant_2 0 rfl rfl)
theorem dX4_firstToGrant_48 : decode cX4_firstToGrant 48 = .ok (.iconst (-1), 1) := dk_2 (dk_at dksX4_firstToGrant_2 3 rfl rfl)
theorem dX4_firstToGrant_49 : decode cX4_firstToGrant 49 = .ok (.ireturn, 1) := dk_172 (dk_at dksX4_firstToGrant_2 4 rfl rfl)
abbrev cX4_grants : ByteArray := prog_33_method_26_code
def yX4_grants : MethodName := ⟨RX4, "grants", "(III)V"⟩
def dkwX4_grants_1 : List UInt8 := [46, 29, 96, 79, 177]
abbrev dktX4_grants_1 : List UInt8 := dkwX4_grants_1 ++ []
def dkwX4_grants_0 : List UInt8 := [42, 27, 28, 29, 182, 0, 96, 42, 180, 0, 13, 7, 92, 46, 4, 96, 79, 42, 180, 0, 13, 16, 7, 92]
abbrev dktX4_grants_0 : List UInt8 := dkwX4_grants_0 ++ dktX4_grants_1
theorem dksX4_grants_0 : cX4_grants.data.toList.drop 0 = dktX4_grants_0 := by decide +kernel
theorem dksX4_grants_1 : cX4_grants.data.toList.drop 24 = dktX4_grants_1 := dk_seg dksX4_grants_0 24 rfl rfl
theorem dX4_grants_0 : decode cX4_grants 0 = .ok (.aload_n 0, 1) := dk_42 (dk_at dksX4_grants_0 0 rfl rfl)
theorem dX4_grants_1 : decode cX4_grants 1 = .ok (.iload_n 1, 1) := dk_27 (dk_at dksX4_grants_0 1 rfl rfl)
theorem dX4_grants_2 : decode cX4_grants 2 = .ok (.iload_n 2, 1) := dk_28 (dk_at dksX4_grants_0 2 rfl rfl)
theorem dX4_grants_3 : decode cX4_grants 3 = .ok (.iload_n 3, 1) := dk_29 (dk_at dksX4_grants_0 3 rfl rfl)
theorem dX4_grants_4 : decode cX4_grants 4 = .ok (.invokevirtual 96, 3) := dk_182 0 96 (dk_at dksX4_grants_0 4 rfl rfl)
theorem dX4_grants_7 : decode cX4_grants 7 = .ok (.aload_n 0, 1) := dk_42 (dk_at dksX4_grants_0 7 rfl rfl)
theorem dX4_grants_8 : decode cX4_grants 8 = .ok (.getfield 13, 3) := dk_180 0 13 (dk_at dksX4_grants_0 8 rfl rfl)
theorem dX4_grants_11 : decode cX4_grants 11 = .ok (.iconst 4, 1) := dk_7 (dk_at dksX4_grants_0 11 rfl rfl)
theorem dX4_grants_12 : decode cX4_grants 12 = .ok (.dup2, 1) := dk_92 (dk_at dksX4_grants_0 12 rfl rfl)
theorem dX4_grants_13 : decode cX4_grants 13 = .ok (.iaload, 1) := dk_46 (dk_at dksX4_grants_0 13 rfl rfl)
theorem dX4_grants_14 : decode cX4_grants 14 = .ok (.iconst 1, 1) := dk_4 (dk_at dksX4_grants_0 14 rfl rfl)
theorem dX4_grants_15 : decode cX4_grants 15 = .ok (.iadd, 1) := dk_96 (dk_at dksX4_grants_0 15 rfl rfl)
theorem dX4_grants_16 : decode cX4_grants 16 = .ok (.iastore, 1) := dk_79 (dk_at dksX4_grants_0 16 rfl rfl)
theorem dX4_grants_17 : decode cX4_grants 17 = .ok (.aload_n 0, 1) := dk_42 (dk_at dksX4_grants_0 17 rfl rfl)
theorem dX4_grants_18 : decode cX4_grants 18 = .ok (.getfield 13, 3) := dk_180 0 13 (dk_at dksX4_grants_0 18 rfl rfl)
theorem dX4_grants_21 : decode cX4_grants 21 = .ok (.bipush 7, 2) := dk_16 7 (dk_at dksX4_grants_0 21 rfl rfl)
theorem dX4_grants_23 : decode cX4_grants 23 = .ok (.dup2, 1) := dk_92 (dk_at dksX4_grants_0 23 rfl rfl)
theorem dX4_grants_24 : decode cX4_grants 24 = .ok (.iaload, 1) := dk_46 (dk_at dksX4_grants_1 0 rfl rfl)
theorem dX4_grants_25 : decode cX4_grants 25 = .ok (.iload_n 3, 1) := dk_29 (dk_at dksX4_grants_1 1 rfl rfl)
theorem dX4_grants_26 : decode cX4_grants 26 = .ok (.iadd, 1) := dk_96 (dk_at dksX4_grants_1 2 rfl rfl)
theorem dX4_grants_27 : decode cX4_grants 27 = .ok (.iastore, 1) := dk_79 (dk_at dksX4_grants_1 3 rfl rfl)
theorem dX4_grants_28 : decode cX4_grants 28 = .ok (.return_, 1) := dk_177 (dk_at dksX4_grants_1 4 rfl rfl)
abbrev cX4_back : ByteArray := prog_33_method_93_code
def yX4_back : MethodName := ⟨RX4, "back", "(I)I"⟩
def dkwX4_back_0 : List UInt8 := [42, 180, 0, 23, 3, 42, 180, 0, 13, 3, 16, 101, 184, 0, 245, 27, 172]
abbrev dktX4_back_0 : List UInt8 := dkwX4_back_0 ++ []
theorem dksX4_back_0 : cX4_back.data.toList.drop 0 = dktX4_back_0 := by decide +kernel
theorem dX4_back_0 : decode cX4_back 0 = .ok (.aload_n 0, 1) := dk_42 (dk_at dksX4_back_0 0 rfl rfl)
theorem dX4_back_1 : decode cX4_back 1 = .ok (.getfield 23, 3) := dk_180 0 23 (dk_at dksX4_back_0 1 rfl rfl)
theorem dX4_back_4 : decode cX4_back 4 = .ok (.iconst 0, 1) := dk_3 (dk_at dksX4_back_0 4 rfl rfl)
theorem dX4_back_5 : decode cX4_back 5 = .ok (.aload_n 0, 1) := dk_42 (dk_at dksX4_back_0 5 rfl rfl)
theorem dX4_back_6 : decode cX4_back 6 = .ok (.getfield 13, 3) := dk_180 0 13 (dk_at dksX4_back_0 6 rfl rfl)
theorem dX4_back_9 : decode cX4_back 9 = .ok (.iconst 0, 1) := dk_3 (dk_at dksX4_back_0 9 rfl rfl)
theorem dX4_back_10 : decode cX4_back 10 = .ok (.bipush 101, 2) := dk_16 101 (dk_at dksX4_back_0 10 rfl rfl)
theorem dX4_back_12 : decode cX4_back 12 = .ok (.invokestatic 245, 3) := dk_184 0 245 (dk_at dksX4_back_0 12 rfl rfl)
theorem dX4_back_15 : decode cX4_back 15 = .ok (.iload_n 1, 1) := dk_27 (dk_at dksX4_back_0 15 rfl rfl)
theorem dX4_back_16 : decode cX4_back 16 = .ok (.ireturn, 1) := dk_172 (dk_at dksX4_back_0 16 rfl rfl)
abbrev cX4_grantedRequests : ByteArray := prog_33_method_100_code
def yX4_grantedRequests : MethodName := ⟨RX4, "grantedRequests", "()I"⟩
def dkwX4_grantedRequests_0 : List UInt8 := [42, 7, 182, 1, 36, 172]
abbrev dktX4_grantedRequests_0 : List UInt8 := dkwX4_grantedRequests_0 ++ []
theorem dksX4_grantedRequests_0 : cX4_grantedRequests.data.toList.drop 0 = dktX4_grantedRequests_0 := by decide +kernel
theorem dX4_grantedRequests_0 : decode cX4_grantedRequests 0 = .ok (.aload_n 0, 1) := dk_42 (dk_at dksX4_grantedRequests_0 0 rfl rfl)
theorem dX4_grantedRequests_1 : decode cX4_grantedRequests 1 = .ok (.iconst 4, 1) := dk_7 (dk_at dksX4_grantedRequests_0 1 rfl rfl)
theorem dX4_grantedRequests_2 : decode cX4_grantedRequests 2 = .ok (.invokevirtual 292, 3) := dk_182 1 36 (dk_at dksX4_grantedRequests_0 2 rfl rfl)
theorem dX4_grantedRequests_5 : decode cX4_grantedRequests 5 = .ok (.ireturn, 1) := dk_172 (dk_at dksX4_grantedRequests_0 5 rfl rfl)
abbrev cX4_counter : ByteArray := prog_33_method_99_code
def yX4_counter : MethodName := ⟨RX4, "counter", "(I)I"⟩
def dkwX4_counter_0 : List UInt8 := [42, 3, 181, 0, 1, 42, 180, 0, 13, 27, 46, 172]
abbrev dktX4_counter_0 : List UInt8 := dkwX4_counter_0 ++ []
theorem dksX4_counter_0 : cX4_counter.data.toList.drop 0 = dktX4_counter_0 := by decide +kernel
theorem dX4_counter_0 : decode cX4_counter 0 = .ok (.aload_n 0, 1) := dk_42 (dk_at dksX4_counter_0 0 rfl rfl)
theorem dX4_counter_1 : decode cX4_counter 1 = .ok (.iconst 0, 1) := dk_3 (dk_at dksX4_counter_0 1 rfl rfl)
theorem dX4_counter_2 : decode cX4_counter 2 = .ok (.putfield 1, 3) := dk_181 0 1 (dk_at dksX4_counter_0 2 rfl rfl)
theorem dX4_counter_5 : decode cX4_counter 5 = .ok (.aload_n 0, 1) := dk_42 (dk_at dksX4_counter_0 5 rfl rfl)
theorem dX4_counter_6 : decode cX4_counter 6 = .ok (.getfield 13, 3) := dk_180 0 13 (dk_at dksX4_counter_0 6 rfl rfl)
theorem dX4_counter_9 : decode cX4_counter 9 = .ok (.iload_n 1, 1) := dk_27 (dk_at dksX4_counter_0 9 rfl rfl)
theorem dX4_counter_10 : decode cX4_counter 10 = .ok (.iaload, 1) := dk_46 (dk_at dksX4_counter_0 10 rfl rfl)
theorem dX4_counter_11 : decode cX4_counter 11 = .ok (.ireturn, 1) := dk_172 (dk_at dksX4_counter_0 11 rfl rfl)
abbrev cX4_delayedRequests : ByteArray := prog_33_method_101_code
def yX4_delayedRequests : MethodName := ⟨RX4, "delayedRequests", "()I"⟩
def dkwX4_delayedRequests_0 : List UInt8 := [42, 8, 182, 1, 36, 172]
abbrev dktX4_delayedRequests_0 : List UInt8 := dkwX4_delayedRequests_0 ++ []
theorem dksX4_delayedRequests_0 : cX4_delayedRequests.data.toList.drop 0 = dktX4_delayedRequests_0 := by decide +kernel
theorem dX4_delayedRequests_0 : decode cX4_delayedRequests 0 = .ok (.aload_n 0, 1) := dk_42 (dk_at dksX4_delayedRequests_0 0 rfl rfl)
theorem dX4_delayedRequests_1 : decode cX4_delayedRequests 1 = .ok (.iconst 5, 1) := dk_8 (dk_at dksX4_delayedRequests_0 1 rfl rfl)
theorem dX4_delayedRequests_2 : decode cX4_delayedRequests 2 = .ok (.invokevirtual 292, 3) := dk_182 1 36 (dk_at dksX4_delayedRequests_0 2 rfl rfl)
theorem dX4_delayedRequests_5 : decode cX4_delayedRequests 5 = .ok (.ireturn, 1) := dk_172 (dk_at dksX4_delayedRequests_0 5 rfl rfl)
abbrev cX4_unsafeRequests : ByteArray := prog_33_method_102_code
def yX4_unsafeRequests : MethodName := ⟨RX4, "unsafeRequests", "()I"⟩
def dkwX4_unsafeRequests_0 : List UInt8 := [42, 16, 6, 182, 1, 36, 172]
abbrev dktX4_unsafeRequests_0 : List UInt8 := dkwX4_unsafeRequests_0 ++ []
theorem dksX4_unsafeRequests_0 : cX4_unsafeRequests.data.toList.drop 0 = dktX4_unsafeRequests_0 := by decide +kernel
theorem dX4_unsafeRequests_0 : decode cX4_unsafeRequests 0 = .ok (.aload_n 0, 1) := dk_42 (dk_at dksX4_unsafeRequests_0 0 rfl rfl)
theorem dX4_unsafeRequests_1 : decode cX4_unsafeRequests 1 = .ok (.bipush 6, 2) := dk_16 6 (dk_at dksX4_unsafeRequests_0 1 rfl rfl)
theorem dX4_unsafeRequests_3 : decode cX4_unsafeRequests 3 = .ok (.invokevirtual 292, 3) := dk_182 1 36 (dk_at dksX4_unsafeRequests_0 3 rfl rfl)
theorem dX4_unsafeRequests_6 : decode cX4_unsafeRequests 6 = .ok (.ireturn, 1) := dk_172 (dk_at dksX4_unsafeRequests_0 6 rfl rfl)
abbrev cX4_grantedPrinters : ByteArray := prog_33_method_103_code
def yX4_grantedPrinters : MethodName := ⟨RX4, "grantedPrinters", "()I"⟩
def dkwX4_grantedPrinters_0 : List UInt8 := [42, 16, 7, 182, 1, 36, 172]
abbrev dktX4_grantedPrinters_0 : List UInt8 := dkwX4_grantedPrinters_0 ++ []
theorem dksX4_grantedPrinters_0 : cX4_grantedPrinters.data.toList.drop 0 = dktX4_grantedPrinters_0 := by decide +kernel
theorem dX4_grantedPrinters_0 : decode cX4_grantedPrinters 0 = .ok (.aload_n 0, 1) := dk_42 (dk_at dksX4_grantedPrinters_0 0 rfl rfl)
theorem dX4_grantedPrinters_1 : decode cX4_grantedPrinters 1 = .ok (.bipush 7, 2) := dk_16 7 (dk_at dksX4_grantedPrinters_0 1 rfl rfl)
theorem dX4_grantedPrinters_3 : decode cX4_grantedPrinters 3 = .ok (.invokevirtual 292, 3) := dk_182 1 36 (dk_at dksX4_grantedPrinters_0 3 rfl rfl)
theorem dX4_grantedPrinters_6 : decode cX4_grantedPrinters 6 = .ok (.ireturn, 1) := dk_172 (dk_at dksX4_grantedPrinters_0 6 rfl rfl)
abbrev cX4_returnedPrinters : ByteArray := prog_33_method_104_code
def yX4_returnedPrinters : MethodName := ⟨RX4, "returnedPrinters", "()I"⟩
def dkwX4_returnedPrinters_0 : List UInt8 := [42, 16, 8, 182, 1, 36, 172]
abbrev dktX4_returnedPrinters_0 : List UInt8 := dkwX4_returnedPrinters_0 ++ []
theorem dksX4_returnedPrinters_0 : cX4_returnedPrinters.data.toList.drop 0 = dktX4_returnedPrinters_0 := by decide +kernel
theorem dX4_returnedPrinters_0 : decode cX4_returnedPrinters 0 = .ok (.aload_n 0, 1) := dk_42 (dk_at dksX4_returnedPrinters_0 0 rfl rfl)
theorem dX4_returnedPrinters_1 : decode cX4_returnedPrinters 1 = .ok (.bipush 8, 2) := dk_16 8 (dk_at dksX4_returnedPrinters_0 1 rfl rfl)
theorem dX4_returnedPrinters_3 : decode cX4_returnedPrinters 3 = .ok (.invokevirtual 292, 3) := dk_182 1 36 (dk_at dksX4_returnedPrinters_0 3 rfl rfl)
theorem dX4_returnedPrinters_6 : decode cX4_returnedPrinters 6 = .ok (.ireturn, 1) := dk_172 (dk_at dksX4_returnedPrinters_0 6 rfl rfl)
abbrev cX4_ledgerGap : ByteArray := prog_33_method_105_code
def yX4_ledgerGap : MethodName := ⟨RX4, "ledgerGap", "()I"⟩
def dkwX4_ledgerGap_1 : List UInt8 := [42, 180, 0, 13, 16, 8, 46, 96, 184, 1, 39, 172]
abbrev dktX4_ledgerGap_1 : List UInt8 := dkwX4_ledgerGap_1 ++ []
def dkwX4_ledgerGap_0 : List UInt8 := [42, 3, 181, 0, 1, 42, 182, 1, 9, 42, 180, 0, 13, 6, 46, 100, 42, 180, 0, 13, 16, 7, 46, 100]
abbrev dktX4_ledgerGap_0 : List UInt8 := dkwX4_ledgerGap_0 ++ dktX4_ledgerGap_1
theorem dksX4_ledgerGap_0 : cX4_ledgerGap.data.toList.drop 0 = dktX4_ledgerGap_0 := by decide +kernel
theorem dksX4_ledgerGap_1 : cX4_ledgerGap.data.toList.drop 24 = dktX4_ledgerGap_1 := dk_seg dksX4_ledgerGap_0 24 rfl rfl
theorem dX4_ledgerGap_0 : decode cX4_ledgerGap 0 = .ok (.aload_n 0, 1) := dk_42 (dk_at dksX4_ledgerGap_0 0 rfl rfl)
theorem dX4_ledgerGap_1 : decode cX4_ledgerGap 1 = .ok (.iconst 0, 1) := dk_3 (dk_at dksX4_ledgerGap_0 1 rfl rfl)
theorem dX4_ledgerGap_2 : decode cX4_ledgerGap 2 = .ok (.putfield 1, 3) := dk_181 0 1 (dk_at dksX4_ledgerGap_0 2 rfl rfl)
theorem dX4_ledgerGap_5 : decode cX4_ledgerGap 5 = .ok (.aload_n 0, 1) := dk_42 (dk_at dksX4_ledgerGap_0 5 rfl rfl)
theorem dX4_ledgerGap_6 : decode cX4_ledgerGap 6 = .ok (.invokevirtual 265, 3) := dk_182 1 9 (dk_at dksX4_ledgerGap_0 6 rfl rfl)
theorem dX4_ledgerGap_9 : decode cX4_ledgerGap 9 = .ok (.aload_n 0, 1) := dk_42 (dk_at dksX4_ledgerGap_0 9 rfl rfl)
theorem dX4_ledgerGap_10 : decode cX4_ledgerGap 10 = .ok (.getfield 13, 3) := dk_180 0 13 (dk_at dksX4_ledgerGap_0 10 rfl rfl)
theorem dX4_ledgerGap_13 : decode cX4_ledgerGap 13 = .ok (.iconst 3, 1) := dk_6 (dk_at dksX4_ledgerGap_0 13 rfl rfl)
theorem dX4_ledgerGap_14 : decode cX4_ledgerGap 14 = .ok (.iaload, 1) := dk_46 (dk_at dksX4_ledgerGap_0 14 rfl rfl)
theorem dX4_ledgerGap_15 : decode cX4_ledgerGap 15 = .ok (.isub, 1) := dk_100 (dk_at dksX4_ledgerGap_0 15 rfl rfl)
theorem dX4_ledgerGap_16 : decode cX4_ledgerGap 16 = .ok (.aload_n 0, 1) := dk_42 (dk_at dksX4_ledgerGap_0 16 rfl rfl)
theorem dX4_ledgerGap_17 : decode cX4_ledgerGap 17 = .ok (.getfield 13, 3) := dk_180 0 13 (dk_at dksX4_ledgerGap_0 17 rfl rfl)
theorem dX4_ledgerGap_20 : decode cX4_ledgerGap 20 = .ok (.bipush 7, 2) := dk_16 7 (dk_at dksX4_ledgerGap_0 20 rfl rfl)
theorem dX4_ledgerGap_22 : decode cX4_ledgerGap 22 = .ok (.iaload, 1) := dk_46 (dk_at dksX4_ledgerGap_0 22 rfl rfl)
theorem dX4_ledgerGap_23 : decode cX4_ledgerGap 23 = .ok (.isub, 1) := dk_100 (dk_at dksX4_ledgerGap_0 23 rfl rfl)
theorem dX4_ledgerGap_24 : decode cX4_ledgerGap 24 = .ok (.aload_n 0, 1) := dk_42 (dk_at dksX4_ledgerGap_1 0 rfl rfl)
theorem dX4_ledgerGap_25 : decode cX4_ledgerGap 25 = .ok (.getfield 13, 3) := dk_180 0 13 (dk_at dksX4_ledgerGap_1 1 rfl rfl)
theorem dX4_ledgerGap_28 : decode cX4_ledgerGap 28 = .ok (.bipush 8, 2) := dk_16 8 (dk_at dksX4_ledgerGap_1 4 rfl rfl)
theorem dX4_ledgerGap_30 : decode cX4_ledgerGap 30 = .ok (.iaload, 1) := dk_46 (dk_at dksX4_ledgerGap_1 6 rfl rfl)
theorem dX4_ledgerGap_31 : decode cX4_ledgerGap 31 = .ok (.iadd, 1) := dk_96 (dk_at dksX4_ledgerGap_1 7 rfl rfl)
theorem dX4_ledgerGap_32 : decode cX4_ledgerGap 32 = .ok (.invokestatic 295, 3) := dk_184 1 39 (dk_at dksX4_ledgerGap_1 8 rfl rfl)
theorem dX4_ledgerGap_35 : decode cX4_ledgerGap 35 = .ok (.ireturn, 1) := dk_172 (dk_at dksX4_ledgerGap_1 11 rfl rfl)
abbrev cX4_plain : ByteArray := prog_33_method_5_code
def yX4_plain : MethodName := ⟨RX4, "plain", "(I)I"⟩
def dkwX4_plain_0 : List UInt8 := [26, 156, 0, 8, 26, 116, 167, 0, 4, 26, 172]
abbrev dktX4_plain_0 : List UInt8 := dkwX4_plain_0 ++ []
theorem dksX4_plain_0 : cX4_plain.data.toList.drop 0 = dktX4_plain_0 := by decide +kernel
theorem dX4_plain_0 : decode cX4_plain 0 = .ok (.iload_n 0, 1) := dk_26 (dk_at dksX4_plain_0 0 rfl rfl)
theorem dX4_plain_1 : decode cX4_plain 1 = .ok (.ifCond .ge 8, 3) := dk_156 0 8 (dk_at dksX4_plain_0 1 rfl rfl)
theorem dX4_plain_4 : decode cX4_plain 4 = .ok (.iload_n 0, 1) := dk_26 (dk_at dksX4_plain_0 4 rfl rfl)
theorem dX4_plain_5 : decode cX4_plain 5 = .ok (.ineg, 1) := dk_116 (dk_at dksX4_plain_0 5 rfl rfl)
theorem dX4_plain_6 : decode cX4_plain 6 = .ok (.goto 4, 3) := dk_167 0 4 (dk_at dksX4_plain_0 6 rfl rfl)
theorem dX4_plain_9 : decode cX4_plain 9 = .ok (.iload_n 0, 1) := dk_26 (dk_at dksX4_plain_0 9 rfl rfl)
theorem dX4_plain_10 : decode cX4_plain 10 = .ok (.ireturn, 1) := dk_172 (dk_at dksX4_plain_0 10 rfl rfl)
abbrev cX4_request : ByteArray := prog_33_method_108_code
def yX4_request : MethodName := ⟨RX4, "request", "(III)I"⟩
def dkwX4_request_1 : List UInt8 := [182, 0, 241, 153, 0, 7, 3, 167, 0, 12, 42, 3, 27, 28, 29, 6, 182, 1, 53, 172]
abbrev dktX4_request_1 : List UInt8 := dkwX4_request_1 ++ []
def dkwX4_request_0 : List UInt8 := [42, 3, 181, 0, 1, 42, 27, 28, 182, 1, 15, 154, 0, 18, 42, 29, 4, 16, 20, 184, 0, 209, 5]
abbrev dktX4_request_0 : List UInt8 := dkwX4_request_0 ++ dktX4_request_1
theorem dksX4_request_0 : cX4_request.data.toList.drop 0 = dktX4_request_0 := by decide +kernel
theorem dksX4_request_1 : cX4_request.data.toList.drop 23 = dktX4_request_1 := dk_seg dksX4_request_0 23 rfl rfl
theorem dX4_request_0 : decode cX4_request 0 = .ok (.aload_n 0, 1) := dk_42 (dk_at dksX4_request_0 0 rfl rfl)
theorem dX4_request_1 : decode cX4_request 1 = .ok (.iconst 0, 1) := dk_3 (dk_at dksX4_request_0 1 rfl rfl)
theorem dX4_request_2 : decode cX4_request 2 = .ok (.putfield 1, 3) := dk_181 0 1 (dk_at dksX4_request_0 2 rfl rfl)
theorem dX4_request_5 : decode cX4_request 5 = .ok (.aload_n 0, 1) := dk_42 (dk_at dksX4_request_0 5 rfl rfl)
theorem dX4_request_6 : decode cX4_request 6 = .ok (.iload_n 1, 1) := dk_27 (dk_at dksX4_request_0 6 rfl rfl)
theorem dX4_request_7 : decode cX4_request 7 = .ok (.iload_n 2, 1) := dk_28 (dk_at dksX4_request_0 7 rfl rfl)
theorem dX4_request_8 : decode cX4_request 8 = .ok (.invokevirtual 271, 3) := dk_182 1 15 (dk_at dksX4_request_0 8 rfl rfl)
theorem dX4_request_11 : decode cX4_request 11 = .ok (.ifCond .ne 18, 3) := dk_154 0 18 (dk_at dksX4_request_0 11 rfl rfl)
theorem dX4_request_14 : decode cX4_request 14 = .ok (.aload_n 0, 1) := dk_42 (dk_at dksX4_request_0 14 rfl rfl)
theorem dX4_request_15 : decode cX4_request 15 = .ok (.iload_n 3, 1) := dk_29 (dk_at dksX4_request_0 15 rfl rfl)
theorem dX4_request_16 : decode cX4_request 16 = .ok (.iconst 1, 1) := dk_4 (dk_at dksX4_request_0 16 rfl rfl)
theorem dX4_request_17 : decode cX4_request 17 = .ok (.bipush 20, 2) := dk_16 20 (dk_at dksX4_request_0 17 rfl rfl)
theorem dX4_request_19 : decode cX4_request 19 = .ok (.invokestatic 209, 3) := dk_184 0 209 (dk_at dksX4_request_0 19 rfl rfl)
theorem dX4_request_22 : decode cX4_request 22 = .ok (.iconst 2, 1) := dk_5 (dk_at dksX4_request_0 22 rfl rfl)
theorem dX4_request_23 : decode cX4_request 23 = .ok (.invokevirtual 241, 3) := dk_182 0 241 (dk_at dksX4_request_1 0 rfl rfl)
theorem dX4_request_26 : decode cX4_request 26 = .ok (.ifCond .eq 7, 3) := dk_153 0 7 (dk_at dksX4_request_1 3 rfl rfl)
theorem dX4_request_29 : decode cX4_request 29 = .ok (.iconst 0, 1) := dk_3 (dk_at dksX4_request_1 6 rfl rfl)
theorem dX4_request_30 : decode cX4_request 30 = .ok (.goto 12, 3) := dk_167 0 12 (dk_at dksX4_request_1 7 rfl rfl)
theorem dX4_request_33 : decode cX4_request 33 = .ok (.aload_n 0, 1) := dk_42 (dk_at dksX4_request_1 10 rfl rfl)
theorem dX4_request_34 : decode cX4_request 34 = .ok (.iconst 0, 1) := dk_3 (dk_at dksX4_request_1 11 rfl rfl)
theorem dX4_request_35 : decode cX4_request 35 = .ok (.iload_n 1, 1) := dk_27 (dk_at dksX4_request_1 12 rfl rfl)
theorem dX4_request_36 : decode cX4_request 36 = .ok (.iload_n 2, 1) := dk_28 (dk_at dksX4_request_1 13 rfl rfl)
theorem dX4_request_37 : decode cX4_request 37 = .ok (.iload_n 3, 1) := dk_29 (dk_at dksX4_request_1 14 rfl rfl)
theorem dX4_request_38 : decode cX4_request 38 = .ok (.iconst 3, 1) := dk_6 (dk_at dksX4_request_1 15 rfl rfl)
theorem dX4_request_39 : decode cX4_request 39 = .ok (.invokevirtual 309, 3) := dk_182 1 53 (dk_at dksX4_request_1 16 rfl rfl)
theorem dX4_request_42 : decode cX4_request 42 = .ok (.ireturn, 1) := dk_172 (dk_at dksX4_request_1 19 rfl rfl)
abbrev cX4_operates : ByteArray := prog_33_method_107_code
def yX4_operates : MethodName := ⟨RX4, "operates", "(IIIII)I"⟩
def dkwX4_operates_1 : List UInt8 := [42, 27, 28, 29, 21, 4, 182, 1, 49, 172]
abbrev dktX4_operates_1 : List UInt8 := dkwX4_operates_1 ++ []
def dkwX4_operates_0 : List UInt8 := [42, 42, 27, 28, 29, 21, 4, 182, 1, 42, 21, 5, 182, 0, 241, 153, 0, 5, 3, 172, 42, 182, 1, 46]
abbrev dktX4_operates_0 : List UInt8 := dkwX4_operates_0 ++ dktX4_operates_1
theorem dksX4_operates_0 : cX4_operates.data.toList.drop 0 = dktX4_operates_0 := by decide +kernel
theorem dksX4_operates_1 : cX4_operates.data.toList.drop 24 = dktX4_operates_1 := dk_seg dksX4_operates_0 24 rfl rfl
theorem dX4_operates_0 : decode cX4_operates 0 = .ok (.aload_n 0, 1) := dk_42 (dk_at dksX4_operates_0 0 rfl rfl)
theorem dX4_operates_1 : decode cX4_operates 1 = .ok (.aload_n 0, 1) := dk_42 (dk_at dksX4_operates_0 1 rfl rfl)
theorem dX4_operates_2 : decode cX4_operates 2 = .ok (.iload_n 1, 1) := dk_27 (dk_at dksX4_operates_0 2 rfl rfl)
theorem dX4_operates_3 : decode cX4_operates 3 = .ok (.iload_n 2, 1) := dk_28 (dk_at dksX4_operates_0 3 rfl rfl)
theorem dX4_operates_4 : decode cX4_operates 4 = .ok (.iload_n 3, 1) := dk_29 (dk_at dksX4_operates_0 4 rfl rfl)
theorem dX4_operates_5 : decode cX4_operates 5 = .ok (.iload 4, 2) := dk_21 4 (dk_at dksX4_operates_0 5 rfl rfl)
theorem dX4_operates_7 : decode cX4_operates 7 = .ok (.invokevirtual 298, 3) := dk_182 1 42 (dk_at dksX4_operates_0 7 rfl rfl)
theorem dX4_operates_10 : decode cX4_operates 10 = .ok (.iload 5, 2) := dk_21 5 (dk_at dksX4_operates_0 10 rfl rfl)
theorem dX4_operates_12 : decode cX4_operates 12 = .ok (.invokevirtual 241, 3) := dk_182 0 241 (dk_at dksX4_operates_0 12 rfl rfl)
theorem dX4_operates_15 : decode cX4_operates 15 = .ok (.ifCond .eq 5, 3) := dk_153 0 5 (dk_at dksX4_operates_0 15 rfl rfl)
theorem dX4_operates_18 : decode cX4_operates 18 = .ok (.iconst 0, 1) := dk_3 (dk_at dksX4_operates_0 18 rfl rfl)
theorem dX4_operates_19 : decode cX4_operates 19 = .ok (.ireturn, 1) := dk_172 (dk_at dksX4_operates_0 19 rfl rfl)
theorem dX4_operates_20 : decode cX4_operates 20 = .ok (.aload_n 0, 1) := dk_42 (dk_at dksX4_operates_0 20 rfl rfl)
theorem dX4_operates_21 : decode cX4_operates 21 = .ok (.invokevirtual 302, 3) := dk_182 1 46 (dk_at dksX4_operates_0 21 rfl rfl)
theorem dX4_operates_24 : decode cX4_operates 24 = .ok (.aload_n 0, 1) := dk_42 (dk_at dksX4_operates_1 0 rfl rfl)
theorem dX4_operates_25 : decode cX4_operates 25 = .ok (.iload_n 1, 1) := dk_27 (dk_at dksX4_operates_1 1 rfl rfl)
theorem dX4_operates_26 : decode cX4_operates 26 = .ok (.iload_n 2, 1) := dk_28 (dk_at dksX4_operates_1 2 rfl rfl)
theorem dX4_operates_27 : decode cX4_operates 27 = .ok (.iload_n 3, 1) := dk_29 (dk_at dksX4_operates_1 3 rfl rfl)
theorem dX4_operates_28 : decode cX4_operates 28 = .ok (.iload 4, 2) := dk_21 4 (dk_at dksX4_operates_1 4 rfl rfl)
theorem dX4_operates_30 : decode cX4_operates 30 = .ok (.invokevirtual 305, 3) := dk_182 1 49 (dk_at dksX4_operates_1 6 rfl rfl)
theorem dX4_operates_33 : decode cX4_operates 33 = .ok (.ireturn, 1) := dk_172 (dk_at dksX4_operates_1 9 rfl rfl)
abbrev cX4_can : ByteArray := prog_33_method_36_code
def yX4_can : MethodName := ⟨RX4, "can", "(IIII)Z"⟩
def dkwX4_can_5 : List UInt8 := [16, 40, 163, 0, 7, 4, 167, 0, 4, 3, 172, 42, 28, 29, 182, 0, 143, 172, 4, 172]
abbrev dktX4_can_5 : List UInt8 := dkwX4_can_5 ++ []
def dkwX4_can_4 : List UInt8 := [182, 0, 107, 172, 42, 28, 29, 21, 4, 182, 0, 140, 172, 42, 180, 0, 13, 16, 9, 28, 96, 46, 29, 96]
abbrev dktX4_can_4 : List UInt8 := dkwX4_can_4 ++ dktX4_can_5
def dkwX4_can_3 : List UInt8 := [172, 42, 28, 7, 29, 96, 182, 0, 63, 21, 4, 161, 0, 7, 4, 167, 0, 4, 3, 172, 42, 28]
abbrev dktX4_can_3 : List UInt8 := dkwX4_can_3 ++ dktX4_can_4
def dkwX4_can_2 : List UInt8 := [42, 28, 182, 0, 107, 154, 0, 18, 21, 4, 42, 28, 29, 182, 0, 77, 163, 0, 7, 4, 167, 0, 4, 3]
abbrev dktX4_can_2 : List UInt8 := dkwX4_can_2 ++ dktX4_can_3
def dkwX4_can_1 : List UInt8 := [170, 0, 0, 0, 0, 0, 131, 0, 0, 0, 0, 0, 0, 0, 6, 0, 0, 0, 43, 0, 0, 0, 68, 0, 0, 0, 131, 0, 0, 0, 87, 0, 0, 0, 93, 0, 0, 0, 102, 0, 0, 0, 124]
abbrev dktX4_can_1 : List UInt8 := dkwX4_can_1 ++ dktX4_can_2
def dkwX4_can_0 : List UInt8 := [27]
abbrev dktX4_can_0 : List UInt8 := dkwX4_can_0 ++ dktX4_can_1
theorem dksX4_can_0 : cX4_can.data.toList.drop 0 = dktX4_can_0 := by decide +kernel
theorem dksX4_can_1 : cX4_can.data.toList.drop 1 = dktX4_can_1 := dk_seg dksX4_can_0 1 rfl rfl
theorem dksX4_can_2 : cX4_can.data.toList.drop 44 = dktX4_can_2 := dk_seg dksX4_can_1 43 rfl rfl
theorem dksX4_can_3 : cX4_can.data.toList.drop 68 = dktX4_can_3 := dk_seg dksX4_can_2 24 rfl rfl
theorem dksX4_can_4 : cX4_can.data.toList.drop 90 = dktX4_can_4 := dk_seg dksX4_can_3 22 rfl rfl
theorem dksX4_can_5 : cX4_can.data.toList.drop 114 = dktX4_can_5 := dk_seg dksX4_can_4 24 rfl rfl
theorem dX4_can_0 : decode cX4_can 0 = .ok (.iload_n 1, 1) := dk_27 (dk_at dksX4_can_0 0 rfl rfl)
theorem dX4_can_1 : decode cX4_can 1 = .ok (.tableswitch 131 0 6 #[43, 68, 131, 87, 93, 102, 124], 43) := by decide +kernel
theorem dX4_can_44 : decode cX4_can 44 = .ok (.aload_n 0, 1) := dk_42 (dk_at dksX4_can_2 0 rfl rfl)
theorem dX4_can_45 : decode cX4_can 45 = .ok (.iload_n 2, 1) := dk_28 (dk_at dksX4_can_2 1 rfl rfl)
theorem dX4_can_46 : decode cX4_can 46 = .ok (.invokevirtual 107, 3) := dk_182 0 107 (dk_at dksX4_can_2 2 rfl rfl)
theorem dX4_can_49 : decode cX4_can 49 = .ok (.ifCond .ne 18, 3) := dk_154 0 18 (dk_at dksX4_can_2 5 rfl rfl)
theorem dX4_can_52 : decode cX4_can 52 = .ok (.iload 4, 2) := dk_21 4 (dk_at dksX4_can_2 8 rfl rfl)
theorem dX4_can_54 : decode cX4_can 54 = .ok (.aload_n 0, 1) := dk_42 (dk_at dksX4_can_2 10 rfl rfl)
theorem dX4_can_55 : decode cX4_can 55 = .ok (.iload_n 2, 1) := dk_28 (dk_at dksX4_can_2 11 rfl rfl)
theorem dX4_can_56 : decode cX4_can 56 = .ok (.iload_n 3, 1) := dk_29 (dk_at dksX4_can_2 12 rfl rfl)
theorem dX4_can_57 : decode cX4_can 57 = .ok (.invokevirtual 77, 3) := dk_182 0 77 (dk_at dksX4_can_2 13 rfl rfl)
theorem dX4_can_60 : decode cX4_can 60 = .ok (.if_icmp .gt 7, 3) := dk_163 0 7 (dk_at dksX4_can_2 16 rfl rfl)
theorem dX4_can_63 : decode cX4_can 63 = .ok (.iconst 1, 1) := dk_4 (dk_at dksX4_can_2 19 rfl rfl)
theorem dX4_can_64 : decode cX4_can 64 = .ok (.goto 4, 3) := dk_167 0 4 (dk_at dksX4_can_2 20 rfl rfl)
theorem dX4_can_67 : decode cX4_can 67 = .ok (.iconst 0, 1) := dk_3 (dk_at dksX4_can_2 23 rfl rfl)
theorem dX4_can_68 : decode cX4_can 68 = .ok (.ireturn, 1) := dk_172 (dk_at dksX4_can_3 0 rfl rfl)
theorem dX4_can_69 : decode cX4_can 69 = .ok (.aload_n 0, 1) := dk_42 (dk_at dksX4_can_3 1 rfl rfl)
theorem dX4_can_70 : decode cX4_can 70 = .ok (.iload_n 2, 1) := dk_28 (dk_at dksX4_can_3 2 rfl rfl)
theorem dX4_can_71 : decode cX4_can 71 = .ok (.iconst 4, 1) := dk_7 (dk_at dksX4_can_3 3 rfl rfl)
theorem dX4_can_72 : decode cX4_can 72 = .ok (.iload_n 3, 1) := dk_29 (dk_at dksX4_can_3 4 rfl rfl)
theorem dX4_can_73 : decode cX4_can 73 = .ok (.iadd, 1) := dk_96 (dk_at dksX4_can_3 5 rfl rfl)
theorem dX4_can_74 : decode cX4_can 74 = .ok (.invokevirtual 63, 3) := dk_182 0 63 (dk_at dksX4_can_3 6 rfl rfl)
theorem dX4_can_77 : decode cX4_can 77 = .ok (.iload 4, 2) := dk_21 4 (dk_at dksX4_can_3 9 rfl rfl)
theorem dX4_can_79 : decode cX4_can 79 = .ok (.if_icmp .lt 7, 3) := dk_161 0 7 (dk_at dksX4_can_3 11 rfl rfl)
theorem dX4_can_82 : decode cX4_can 82 = .ok (.iconst 1, 1) := dk_4 (dk_at dksX4_can_3 14 rfl rfl)
theorem dX4_can_83 : decode cX4_can 83 = .ok (.goto 4, 3) := dk_167 0 4 (dk_at dksX4_can_3 15 rfl rfl)
theorem dX4_can_86 : decode cX4_can 86 = .ok (.iconst 0, 1) := dk_3 (dk_at dksX4_can_3 18 rfl rfl)
theorem dX4_can_87 : decode cX4_can 87 = .ok (.ireturn, 1) := dk_172 (dk_at dksX4_can_3 19 rfl rfl)
theorem dX4_can_88 : decode cX4_can 88 = .ok (.aload_n 0, 1) := dk_42 (dk_at dksX4_can_3 20 rfl rfl)
theorem dX4_can_89 : decode cX4_can 89 = .ok (.iload_n 2, 1) := dk_28 (dk_at dksX4_can_3 21 rfl rfl)
theorem dX4_can_90 : decode cX4_can 90 = .ok (.invokevirtual 107, 3) := dk_182 0 107 (dk_at dksX4_can_4 0 rfl rfl)
theorem dX4_can_93 : decode cX4_can 93 = .ok (.ireturn, 1) := dk_172 (dk_at dksX4_can_4 3 rfl rfl)
theorem dX4_can_94 : decode cX4_can 94 = .ok (.aload_n 0, 1) := dk_42 (dk_at dksX4_can_4 4 rfl rfl)
theorem dX4_can_95 : decode cX4_can 95 = .ok (.iload_n 2, 1) := dk_28 (dk_at dksX4_can_4 5 rfl rfl)
theorem dX4_can_96 : decode cX4_can 96 = .ok (.iload_n 3, 1) := dk_29 (dk_at dksX4_can_4 6 rfl rfl)
theorem dX4_can_97 : decode cX4_can 97 = .ok (.iload 4, 2) := dk_21 4 (dk_at dksX4_can_4 7 rfl rfl)
theorem dX4_can_99 : decode cX4_can 99 = .ok (.invokevirtual 140, 3) := dk_182 0 140 (dk_at dksX4_can_4 9 rfl rfl)
theorem dX4_can_102 : decode cX4_can 102 = .ok (.ireturn, 1) := dk_172 (dk_at dksX4_can_4 12 rfl rfl)
theorem dX4_can_103 : decode cX4_can 103 = .ok (.aload_n 0, 1) := dk_42 (dk_at dksX4_can_4 13 rfl rfl)
theorem dX4_can_104 : decode cX4_can 104 = .ok (.getfield 13, 3) := dk_180 0 13 (dk_at dksX4_can_4 14 rfl rfl)
theorem dX4_can_107 : decode cX4_can 107 = .ok (.bipush 9, 2) := dk_16 9 (dk_at dksX4_can_4 17 rfl rfl)
theorem dX4_can_109 : decode cX4_can 109 = .ok (.iload_n 2, 1) := dk_28 (dk_at dksX4_can_4 19 rfl rfl)
theorem dX4_can_110 : decode cX4_can 110 = .ok (.iadd, 1) := dk_96 (dk_at dksX4_can_4 20 rfl rfl)
theorem dX4_can_111 : decode cX4_can 111 = .ok (.iaload, 1) := dk_46 (dk_at dksX4_can_4 21 rfl rfl)
theorem dX4_can_112 : decode cX4_can 112 = .ok (.iload_n 3, 1) := dk_29 (dk_at dksX4_can_4 22 rfl rfl)
theorem dX4_can_113 : decode cX4_can 113 = .ok (.iadd, 1) := dk_96 (dk_at dksX4_can_4 23 rfl rfl)
theorem dX4_can_114 : decode cX4_can 114 = .ok (.bipush 40, 2) := dk_16 40 (dk_at dksX4_can_5 0 rfl rfl)
theorem dX4_can_116 : decode cX4_can 116 = .ok (.if_icmp .gt 7, 3) := dk_163 0 7 (dk_at dksX4_can_5 2 rfl rfl)
theorem dX4_can_119 : decode cX4_can 119 = .ok (.iconst 1, 1) := dk_4 (dk_at dksX4_can_5 5 rfl rfl)
theorem dX4_can_120 : decode cX4_can 120 = .ok (.goto 4, 3) := dk_167 0 4 (dk_at dksX4_can_5 6 rfl rfl)
theorem dX4_can_123 : decode cX4_can 123 = .ok (.iconst 0, 1) := dk_3 (dk_at dksX4_can_5 9 rfl rfl)
theorem dX4_can_124 : decode cX4_can 124 = .ok (.ireturn, 1) := dk_172 (dk_at dksX4_can_5 10 rfl rfl)
theorem dX4_can_125 : decode cX4_can 125 = .ok (.aload_n 0, 1) := dk_42 (dk_at dksX4_can_5 11 rfl rfl)
theorem dX4_can_126 : decode cX4_can 126 = .ok (.iload_n 2, 1) := dk_28 (dk_at dksX4_can_5 12 rfl rfl)
theorem dX4_can_127 : decode cX4_can 127 = .ok (.iload_n 3, 1) := dk_29 (dk_at dksX4_can_5 13 rfl rfl)
theorem dX4_can_128 : decode cX4_can 128 = .ok (.invokevirtual 143, 3) := dk_182 0 143 (dk_at dksX4_can_5 14 rfl rfl)
theorem dX4_can_131 : decode cX4_can 131 = .ok (.ireturn, 1) := dk_172 (dk_at dksX4_can_5 17 rfl rfl)
theorem dX4_can_132 : decode cX4_can 132 = .ok (.iconst 1, 1) := dk_4 (dk_at dksX4_can_5 18 rfl rfl)
theorem dX4_can_133 : decode cX4_can 133 = .ok (.ireturn, 1) := dk_172 (dk_at dksX4_can_5 19 rfl rfl)
abbrev cX4_canClaim : ByteArray := prog_33_method_34_code
def yX4_canClaim : MethodName := ⟨RX4, "canClaim", "(III)Z"⟩
def dkwX4_canClaim_2 : List UInt8 := [153, 0, 7, 4, 167, 0, 4, 3, 172]
abbrev dktX4_canClaim_2 : List UInt8 := dkwX4_canClaim_2 ++ []
def dkwX4_canClaim_1 : List UInt8 := [54, 4, 29, 42, 27, 7, 28, 96, 182, 0, 63, 21, 4, 96, 161, 0, 17, 42, 27, 28, 29, 182, 0, 137]
abbrev dktX4_canClaim_1 : List UInt8 := dkwX4_canClaim_1 ++ dktX4_canClaim_2
def dkwX4_canClaim_0 : List UInt8 := [42, 27, 16, 8, 182, 0, 63, 28, 4, 96, 160, 0, 13, 42, 27, 16, 9, 182, 0, 63, 167, 0, 4, 3]
abbrev dktX4_canClaim_0 : List UInt8 := dkwX4_canClaim_0 ++ dktX4_canClaim_1
theorem dksX4_canClaim_0 : cX4_canClaim.data.toList.drop 0 = dktX4_canClaim_0 := by decide +kernel
theorem dksX4_canClaim_1 : cX4_canClaim.data.toList.drop 24 = dktX4_canClaim_1 := dk_seg dksX4_canClaim_0 24 rfl rfl
theorem dksX4_canClaim_2 : cX4_canClaim.data.toList.drop 48 = dktX4_canClaim_2 := dk_seg dksX4_canClaim_1 24 rfl rfl
theorem dX4_canClaim_0 : decode cX4_canClaim 0 = .ok (.aload_n 0, 1) := dk_42 (dk_at dksX4_canClaim_0 0 rfl rfl)
theorem dX4_canClaim_1 : decode cX4_canClaim 1 = .ok (.iload_n 1, 1) := dk_27 (dk_at dksX4_canClaim_0 1 rfl rfl)
theorem dX4_canClaim_2 : decode cX4_canClaim 2 = .ok (.bipush 8, 2) := dk_16 8 (dk_at dksX4_canClaim_0 2 rfl rfl)
theorem dX4_canClaim_4 : decode cX4_canClaim 4 = .ok (.invokevirtual 63, 3) := dk_182 0 63 (dk_at dksX4_canClaim_0 4 rfl rfl)
theorem dX4_canClaim_7 : decode cX4_canClaim 7 = .ok (.iload_n 2, 1) := dk_28 (dk_at dksX4_canClaim_0 7 rfl rfl)
theorem dX4_canClaim_8 : decode cX4_canClaim 8 = .ok (.iconst 1, 1) := dk_4 (dk_at dksX4_canClaim_0 8 rfl rfl)
theorem dX4_canClaim_9 : decode cX4_canClaim 9 = .ok (.iadd, 1) := dk_96 (dk_at dksX4_canClaim_0 9 rfl rfl)
theorem dX4_canClaim_10 : decode cX4_canClaim 10 = .ok (.if_icmp .ne 13, 3) := dk_160 0 13 (dk_at dksX4_canClaim_0 10 rfl rfl)
theorem dX4_canClaim_13 : decode cX4_canClaim 13 = .ok (.aload_n 0, 1) := dk_42 (dk_at dksX4_canClaim_0 13 rfl rfl)
theorem dX4_canClaim_14 : decode cX4_canClaim 14 = .ok (.iload_n 1, 1) := dk_27 (dk_at dksX4_canClaim_0 14 rfl rfl)
theorem dX4_canClaim_15 : decode cX4_canClaim 15 = .ok (.bipush 9, 2) := dk_16 9 (dk_at dksX4_canClaim_0 15 rfl rfl)
theorem dX4_canClaim_17 : decode cX4_canClaim 17 = .ok (.invokevirtual 63, 3) := dk_182 0 63 (dk_at dksX4_canClaim_0 17 rfl rfl)
theorem dX4_canClaim_20 : decode cX4_canClaim 20 = .ok (.goto 4, 3) := dk_167 0 4 (dk_at dksX4_canClaim_0 20 rfl rfl)
theorem dX4_canClaim_23 : decode cX4_canClaim 23 = .ok (.iconst 0, 1) := dk_3 (dk_at dksX4_canClaim_0 23 rfl rfl)
theorem dX4_canClaim_24 : decode cX4_canClaim 24 = .ok (.istore 4, 2) := dk_54 4 (dk_at dksX4_canClaim_1 0 rfl rfl)
theorem dX4_canClaim_26 : decode cX4_canClaim 26 = .ok (.iload_n 3, 1) := dk_29 (dk_at dksX4_canClaim_1 2 rfl rfl)
theorem dX4_canClaim_27 : decode cX4_canClaim 27 = .ok (.aload_n 0, 1) := dk_42 (dk_at dksX4_canClaim_1 3 rfl rfl)
theorem dX4_canClaim_28 : decode cX4_canClaim 28 = .ok (.iload_n 1, 1) := dk_27 (dk_at dksX4_canClaim_1 4 rfl rfl)
theorem dX4_canClaim_29 : decode cX4_canClaim 29 = .ok (.iconst 4, 1) := dk_7 (dk_at dksX4_canClaim_1 5 rfl rfl)
theorem dX4_canClaim_30 : decode cX4_canClaim 30 = .ok (.iload_n 2, 1) := dk_28 (dk_at dksX4_canClaim_1 6 rfl rfl)
theorem dX4_canClaim_31 : decode cX4_canClaim 31 = .ok (.iadd, 1) := dk_96 (dk_at dksX4_canClaim_1 7 rfl rfl)
theorem dX4_canClaim_32 : decode cX4_canClaim 32 = .ok (.invokevirtual 63, 3) := dk_182 0 63 (dk_at dksX4_canClaim_1 8 rfl rfl)
theorem dX4_canClaim_35 : decode cX4_canClaim 35 = .ok (.iload 4, 2) := dk_21 4 (dk_at dksX4_canClaim_1 11 rfl rfl)
theorem dX4_canClaim_37 : decode cX4_canClaim 37 = .ok (.iadd, 1) := dk_96 (dk_at dksX4_canClaim_1 13 rfl rfl)
theorem dX4_canClaim_38 : decode cX4_canClaim 38 = .ok (.if_icmp .lt 17, 3) := dk_161 0 17 (dk_at dksX4_canClaim_1 14 rfl rfl)
theorem dX4_canClaim_41 : decode cX4_canClaim 41 = .ok (.aload_n 0, 1) := dk_42 (dk_at dksX4_canClaim_1 17 rfl rfl)
theorem dX4_canClaim_42 : decode cX4_canClaim 42 = .ok (.iload_n 1, 1) := dk_27 (dk_at dksX4_canClaim_1 18 rfl rfl)
theorem dX4_canClaim_43 : decode cX4_canClaim 43 = .ok (.iload_n 2, 1) := dk_28 (dk_at dksX4_canClaim_1 19 rfl rfl)
theorem dX4_canClaim_44 : decode cX4_canClaim 44 = .ok (.iload_n 3, 1) := dk_29 (dk_at dksX4_canClaim_1 20 rfl rfl)
theorem dX4_canClaim_45 : decode cX4_canClaim 45 = .ok (.invokevirtual 137, 3) := dk_182 0 137 (dk_at dksX4_canClaim_1 21 rfl rfl)
theorem dX4_canClaim_48 : decode cX4_canClaim 48 = .ok (.ifCond .eq 7, 3) := dk_153 0 7 (dk_at dksX4_canClaim_2 0 rfl rfl)
theorem dX4_canClaim_51 : decode cX4_canClaim 51 = .ok (.iconst 1, 1) := dk_4 (dk_at dksX4_canClaim_2 3 rfl rfl)
theorem dX4_canClaim_52 : decode cX4_canClaim 52 = .ok (.goto 4, 3) := dk_167 0 4 (dk_at dksX4_canClaim_2 4 rfl rfl)
theorem dX4_canClaim_55 : decode cX4_canClaim 55 = .ok (.iconst 0, 1) := dk_3 (dk_at dksX4_canClaim_2 7 rfl rfl)
theorem dX4_canClaim_56 : decode cX4_canClaim 56 = .ok (.ireturn, 1) := dk_172 (dk_at dksX4_canClaim_2 8 rfl rfl)
abbrev cX4_isSafeClaim : ByteArray := prog_33_method_33_code
def yX4_isSafeClaim : MethodName := ⟨RX4, "isSafeClaim", "(III)Z"⟩
def dkwX4_isSafeClaim_1 : List UInt8 := [54, 5, 42, 27, 3, 28, 96, 21, 4, 182, 0, 92, 21, 5, 172]
abbrev dktX4_isSafeClaim_1 : List UInt8 := dkwX4_isSafeClaim_1 ++ []
def dkwX4_isSafeClaim_0 : List UInt8 := [42, 27, 3, 28, 96, 182, 0, 63, 54, 4, 42, 27, 3, 28, 96, 29, 182, 0, 92, 42, 182, 0, 99]
abbrev dktX4_isSafeClaim_0 : List UInt8 := dkwX4_isSafeClaim_0 ++ dktX4_isSafeClaim_1
theorem dksX4_isSafeClaim_0 : cX4_isSafeClaim.data.toList.drop 0 = dktX4_isSafeClaim_0 := by decide +kernel
theorem dksX4_isSafeClaim_1 : cX4_isSafeClaim.data.toList.drop 23 = dktX4_isSafeClaim_1 := dk_seg dksX4_isSafeClaim_0 23 rfl rfl
theorem dX4_isSafeClaim_0 : decode cX4_isSafeClaim 0 = .ok (.aload_n 0, 1) := dk_42 (dk_at dksX4_isSafeClaim_0 0 rfl rfl)
theorem dX4_isSafeClaim_1 : decode cX4_isSafeClaim 1 = .ok (.iload_n 1, 1) := dk_27 (dk_at dksX4_isSafeClaim_0 1 rfl rfl)
theorem dX4_isSafeClaim_2 : decode cX4_isSafeClaim 2 = .ok (.iconst 0, 1) := dk_3 (dk_at dksX4_isSafeClaim_0 2 rfl rfl)
theorem dX4_isSafeClaim_3 : decode cX4_isSafeClaim 3 = .ok (.iload_n 2, 1) := dk_28 (dk_at dksX4_isSafeClaim_0 3 rfl rfl)
theorem dX4_isSafeClaim_4 : decode cX4_isSafeClaim 4 = .ok (.iadd, 1) := dk_96 (dk_at dksX4_isSafeClaim_0 4 rfl rfl)
theorem dX4_isSafeClaim_5 : decode cX4_isSafeClaim 5 = .ok (.invokevirtual 63, 3) := dk_182 0 63 (dk_at dksX4_isSafeClaim_0 5 rfl rfl)
theorem dX4_isSafeClaim_8 : decode cX4_isSafeClaim 8 = .ok (.istore 4, 2) := dk_54 4 (dk_at dksX4_isSafeClaim_0 8 rfl rfl)
theorem dX4_isSafeClaim_10 : decode cX4_isSafeClaim 10 = .ok (.aload_n 0, 1) := dk_42 (dk_at dksX4_isSafeClaim_0 10 rfl rfl)
theorem dX4_isSafeClaim_11 : decode cX4_isSafeClaim 11 = .ok (.iload_n 1, 1) := dk_27 (dk_at dksX4_isSafeClaim_0 11 rfl rfl)
theorem dX4_isSafeClaim_12 : decode cX4_isSafeClaim 12 = .ok (.iconst 0, 1) := dk_3 (dk_at dksX4_isSafeClaim_0 12 rfl rfl)
theorem dX4_isSafeClaim_13 : decode cX4_isSafeClaim 13 = .ok (.iload_n 2, 1) := dk_28 (dk_at dksX4_isSafeClaim_0 13 rfl rfl)
theorem dX4_isSafeClaim_14 : decode cX4_isSafeClaim 14 = .ok (.iadd, 1) := dk_96 (dk_at dksX4_isSafeClaim_0 14 rfl rfl)
theorem dX4_isSafeClaim_15 : decode cX4_isSafeClaim 15 = .ok (.iload_n 3, 1) := dk_29 (dk_at dksX4_isSafeClaim_0 15 rfl rfl)
theorem dX4_isSafeClaim_16 : decode cX4_isSafeClaim 16 = .ok (.invokevirtual 92, 3) := dk_182 0 92 (dk_at dksX4_isSafeClaim_0 16 rfl rfl)
theorem dX4_isSafeClaim_19 : decode cX4_isSafeClaim 19 = .ok (.aload_n 0, 1) := dk_42 (dk_at dksX4_isSafeClaim_0 19 rfl rfl)
theorem dX4_isSafeClaim_20 : decode cX4_isSafeClaim 20 = .ok (.invokevirtual 99, 3) := dk_182 0 99 (dk_at dksX4_isSafeClaim_0 20 rfl rfl)
theorem dX4_isSafeClaim_23 : decode cX4_isSafeClaim 23 = .ok (.istore 5, 2) := dk_54 5 (dk_at dksX4_isSafeClaim_1 0 rfl rfl)
theorem dX4_isSafeClaim_25 : decode cX4_isSafeClaim 25 = .ok (.aload_n 0, 1) := dk_42 (dk_at dksX4_isSafeClaim_1 2 rfl rfl)
theorem dX4_isSafeClaim_26 : decode cX4_isSafeClaim 26 = .ok (.iload_n 1, 1) := dk_27 (dk_at dksX4_isSafeClaim_1 3 rfl rfl)
theorem dX4_isSafeClaim_27 : decode cX4_isSafeClaim 27 = .ok (.iconst 0, 1) := dk_3 (dk_at dksX4_isSafeClaim_1 4 rfl rfl)
theorem dX4_isSafeClaim_28 : decode cX4_isSafeClaim 28 = .ok (.iload_n 2, 1) := dk_28 (dk_at dksX4_isSafeClaim_1 5 rfl rfl)
theorem dX4_isSafeClaim_29 : decode cX4_isSafeClaim 29 = .ok (.iadd, 1) := dk_96 (dk_at dksX4_isSafeClaim_1 6 rfl rfl)
theorem dX4_isSafeClaim_30 : decode cX4_isSafeClaim 30 = .ok (.iload 4, 2) := dk_21 4 (dk_at dksX4_isSafeClaim_1 7 rfl rfl)
theorem dX4_isSafeClaim_32 : decode cX4_isSafeClaim 32 = .ok (.invokevirtual 92, 3) := dk_182 0 92 (dk_at dksX4_isSafeClaim_1 9 rfl rfl)
theorem dX4_isSafeClaim_35 : decode cX4_isSafeClaim 35 = .ok (.iload 5, 2) := dk_21 5 (dk_at dksX4_isSafeClaim_1 12 rfl rfl)
theorem dX4_isSafeClaim_37 : decode cX4_isSafeClaim 37 = .ok (.ireturn, 1) := dk_172 (dk_at dksX4_isSafeClaim_1 14 rfl rfl)
abbrev cX4_keeps : ByteArray := prog_33_method_106_code
def yX4_keeps : MethodName := ⟨RX4, "keeps", "()V"⟩
def dkwX4_keeps_2 : List UInt8 := [42, 180, 0, 255, 104, 16, 101, 184, 0, 245, 42, 89, 180, 0, 255, 4, 96, 181, 0, 255, 177]
abbrev dktX4_keeps_2 : List UInt8 := dkwX4_keeps_2 ++ []
def dkwX4_keeps_1 : List UInt8 := [184, 0, 245, 42, 89, 180, 0, 255, 4, 100, 181, 0, 255, 42, 180, 0, 13, 3, 42, 180, 0, 26, 16, 101]
abbrev dktX4_keeps_1 : List UInt8 := dkwX4_keeps_1 ++ dktX4_keeps_2
def dkwX4_keeps_0 : List UInt8 := [42, 180, 0, 255, 16, 8, 160, 0, 30, 42, 180, 0, 26, 16, 101, 42, 180, 0, 26, 3, 17, 2, 195]
abbrev dktX4_keeps_0 : List UInt8 := dkwX4_keeps_0 ++ dktX4_keeps_1
theorem dksX4_keeps_0 : cX4_keeps.data.toList.drop 0 = dktX4_keeps_0 := by decide +kernel
theorem dksX4_keeps_1 : cX4_keeps.data.toList.drop 23 = dktX4_keeps_1 := dk_seg dksX4_keeps_0 23 rfl rfl
theorem dksX4_keeps_2 : cX4_keeps.data.toList.drop 47 = dktX4_keeps_2 := dk_seg dksX4_keeps_1 24 rfl rfl
theorem dX4_keeps_0 : decode cX4_keeps 0 = .ok (.aload_n 0, 1) := dk_42 (dk_at dksX4_keeps_0 0 rfl rfl)
theorem dX4_keeps_1 : decode cX4_keeps 1 = .ok (.getfield 255, 3) := dk_180 0 255 (dk_at dksX4_keeps_0 1 rfl rfl)
theorem dX4_keeps_4 : decode cX4_keeps 4 = .ok (.bipush 8, 2) := dk_16 8 (dk_at dksX4_keeps_0 4 rfl rfl)
theorem dX4_keeps_6 : decode cX4_keeps 6 = .ok (.if_icmp .ne 30, 3) := dk_160 0 30 (dk_at dksX4_keeps_0 6 rfl rfl)
theorem dX4_keeps_9 : decode cX4_keeps 9 = .ok (.aload_n 0, 1) := dk_42 (dk_at dksX4_keeps_0 9 rfl rfl)
theorem dX4_keeps_10 : decode cX4_keeps 10 = .ok (.getfield 26, 3) := dk_180 0 26 (dk_at dksX4_keeps_0 10 rfl rfl)
theorem dX4_keeps_13 : decode cX4_keeps 13 = .ok (.bipush 101, 2) := dk_16 101 (dk_at dksX4_keeps_0 13 rfl rfl)
theorem dX4_keeps_15 : decode cX4_keeps 15 = .ok (.aload_n 0, 1) := dk_42 (dk_at dksX4_keeps_0 15 rfl rfl)
theorem dX4_keeps_16 : decode cX4_keeps 16 = .ok (.getfield 26, 3) := dk_180 0 26 (dk_at dksX4_keeps_0 16 rfl rfl)
theorem dX4_keeps_19 : decode cX4_keeps 19 = .ok (.iconst 0, 1) := dk_3 (dk_at dksX4_keeps_0 19 rfl rfl)
theorem dX4_keeps_20 : decode cX4_keeps 20 = .ok (.sipush 707, 3) := dk_17 2 195 (dk_at dksX4_keeps_0 20 rfl rfl)
theorem dX4_keeps_23 : decode cX4_keeps 23 = .ok (.invokestatic 245, 3) := dk_184 0 245 (dk_at dksX4_keeps_1 0 rfl rfl)
theorem dX4_keeps_26 : decode cX4_keeps 26 = .ok (.aload_n 0, 1) := dk_42 (dk_at dksX4_keeps_1 3 rfl rfl)
theorem dX4_keeps_27 : decode cX4_keeps 27 = .ok (.dup, 1) := dk_89 (dk_at dksX4_keeps_1 4 rfl rfl)
theorem dX4_keeps_28 : decode cX4_keeps 28 = .ok (.getfield 255, 3) := dk_180 0 255 (dk_at dksX4_keeps_1 5 rfl rfl)
theorem dX4_keeps_31 : decode cX4_keeps 31 = .ok (.iconst 1, 1) := dk_4 (dk_at dksX4_keeps_1 8 rfl rfl)
theorem dX4_keeps_32 : decode cX4_keeps 32 = .ok (.isub, 1) := dk_100 (dk_at dksX4_keeps_1 9 rfl rfl)
theorem dX4_keeps_33 : decode cX4_keeps 33 = .ok (.putfield 255, 3) := dk_181 0 255 (dk_at dksX4_keeps_1 10 rfl rfl)
theorem dX4_keeps_36 : decode cX4_keeps 36 = .ok (.aload_n 0, 1) := dk_42 (dk_at dksX4_keeps_1 13 rfl rfl)
theorem dX4_keeps_37 : decode cX4_keeps 37 = .ok (.getfield 13, 3) := dk_180 0 13 (dk_at dksX4_keeps_1 14 rfl rfl)
theorem dX4_keeps_40 : decode cX4_keeps 40 = .ok (.iconst 0, 1) := dk_3 (dk_at dksX4_keeps_1 17 rfl rfl)
theorem dX4_keeps_41 : decode cX4_keeps 41 = .ok (.aload_n 0, 1) := dk_42 (dk_at dksX4_keeps_1 18 rfl rfl)
theorem dX4_keeps_42 : decode cX4_keeps 42 = .ok (.getfield 26, 3) := dk_180 0 26 (dk_at dksX4_keeps_1 19 rfl rfl)
theorem dX4_keeps_45 : decode cX4_keeps 45 = .ok (.bipush 101, 2) := dk_16 101 (dk_at dksX4_keeps_1 22 rfl rfl)
theorem dX4_keeps_47 : decode cX4_keeps 47 = .ok (.aload_n 0, 1) := dk_42 (dk_at dksX4_keeps_2 0 rfl rfl)
theorem dX4_keeps_48 : decode cX4_keeps 48 = .ok (.getfield 255, 3) := dk_180 0 255 (dk_at dksX4_keeps_2 1 rfl rfl)
theorem dX4_keeps_51 : decode cX4_keeps 51 = .ok (.imul, 1) := dk_104 (dk_at dksX4_keeps_2 4 rfl rfl)
theorem dX4_keeps_52 : decode cX4_keeps 52 = .ok (.bipush 101, 2) := dk_16 101 (dk_at dksX4_keeps_2 5 rfl rfl)
theorem dX4_keeps_54 : decode cX4_keeps 54 = .ok (.invokestatic 245, 3) := dk_184 0 245 (dk_at dksX4_keeps_2 7 rfl rfl)
theorem dX4_keeps_57 : decode cX4_keeps 57 = .ok (.aload_n 0, 1) := dk_42 (dk_at dksX4_keeps_2 10 rfl rfl)
theorem dX4_keeps_58 : decode cX4_keeps 58 = .ok (.dup, 1) := dk_89 (dk_at dksX4_keeps_2 11 rfl rfl)
theorem dX4_keeps_59 : decode cX4_keeps 59 = .ok (.getfield 255, 3) := dk_180 0 255 (dk_at dksX4_keeps_2 12 rfl rfl)
theorem dX4_keeps_62 : decode cX4_keeps 62 = .ok (.iconst 1, 1) := dk_4 (dk_at dksX4_keeps_2 15 rfl rfl)
theorem dX4_keeps_63 : decode cX4_keeps 63 = .ok (.iadd, 1) := dk_96 (dk_at dksX4_keeps_2 16 rfl rfl)
theorem dX4_keeps_64 : decode cX4_keeps 64 = .ok (.putfield 255, 3) := dk_181 0 255 (dk_at dksX4_keeps_2 17 rfl rfl)
theorem dX4_keeps_67 : decode cX4_keeps 67 = .ok (.return_, 1) := dk_177 (dk_at dksX4_keeps_2 20 rfl rfl)
abbrev cX4_does : ByteArray := prog_33_method_42_code
def yX4_does : MethodName := ⟨RX4, "does", "(IIII)I"⟩
def dkwX4_does_5 : List UInt8 := [180, 0, 13, 16, 9, 28, 96, 46, 172]
abbrev dktX4_does_5 : List UInt8 := dkwX4_does_5 ++ []
def dkwX4_does_4 : List UInt8 := [46, 29, 96, 79, 42, 182, 0, 146, 172, 42, 180, 0, 13, 16, 9, 28, 96, 92, 46, 29, 100, 79, 42]
abbrev dktX4_does_4 : List UInt8 := dkwX4_does_4 ++ dktX4_does_5
def dkwX4_does_3 : List UInt8 := [42, 28, 182, 0, 159, 172, 42, 28, 29, 21, 4, 182, 0, 162, 172, 42, 180, 0, 13, 16, 9, 28, 96, 92]
abbrev dktX4_does_3 : List UInt8 := dkwX4_does_3 ++ dktX4_does_4
def dkwX4_does_2 : List UInt8 := [42, 28, 29, 21, 4, 182, 0, 149, 172, 42, 28, 29, 21, 4, 182, 0, 153, 172, 42, 28, 182, 0, 156, 172]
abbrev dktX4_does_2 : List UInt8 := dkwX4_does_2 ++ dktX4_does_3
def dkwX4_does_1 : List UInt8 := [170, 0, 0, 0, 0, 0, 96, 0, 0, 0, 0, 0, 0, 0, 5, 0, 0, 0, 39, 0, 0, 0, 48, 0, 0, 0, 57, 0, 0, 0, 63, 0, 0, 0, 69, 0, 0, 0, 78]
abbrev dktX4_does_1 : List UInt8 := dkwX4_does_1 ++ dktX4_does_2
def dkwX4_does_0 : List UInt8 := [27]
abbrev dktX4_does_0 : List UInt8 := dkwX4_does_0 ++ dktX4_does_1
theorem dksX4_does_0 : cX4_does.data.toList.drop 0 = dktX4_does_0 := by decide +kernel
theorem dksX4_does_1 : cX4_does.data.toList.drop 1 = dktX4_does_1 := dk_seg dksX4_does_0 1 rfl rfl
theorem dksX4_does_2 : cX4_does.data.toList.drop 40 = dktX4_does_2 := dk_seg dksX4_does_1 39 rfl rfl
theorem dksX4_does_3 : cX4_does.data.toList.drop 64 = dktX4_does_3 := dk_seg dksX4_does_2 24 rfl rfl
theorem dksX4_does_4 : cX4_does.data.toList.drop 88 = dktX4_does_4 := dk_seg dksX4_does_3 24 rfl rfl
theorem dksX4_does_5 : cX4_does.data.toList.drop 111 = dktX4_does_5 := dk_seg dksX4_does_4 23 rfl rfl
theorem dX4_does_0 : decode cX4_does 0 = .ok (.iload_n 1, 1) := dk_27 (dk_at dksX4_does_0 0 rfl rfl)
theorem dX4_does_1 : decode cX4_does 1 = .ok (.tableswitch 96 0 5 #[39, 48, 57, 63, 69, 78], 39) := by decide +kernel
theorem dX4_does_40 : decode cX4_does 40 = .ok (.aload_n 0, 1) := dk_42 (dk_at dksX4_does_2 0 rfl rfl)
theorem dX4_does_41 : decode cX4_does 41 = .ok (.iload_n 2, 1) := dk_28 (dk_at dksX4_does_2 1 rfl rfl)
theorem dX4_does_42 : decode cX4_does 42 = .ok (.iload_n 3, 1) := dk_29 (dk_at dksX4_does_2 2 rfl rfl)
theorem dX4_does_43 : decode cX4_does 43 = .ok (.iload 4, 2) := dk_21 4 (dk_at dksX4_does_2 3 rfl rfl)
theorem dX4_does_45 : decode cX4_does 45 = .ok (.invokevirtual 149, 3) := dk_182 0 149 (dk_at dksX4_does_2 5 rfl rfl)
theorem dX4_does_48 : decode cX4_does 48 = .ok (.ireturn, 1) := dk_172 (dk_at dksX4_does_2 8 rfl rfl)
theorem dX4_does_49 : decode cX4_does 49 = .ok (.aload_n 0, 1) := dk_42 (dk_at dksX4_does_2 9 rfl rfl)
theorem dX4_does_50 : decode cX4_does 50 = .ok (.iload_n 2, 1) := dk_28 (dk_at dksX4_does_2 10 rfl rfl)
theorem dX4_does_51 : decode cX4_does 51 = .ok (.iload_n 3, 1) := dk_29 (dk_at dksX4_does_2 11 rfl rfl)
theorem dX4_does_52 : decode cX4_does 52 = .ok (.iload 4, 2) := dk_21 4 (dk_at dksX4_does_2 12 rfl rfl)
theorem dX4_does_54 : decode cX4_does 54 = .ok (.invokevirtual 153, 3) := dk_182 0 153 (dk_at dksX4_does_2 14 rfl rfl)
theorem dX4_does_57 : decode cX4_does 57 = .ok (.ireturn, 1) := dk_172 (dk_at dksX4_does_2 17 rfl rfl)
theorem dX4_does_58 : decode cX4_does 58 = .ok (.aload_n 0, 1) := dk_42 (dk_at dksX4_does_2 18 rfl rfl)
theorem dX4_does_59 : decode cX4_does 59 = .ok (.iload_n 2, 1) := dk_28 (dk_at dksX4_does_2 19 rfl rfl)
theorem dX4_does_60 : decode cX4_does 60 = .ok (.invokevirtual 156, 3) := dk_182 0 156 (dk_at dksX4_does_2 20 rfl rfl)
theorem dX4_does_63 : decode cX4_does 63 = .ok (.ireturn, 1) := dk_172 (dk_at dksX4_does_2 23 rfl rfl)
theorem dX4_does_64 : decode cX4_does 64 = .ok (.aload_n 0, 1) := dk_42 (dk_at dksX4_does_3 0 rfl rfl)
theorem dX4_does_65 : decode cX4_does 65 = .ok (.iload_n 2, 1) := dk_28 (dk_at dksX4_does_3 1 rfl rfl)
theorem dX4_does_66 : decode cX4_does 66 = .ok (.invokevirtual 159, 3) := dk_182 0 159 (dk_at dksX4_does_3 2 rfl rfl)
theorem dX4_does_69 : decode cX4_does 69 = .ok (.ireturn, 1) := dk_172 (dk_at dksX4_does_3 5 rfl rfl)
theorem dX4_does_70 : decode cX4_does 70 = .ok (.aload_n 0, 1) := dk_42 (dk_at dksX4_does_3 6 rfl rfl)
theorem dX4_does_71 : decode cX4_does 71 = .ok (.iload_n 2, 1) := dk_28 (dk_at dksX4_does_3 7 rfl rfl)
theorem dX4_does_72 : decode cX4_does 72 = .ok (.iload_n 3, 1) := dk_29 (dk_at dksX4_does_3 8 rfl rfl)
theorem dX4_does_73 : decode cX4_does 73 = .ok (.iload 4, 2) := dk_21 4 (dk_at dksX4_does_3 9 rfl rfl)
theorem dX4_does_75 : decode cX4_does 75 = .ok (.invokevirtual 162, 3) := dk_182 0 162 (dk_at dksX4_does_3 11 rfl rfl)
theorem dX4_does_78 : decode cX4_does 78 = .ok (.ireturn, 1) := dk_172 (dk_at dksX4_does_3 14 rfl rfl)
theorem dX4_does_79 : decode cX4_does 79 = .ok (.aload_n 0, 1) := dk_42 (dk_at dksX4_does_3 15 rfl rfl)
theorem dX4_does_80 : decode cX4_does 80 = .ok (.getfield 13, 3) := dk_180 0 13 (dk_at dksX4_does_3 16 rfl rfl)
theorem dX4_does_83 : decode cX4_does 83 = .ok (.bipush 9, 2) := dk_16 9 (dk_at dksX4_does_3 19 rfl rfl)
theorem dX4_does_85 : decode cX4_does 85 = .ok (.iload_n 2, 1) := dk_28 (dk_at dksX4_does_3 21 rfl rfl)
theorem dX4_does_86 : decode cX4_does 86 = .ok (.iadd, 1) := dk_96 (dk_at dksX4_does_3 22 rfl rfl)
theorem dX4_does_87 : decode cX4_does 87 = .ok (.dup2, 1) := dk_92 (dk_at dksX4_does_3 23 rfl rfl)
theorem dX4_does_88 : decode cX4_does 88 = .ok (.iaload, 1) := dk_46 (dk_at dksX4_does_4 0 rfl rfl)
theorem dX4_does_89 : decode cX4_does 89 = .ok (.iload_n 3, 1) := dk_29 (dk_at dksX4_does_4 1 rfl rfl)
theorem dX4_does_90 : decode cX4_does 90 = .ok (.iadd, 1) := dk_96 (dk_at dksX4_does_4 2 rfl rfl)
theorem dX4_does_91 : decode cX4_does 91 = .ok (.iastore, 1) := dk_79 (dk_at dksX4_does_4 3 rfl rfl)
theorem dX4_does_92 : decode cX4_does 92 = .ok (.aload_n 0, 1) := dk_42 (dk_at dksX4_does_4 4 rfl rfl)
theorem dX4_does_93 : decode cX4_does 93 = .ok (.invokevirtual 146, 3) := dk_182 0 146 (dk_at dksX4_does_4 5 rfl rfl)
theorem dX4_does_96 : decode cX4_does 96 = .ok (.ireturn, 1) := dk_172 (dk_at dksX4_does_4 8 rfl rfl)
theorem dX4_does_97 : decode cX4_does 97 = .ok (.aload_n 0, 1) := dk_42 (dk_at dksX4_does_4 9 rfl rfl)
theorem dX4_does_98 : decode cX4_does 98 = .ok (.getfield 13, 3) := dk_180 0 13 (dk_at dksX4_does_4 10 rfl rfl)
theorem dX4_does_101 : decode cX4_does 101 = .ok (.bipush 9, 2) := dk_16 9 (dk_at dksX4_does_4 13 rfl rfl)
theorem dX4_does_103 : decode cX4_does 103 = .ok (.iload_n 2, 1) := dk_28 (dk_at dksX4_does_4 15 rfl rfl)
theorem dX4_does_104 : decode cX4_does 104 = .ok (.iadd, 1) := dk_96 (dk_at dksX4_does_4 16 rfl rfl)
theorem dX4_does_105 : decode cX4_does 105 = .ok (.dup2, 1) := dk_92 (dk_at dksX4_does_4 17 rfl rfl)
theorem dX4_does_106 : decode cX4_does 106 = .ok (.iaload, 1) := dk_46 (dk_at dksX4_does_4 18 rfl rfl)
theorem dX4_does_107 : decode cX4_does 107 = .ok (.iload_n 3, 1) := dk_29 (dk_at dksX4_does_4 19 rfl rfl)
theorem dX4_does_108 : decode cX4_does 108 = .ok (.isub, 1) := dk_100 (dk_at dksX4_does_4 20 rfl rfl)
theorem dX4_does_109 : decode cX4_does 109 = .ok (.iastore, 1) := dk_79 (dk_at dksX4_does_4 21 rfl rfl)
theorem dX4_does_110 : decode cX4_does 110 = .ok (.aload_n 0, 1) := dk_42 (dk_at dksX4_does_4 22 rfl rfl)
theorem dX4_does_111 : decode cX4_does 111 = .ok (.getfield 13, 3) := dk_180 0 13 (dk_at dksX4_does_5 0 rfl rfl)
theorem dX4_does_114 : decode cX4_does 114 = .ok (.bipush 9, 2) := dk_16 9 (dk_at dksX4_does_5 3 rfl rfl)
theorem dX4_does_116 : decode cX4_does 116 = .ok (.iload_n 2, 1) := dk_28 (dk_at dksX4_does_5 5 rfl rfl)
theorem dX4_does_117 : decode cX4_does 117 = .ok (.iadd, 1) := dk_96 (dk_at dksX4_does_5 6 rfl rfl)
theorem dX4_does_118 : decode cX4_does 118 = .ok (.iaload, 1) := dk_46 (dk_at dksX4_does_5 7 rfl rfl)
theorem dX4_does_119 : decode cX4_does 119 = .ok (.ireturn, 1) := dk_172 (dk_at dksX4_does_5 8 rfl rfl)
abbrev cX4_requests : ByteArray := prog_33_method_37_code
def yX4_requests : MethodName := ⟨RX4, "requests", "(III)I"⟩
def dkwX4_requests_4 : List UInt8 := [96, 79, 42, 182, 0, 118, 172]
abbrev dktX4_requests_4 : List UInt8 := dkwX4_requests_4 ++ []
def dkwX4_requests_3 : List UInt8 := [182, 0, 92, 42, 27, 16, 10, 42, 180, 0, 13, 5, 46, 182, 0, 92, 42, 180, 0, 13, 5, 92, 46, 4]
abbrev dktX4_requests_3 : List UInt8 := dkwX4_requests_3 ++ dktX4_requests_4
def dkwX4_requests_2 : List UInt8 := [167, 0, 4, 3, 184, 0, 111, 96, 79, 42, 27, 16, 8, 28, 4, 96, 182, 0, 92, 42, 27, 16, 9, 29]
abbrev dktX4_requests_2 : List UInt8 := dkwX4_requests_2 ++ dktX4_requests_3
def dkwX4_requests_1 : List UInt8 := [92, 46, 4, 96, 79, 42, 180, 0, 13, 16, 6, 92, 46, 42, 28, 182, 0, 70, 29, 161, 0, 7, 4]
abbrev dktX4_requests_1 : List UInt8 := dkwX4_requests_1 ++ dktX4_requests_2
def dkwX4_requests_0 : List UInt8 := [42, 27, 28, 29, 182, 0, 124, 153, 0, 12, 42, 27, 28, 29, 182, 0, 134, 3, 172, 42, 180, 0, 13, 8]
abbrev dktX4_requests_0 : List UInt8 := dkwX4_requests_0 ++ dktX4_requests_1
theorem dksX4_requests_0 : cX4_requests.data.toList.drop 0 = dktX4_requests_0 := by decide +kernel
theorem dksX4_requests_1 : cX4_requests.data.toList.drop 24 = dktX4_requests_1 := dk_seg dksX4_requests_0 24 rfl rfl
theorem dksX4_requests_2 : cX4_requests.data.toList.drop 47 = dktX4_requests_2 := dk_seg dksX4_requests_1 23 rfl rfl
theorem dksX4_requests_3 : cX4_requests.data.toList.drop 71 = dktX4_requests_3 := dk_seg dksX4_requests_2 24 rfl rfl
theorem dksX4_requests_4 : cX4_requests.data.toList.drop 95 = dktX4_requests_4 := dk_seg dksX4_requests_3 24 rfl rfl
theorem dX4_requests_0 : decode cX4_requests 0 = .ok (.aload_n 0, 1) := dk_42 (dk_at dksX4_requests_0 0 rfl rfl)
theorem dX4_requests_1 : decode cX4_requests 1 = .ok (.iload_n 1, 1) := dk_27 (dk_at dksX4_requests_0 1 rfl rfl)
theorem dX4_requests_2 : decode cX4_requests 2 = .ok (.iload_n 2, 1) := dk_28 (dk_at dksX4_requests_0 2 rfl rfl)
theorem dX4_requests_3 : decode cX4_requests 3 = .ok (.iload_n 3, 1) := dk_29 (dk_at dksX4_requests_0 3 rfl rfl)
theorem dX4_requests_4 : decode cX4_requests 4 = .ok (.invokevirtual 124, 3) := dk_182 0 124 (dk_at dksX4_requests_0 4 rfl rfl)
theorem dX4_requests_7 : decode cX4_requests 7 = .ok (.ifCond .eq 12, 3) := dk_153 0 12 (dk_at dksX4_requests_0 7 rfl rfl)
theorem dX4_requests_10 : decode cX4_requests 10 = .ok (.aload_n 0, 1) := dk_42 (dk_at dksX4_requests_0 10 rfl rfl)
theorem dX4_requests_11 : decode cX4_requests 11 = .ok (.iload_n 1, 1) := dk_27 (dk_at dksX4_requests_0 11 rfl rfl)
theorem dX4_requests_12 : decode cX4_requests 12 = .ok (.iload_n 2, 1) := dk_28 (dk_at dksX4_requests_0 12 rfl rfl)
theorem dX4_requests_13 : decode cX4_requests 13 = .ok (.iload_n 3, 1) := dk_29 (dk_at dksX4_requests_0 13 rfl rfl)
theorem dX4_requests_14 : decode cX4_requests 14 = .ok (.invokevirtual 134, 3) := dk_182 0 134 (dk_at dksX4_requests_0 14 rfl rfl)
theorem dX4_requests_17 : decode cX4_requests 17 = .ok (.iconst 0, 1) := dk_3 (dk_at dksX4_requests_0 17 rfl rfl)
theorem dX4_requests_18 : decode cX4_requests 18 = .ok (.ireturn, 1) := dk_172 (dk_at dksX4_requests_0 18 rfl rfl)
theorem dX4_requests_19 : decode cX4_requests 19 = .ok (.aload_n 0, 1) := dk_42 (dk_at dksX4_requests_0 19 rfl rfl)
theorem dX4_requests_20 : decode cX4_requests 20 = .ok (.getfield 13, 3) := dk_180 0 13 (dk_at dksX4_requests_0 20 rfl rfl)
theorem dX4_requests_23 : decode cX4_requests 23 = .ok (.iconst 5, 1) := dk_8 (dk_at dksX4_requests_0 23 rfl rfl)
theorem dX4_requests_24 : decode cX4_requests 24 = .ok (.dup2, 1) := dk_92 (dk_at dksX4_requests_1 0 rfl rfl)
theorem dX4_requests_25 : decode cX4_requests 25 = .ok (.iaload, 1) := dk_46 (dk_at dksX4_requests_1 1 rfl rfl)
theorem dX4_requests_26 : decode cX4_requests 26 = .ok (.iconst 1, 1) := dk_4 (dk_at dksX4_requests_1 2 rfl rfl)
theorem dX4_requests_27 : decode cX4_requests 27 = .ok (.iadd, 1) := dk_96 (dk_at dksX4_requests_1 3 rfl rfl)
theorem dX4_requests_28 : decode cX4_requests 28 = .ok (.iastore, 1) := dk_79 (dk_at dksX4_requests_1 4 rfl rfl)
theorem dX4_requests_29 : decode cX4_requests 29 = .ok (.aload_n 0, 1) := dk_42 (dk_at dksX4_requests_1 5 rfl rfl)
theorem dX4_requests_30 : decode cX4_requests 30 = .ok (.getfield 13, 3) := dk_180 0 13 (dk_at dksX4_requests_1 6 rfl rfl)
theorem dX4_requests_33 : decode cX4_requests 33 = .ok (.bipush 6, 2) := dk_16 6 (dk_at dksX4_requests_1 9 rfl rfl)
theorem dX4_requests_35 : decode cX4_requests 35 = .ok (.dup2, 1) := dk_92 (dk_at dksX4_requests_1 11 rfl rfl)
theorem dX4_requests_36 : decode cX4_requests 36 = .ok (.iaload, 1) := dk_46 (dk_at dksX4_requests_1 12 rfl rfl)
theorem dX4_requests_37 : decode cX4_requests 37 = .ok (.aload_n 0, 1) := dk_42 (dk_at dksX4_requests_1 13 rfl rfl)
theorem dX4_requests_38 : decode cX4_requests 38 = .ok (.iload_n 2, 1) := dk_28 (dk_at dksX4_requests_1 14 rfl rfl)
theorem dX4_requests_39 : decode cX4_requests 39 = .ok (.invokevirtual 70, 3) := dk_182 0 70 (dk_at dksX4_requests_1 15 rfl rfl)
theorem dX4_requests_42 : decode cX4_requests 42 = .ok (.iload_n 3, 1) := dk_29 (dk_at dksX4_requests_1 18 rfl rfl)
theorem dX4_requests_43 : decode cX4_requests 43 = .ok (.if_icmp .lt 7, 3) := dk_161 0 7 (dk_at dksX4_requests_1 19 rfl rfl)
theorem dX4_requests_46 : decode cX4_requests 46 = .ok (.iconst 1, 1) := dk_4 (dk_at dksX4_requests_1 22 rfl rfl)
theorem dX4_requests_47 : decode cX4_requests 47 = .ok (.goto 4, 3) := dk_167 0 4 (dk_at dksX4_requests_2 0 rfl rfl)
theorem dX4_requests_50 : decode cX4_requests 50 = .ok (.iconst 0, 1) := dk_3 (dk_at dksX4_requests_2 3 rfl rfl)
theorem dX4_requests_51 : decode cX4_requests 51 = .ok (.invokestatic 111, 3) := dk_184 0 111 (dk_at dksX4_requests_2 4 rfl rfl)
theorem dX4_requests_54 : decode cX4_requests 54 = .ok (.iadd, 1) := dk_96 (dk_at dksX4_requests_2 7 rfl rfl)
theorem dX4_requests_55 : decode cX4_requests 55 = .ok (.iastore, 1) := dk_79 (dk_at dksX4_requests_2 8 rfl rfl)
theorem dX4_requests_56 : decode cX4_requests 56 = .ok (.aload_n 0, 1) := dk_42 (dk_at dksX4_requests_2 9 rfl rfl)
theorem dX4_requests_57 : decode cX4_requests 57 = .ok (.iload_n 1, 1) := dk_27 (dk_at dksX4_requests_2 10 rfl rfl)
theorem dX4_requests_58 : decode cX4_requests 58 = .ok (.bipush 8, 2) := dk_16 8 (dk_at dksX4_requests_2 11 rfl rfl)
theorem dX4_requests_60 : decode cX4_requests 60 = .ok (.iload_n 2, 1) := dk_28 (dk_at dksX4_requests_2 13 rfl rfl)
theorem dX4_requests_61 : decode cX4_requests 61 = .ok (.iconst 1, 1) := dk_4 (dk_at dksX4_requests_2 14 rfl rfl)
theorem dX4_requests_62 : decode cX4_requests 62 = .ok (.iadd, 1) := dk_96 (dk_at dksX4_requests_2 15 rfl rfl)
theorem dX4_requests_63 : decode cX4_requests 63 = .ok (.invokevirtual 92, 3) := dk_182 0 92 (dk_at dksX4_requests_2 16 rfl rfl)
theorem dX4_requests_66 : decode cX4_requests 66 = .ok (.aload_n 0, 1) := dk_42 (dk_at dksX4_requests_2 19 rfl rfl)
theorem dX4_requests_67 : decode cX4_requests 67 = .ok (.iload_n 1, 1) := dk_27 (dk_at dksX4_requests_2 20 rfl rfl)
theorem dX4_requests_68 : decode cX4_requests 68 = .ok (.bipush 9, 2) := dk_16 9 (dk_at dksX4_requests_2 21 rfl rfl)
theorem dX4_requests_70 : decode cX4_requests 70 = .ok (.iload_n 3, 1) := dk_29 (dk_at dksX4_requests_2 23 rfl rfl)
theorem dX4_requests_71 : decode cX4_requests 71 = .ok (.invokevirtual 92, 3) := dk_182 0 92 (dk_at dksX4_requests_3 0 rfl rfl)
theorem dX4_requests_74 : decode cX4_requests 74 = .ok (.aload_n 0, 1) := dk_42 (dk_at dksX4_requests_3 3 rfl rfl)
theorem dX4_requests_75 : decode cX4_requests 75 = .ok (.iload_n 1, 1) := dk_27 (dk_at dksX4_requests_3 4 rfl rfl)
theorem dX4_requests_76 : decode cX4_requests 76 = .ok (.bipush 10, 2) := dk_16 10 (dk_at dksX4_requests_3 5 rfl rfl)
theorem dX4_requests_78 : decode cX4_requests 78 = .ok (.aload_n 0, 1) := dk_42 (dk_at dksX4_requests_3 7 rfl rfl)
theorem dX4_requests_79 : decode cX4_requests 79 = .ok (.getfield 13, 3) := dk_180 0 13 (dk_at dksX4_requests_3 8 rfl rfl)
theorem dX4_requests_82 : decode cX4_requests 82 = .ok (.iconst 2, 1) := dk_5 (dk_at dksX4_requests_3 11 rfl rfl)
theorem dX4_requests_83 : decode cX4_requests 83 = .ok (.iaload, 1) := dk_46 (dk_at dksX4_requests_3 12 rfl rfl)
theorem dX4_requests_84 : decode cX4_requests 84 = .ok (.invokevirtual 92, 3) := dk_182 0 92 (dk_at dksX4_requests_3 13 rfl rfl)
theorem dX4_requests_87 : decode cX4_requests 87 = .ok (.aload_n 0, 1) := dk_42 (dk_at dksX4_requests_3 16 rfl rfl)
theorem dX4_requests_88 : decode cX4_requests 88 = .ok (.getfield 13, 3) := dk_180 0 13 (dk_at dksX4_requests_3 17 rfl rfl)
theorem dX4_requests_91 : decode cX4_requests 91 = .ok (.iconst 2, 1) := dk_5 (dk_at dksX4_requests_3 20 rfl rfl)
theorem dX4_requests_92 : decode cX4_requests 92 = .ok (.dup2, 1) := dk_92 (dk_at dksX4_requests_3 21 rfl rfl)
theorem dX4_requests_93 : decode cX4_requests 93 = .ok (.iaload, 1) := dk_46 (dk_at dksX4_requests_3 22 rfl rfl)
theorem dX4_requests_94 : decode cX4_requests 94 = .ok (.iconst 1, 1) := dk_4 (dk_at dksX4_requests_3 23 rfl rfl)
theorem dX4_requests_95 : decode cX4_requests 95 = .ok (.iadd, 1) := dk_96 (dk_at dksX4_requests_4 0 rfl rfl)
theorem dX4_requests_96 : decode cX4_requests 96 = .ok (.iastore, 1) := dk_79 (dk_at dksX4_requests_4 1 rfl rfl)
theorem dX4_requests_97 : decode cX4_requests 97 = .ok (.aload_n 0, 1) := dk_42 (dk_at dksX4_requests_4 2 rfl rfl)
theorem dX4_requests_98 : decode cX4_requests 98 = .ok (.invokevirtual 118, 3) := dk_182 0 118 (dk_at dksX4_requests_4 3 rfl rfl)
theorem dX4_requests_101 : decode cX4_requests 101 = .ok (.ireturn, 1) := dk_172 (dk_at dksX4_requests_4 6 rfl rfl)
abbrev cX4_releases : ByteArray := prog_33_method_38_code
def yX4_releases : MethodName := ⟨RX4, "releases", "(III)I"⟩
def dkwX4_releases_0 : List UInt8 := [42, 27, 28, 29, 116, 182, 0, 96, 42, 180, 0, 13, 16, 8, 92, 46, 29, 96, 79, 42, 182, 0, 146, 172]
abbrev dktX4_releases_0 : List UInt8 := dkwX4_releases_0 ++ []
theorem dksX4_releases_0 : cX4_releases.data.toList.drop 0 = dktX4_releases_0 := by decide +kernel
theorem dX4_releases_0 : decode cX4_releases 0 = .ok (.aload_n 0, 1) := dk_42 (dk_at dksX4_releases_0 0 rfl rfl)
theorem dX4_releases_1 : decode cX4_releases 1 = .ok (.iload_n 1, 1) := dk_27 (dk_at dksX4_releases_0 1 rfl rfl)
theorem dX4_releases_2 : decode cX4_releases 2 = .ok (.iload_n 2, 1) := dk_28 (dk_at dksX4_releases_0 2 rfl rfl)
theorem dX4_releases_3 : decode cX4_releases 3 = .ok (.iload_n 3, 1) := dk_29 (dk_at dksX4_releases_0 3 rfl rfl)
theorem dX4_releases_4 : decode cX4_releases 4 = .ok (.ineg, 1) := dk_116 (dk_at dksX4_releases_0 4 rfl rfl)
theorem dX4_releases_5 : decode cX4_releases 5 = .ok (.invokevirtual 96, 3) := dk_182 0 96 (dk_at dksX4_releases_0 5 rfl rfl)
theorem dX4_releases_8 : decode cX4_releases 8 = .ok (.aload_n 0, 1) := dk_42 (dk_at dksX4_releases_0 8 rfl rfl)
theorem dX4_releases_9 : decode cX4_releases 9 = .ok (.getfield 13, 3) := dk_180 0 13 (dk_at dksX4_releases_0 9 rfl rfl)
theorem dX4_releases_12 : decode cX4_releases 12 = .ok (.bipush 8, 2) := dk_16 8 (dk_at dksX4_releases_0 12 rfl rfl)
theorem dX4_releases_14 : decode cX4_releases 14 = .ok (.dup2, 1) := dk_92 (dk_at dksX4_releases_0 14 rfl rfl)
theorem dX4_releases_15 : decode cX4_releases 15 = .ok (.iaload, 1) := dk_46 (dk_at dksX4_releases_0 15 rfl rfl)
theorem dX4_releases_16 : decode cX4_releases 16 = .ok (.iload_n 3, 1) := dk_29 (dk_at dksX4_releases_0 16 rfl rfl)
theorem dX4_releases_17 : decode cX4_releases 17 = .ok (.iadd, 1) := dk_96 (dk_at dksX4_releases_0 17 rfl rfl)
theorem dX4_releases_18 : decode cX4_releases 18 = .ok (.iastore, 1) := dk_79 (dk_at dksX4_releases_0 18 rfl rfl)
theorem dX4_releases_19 : decode cX4_releases 19 = .ok (.aload_n 0, 1) := dk_42 (dk_at dksX4_releases_0 19 rfl rfl)
theorem dX4_releases_20 : decode cX4_releases 20 = .ok (.invokevirtual 146, 3) := dk_182 0 146 (dk_at dksX4_releases_0 20 rfl rfl)
theorem dX4_releases_23 : decode cX4_releases 23 = .ok (.ireturn, 1) := dk_172 (dk_at dksX4_releases_0 23 rfl rfl)
abbrev cX4_withdraws : ByteArray := prog_33_method_40_code
def yX4_withdraws : MethodName := ⟨RX4, "withdraws", "(I)I"⟩
def dkwX4_withdraws_0 : List UInt8 := [42, 27, 182, 0, 130, 42, 182, 0, 146, 61, 42, 182, 0, 118, 172]
abbrev dktX4_withdraws_0 : List UInt8 := dkwX4_withdraws_0 ++ []
theorem dksX4_withdraws_0 : cX4_withdraws.data.toList.drop 0 = dktX4_withdraws_0 := by decide +kernel
theorem dX4_withdraws_0 : decode cX4_withdraws 0 = .ok (.aload_n 0, 1) := dk_42 (dk_at dksX4_withdraws_0 0 rfl rfl)
theorem dX4_withdraws_1 : decode cX4_withdraws 1 = .ok (.iload_n 1, 1) := dk_27 (dk_at dksX4_withdraws_0 1 rfl rfl)
theorem dX4_withdraws_2 : decode cX4_withdraws 2 = .ok (.invokevirtual 130, 3) := dk_182 0 130 (dk_at dksX4_withdraws_0 2 rfl rfl)
theorem dX4_withdraws_5 : decode cX4_withdraws 5 = .ok (.aload_n 0, 1) := dk_42 (dk_at dksX4_withdraws_0 5 rfl rfl)
theorem dX4_withdraws_6 : decode cX4_withdraws 6 = .ok (.invokevirtual 146, 3) := dk_182 0 146 (dk_at dksX4_withdraws_0 6 rfl rfl)
theorem dX4_withdraws_9 : decode cX4_withdraws 9 = .ok (.istore_n 2, 1) := dk_61 (dk_at dksX4_withdraws_0 9 rfl rfl)
theorem dX4_withdraws_10 : decode cX4_withdraws 10 = .ok (.aload_n 0, 1) := dk_42 (dk_at dksX4_withdraws_0 10 rfl rfl)
theorem dX4_withdraws_11 : decode cX4_withdraws 11 = .ok (.invokevirtual 118, 3) := dk_182 0 118 (dk_at dksX4_withdraws_0 11 rfl rfl)
theorem dX4_withdraws_14 : decode cX4_withdraws 14 = .ok (.ireturn, 1) := dk_172 (dk_at dksX4_withdraws_0 14 rfl rfl)
abbrev cX4_changes : ByteArray := prog_33_method_41_code
def yX4_changes : MethodName := ⟨RX4, "changes", "(III)I"⟩
def dkwX4_changes_1 : List UInt8 := [54, 5, 21, 4, 172]
abbrev dktX4_changes_1 : List UInt8 := dkwX4_changes_1 ++ []
def dkwX4_changes_0 : List UInt8 := [42, 27, 3, 28, 96, 182, 0, 63, 54, 4, 42, 27, 3, 28, 96, 29, 182, 0, 92, 42, 182, 0, 146]
abbrev dktX4_changes_0 : List UInt8 := dkwX4_changes_0 ++ dktX4_changes_1
theorem dksX4_changes_0 : cX4_changes.data.toList.drop 0 = dktX4_changes_0 := by decide +kernel
theorem dksX4_changes_1 : cX4_changes.data.toList.drop 23 = dktX4_changes_1 := dk_seg dksX4_changes_0 23 rfl rfl
theorem dX4_changes_0 : decode cX4_changes 0 = .ok (.aload_n 0, 1) := dk_42 (dk_at dksX4_changes_0 0 rfl rfl)
theorem dX4_changes_1 : decode cX4_changes 1 = .ok (.iload_n 1, 1) := dk_27 (dk_at dksX4_changes_0 1 rfl rfl)
theorem dX4_changes_2 : decode cX4_changes 2 = .ok (.iconst 0, 1) := dk_3 (dk_at dksX4_changes_0 2 rfl rfl)
theorem dX4_changes_3 : decode cX4_changes 3 = .ok (.iload_n 2, 1) := dk_28 (dk_at dksX4_changes_0 3 rfl rfl)
theorem dX4_changes_4 : decode cX4_changes 4 = .ok (.iadd, 1) := dk_96 (dk_at dksX4_changes_0 4 rfl rfl)
theorem dX4_changes_5 : decode cX4_changes 5 = .ok (.invokevirtual 63, 3) := dk_182 0 63 (dk_at dksX4_changes_0 5 rfl rfl)
theorem dX4_changes_8 : decode cX4_changes 8 = .ok (.istore 4, 2) := dk_54 4 (dk_at dksX4_changes_0 8 rfl rfl)
theorem dX4_changes_10 : decode cX4_changes 10 = .ok (.aload_n 0, 1) := dk_42 (dk_at dksX4_changes_0 10 rfl rfl)
theorem dX4_changes_11 : decode cX4_changes 11 = .ok (.iload_n 1, 1) := dk_27 (dk_at dksX4_changes_0 11 rfl rfl)
theorem dX4_changes_12 : decode cX4_changes 12 = .ok (.iconst 0, 1) := dk_3 (dk_at dksX4_changes_0 12 rfl rfl)
theorem dX4_changes_13 : decode cX4_changes 13 = .ok (.iload_n 2, 1) := dk_28 (dk_at dksX4_changes_0 13 rfl rfl)
theorem dX4_changes_14 : decode cX4_changes 14 = .ok (.iadd, 1) := dk_96 (dk_at dksX4_changes_0 14 rfl rfl)
theorem dX4_changes_15 : decode cX4_changes 15 = .ok (.iload_n 3, 1) := dk_29 (dk_at dksX4_changes_0 15 rfl rfl)
theorem dX4_changes_16 : decode cX4_changes 16 = .ok (.invokevirtual 92, 3) := dk_182 0 92 (dk_at dksX4_changes_0 16 rfl rfl)
theorem dX4_changes_19 : decode cX4_changes 19 = .ok (.aload_n 0, 1) := dk_42 (dk_at dksX4_changes_0 19 rfl rfl)
theorem dX4_changes_20 : decode cX4_changes 20 = .ok (.invokevirtual 146, 3) := dk_182 0 146 (dk_at dksX4_changes_0 20 rfl rfl)
theorem dX4_changes_23 : decode cX4_changes 23 = .ok (.istore 5, 2) := dk_54 5 (dk_at dksX4_changes_1 0 rfl rfl)
theorem dX4_changes_25 : decode cX4_changes 25 = .ok (.iload 4, 2) := dk_21 4 (dk_at dksX4_changes_1 2 rfl rfl)
theorem dX4_changes_27 : decode cX4_changes 27 = .ok (.ireturn, 1) := dk_172 (dk_at dksX4_changes_1 4 rfl rfl)
abbrev cX4_release : ByteArray := prog_33_method_109_code
def yX4_release : MethodName := ⟨RX4, "release", "(III)I"⟩
def dkwX4_release_1 : List UInt8 := [182, 0, 241, 153, 0, 7, 3, 167, 0, 12, 42, 4, 27, 28, 29, 6, 182, 1, 53, 172]
abbrev dktX4_release_1 : List UInt8 := dkwX4_release_1 ++ []
def dkwX4_release_0 : List UInt8 := [42, 3, 181, 0, 1, 42, 27, 28, 182, 1, 15, 154, 0, 18, 42, 29, 4, 16, 20, 184, 0, 209, 5]
abbrev dktX4_release_0 : List UInt8 := dkwX4_release_0 ++ dktX4_release_1
theorem dksX4_release_0 : cX4_release.data.toList.drop 0 = dktX4_release_0 := by decide +kernel
theorem dksX4_release_1 : cX4_release.data.toList.drop 23 = dktX4_release_1 := dk_seg dksX4_release_0 23 rfl rfl
theorem dX4_release_0 : decode cX4_release 0 = .ok (.aload_n 0, 1) := dk_42 (dk_at dksX4_release_0 0 rfl rfl)
theorem dX4_release_1 : decode cX4_release 1 = .ok (.iconst 0, 1) := dk_3 (dk_at dksX4_release_0 1 rfl rfl)
theorem dX4_release_2 : decode cX4_release 2 = .ok (.putfield 1, 3) := dk_181 0 1 (dk_at dksX4_release_0 2 rfl rfl)
theorem dX4_release_5 : decode cX4_release 5 = .ok (.aload_n 0, 1) := dk_42 (dk_at dksX4_release_0 5 rfl rfl)
theorem dX4_release_6 : decode cX4_release 6 = .ok (.iload_n 1, 1) := dk_27 (dk_at dksX4_release_0 6 rfl rfl)
theorem dX4_release_7 : decode cX4_release 7 = .ok (.iload_n 2, 1) := dk_28 (dk_at dksX4_release_0 7 rfl rfl)
theorem dX4_release_8 : decode cX4_release 8 = .ok (.invokevirtual 271, 3) := dk_182 1 15 (dk_at dksX4_release_0 8 rfl rfl)
theorem dX4_release_11 : decode cX4_release 11 = .ok (.ifCond .ne 18, 3) := dk_154 0 18 (dk_at dksX4_release_0 11 rfl rfl)
theorem dX4_release_14 : decode cX4_release 14 = .ok (.aload_n 0, 1) := dk_42 (dk_at dksX4_release_0 14 rfl rfl)
theorem dX4_release_15 : decode cX4_release 15 = .ok (.iload_n 3, 1) := dk_29 (dk_at dksX4_release_0 15 rfl rfl)
theorem dX4_release_16 : decode cX4_release 16 = .ok (.iconst 1, 1) := dk_4 (dk_at dksX4_release_0 16 rfl rfl)
theorem dX4_release_17 : decode cX4_release 17 = .ok (.bipush 20, 2) := dk_16 20 (dk_at dksX4_release_0 17 rfl rfl)
theorem dX4_release_19 : decode cX4_release 19 = .ok (.invokestatic 209, 3) := dk_184 0 209 (dk_at dksX4_release_0 19 rfl rfl)
theorem dX4_release_22 : decode cX4_release 22 = .ok (.iconst 2, 1) := dk_5 (dk_at dksX4_release_0 22 rfl rfl)
theorem dX4_release_23 : decode cX4_release 23 = .ok (.invokevirtual 241, 3) := dk_182 0 241 (dk_at dksX4_release_1 0 rfl rfl)
theorem dX4_release_26 : decode cX4_release 26 = .ok (.ifCond .eq 7, 3) := dk_153 0 7 (dk_at dksX4_release_1 3 rfl rfl)
theorem dX4_release_29 : decode cX4_release 29 = .ok (.iconst 0, 1) := dk_3 (dk_at dksX4_release_1 6 rfl rfl)
theorem dX4_release_30 : decode cX4_release 30 = .ok (.goto 12, 3) := dk_167 0 12 (dk_at dksX4_release_1 7 rfl rfl)
theorem dX4_release_33 : decode cX4_release 33 = .ok (.aload_n 0, 1) := dk_42 (dk_at dksX4_release_1 10 rfl rfl)
theorem dX4_release_34 : decode cX4_release 34 = .ok (.iconst 1, 1) := dk_4 (dk_at dksX4_release_1 11 rfl rfl)
theorem dX4_release_35 : decode cX4_release 35 = .ok (.iload_n 1, 1) := dk_27 (dk_at dksX4_release_1 12 rfl rfl)
theorem dX4_release_36 : decode cX4_release 36 = .ok (.iload_n 2, 1) := dk_28 (dk_at dksX4_release_1 13 rfl rfl)
theorem dX4_release_37 : decode cX4_release 37 = .ok (.iload_n 3, 1) := dk_29 (dk_at dksX4_release_1 14 rfl rfl)
theorem dX4_release_38 : decode cX4_release 38 = .ok (.iconst 3, 1) := dk_6 (dk_at dksX4_release_1 15 rfl rfl)
theorem dX4_release_39 : decode cX4_release 39 = .ok (.invokevirtual 309, 3) := dk_182 1 53 (dk_at dksX4_release_1 16 rfl rfl)
theorem dX4_release_42 : decode cX4_release 42 = .ok (.ireturn, 1) := dk_172 (dk_at dksX4_release_1 19 rfl rfl)
abbrev cX4_finish : ByteArray := prog_33_method_110_code
def yX4_finish : MethodName := ⟨RX4, "finish", "(I)I"⟩
def dkwX4_finish_1 : List UInt8 := [182, 1, 53, 172]
abbrev dktX4_finish_1 : List UInt8 := dkwX4_finish_1 ++ []
def dkwX4_finish_0 : List UInt8 := [42, 3, 181, 0, 1, 42, 27, 182, 1, 12, 153, 0, 7, 3, 167, 0, 12, 42, 5, 27, 3, 3, 5]
abbrev dktX4_finish_0 : List UInt8 := dkwX4_finish_0 ++ dktX4_finish_1
theorem dksX4_finish_0 : cX4_finish.data.toList.drop 0 = dktX4_finish_0 := by decide +kernel
theorem dksX4_finish_1 : cX4_finish.data.toList.drop 23 = dktX4_finish_1 := dk_seg dksX4_finish_0 23 rfl rfl
theorem dX4_finish_0 : decode cX4_finish 0 = .ok (.aload_n 0, 1) := dk_42 (dk_at dksX4_finish_0 0 rfl rfl)
theorem dX4_finish_1 : decode cX4_finish 1 = .ok (.iconst 0, 1) := dk_3 (dk_at dksX4_finish_0 1 rfl rfl)
theorem dX4_finish_2 : decode cX4_finish 2 = .ok (.putfield 1, 3) := dk_181 0 1 (dk_at dksX4_finish_0 2 rfl rfl)
theorem dX4_finish_5 : decode cX4_finish 5 = .ok (.aload_n 0, 1) := dk_42 (dk_at dksX4_finish_0 5 rfl rfl)
theorem dX4_finish_6 : decode cX4_finish 6 = .ok (.iload_n 1, 1) := dk_27 (dk_at dksX4_finish_0 6 rfl rfl)
theorem dX4_finish_7 : decode cX4_finish 7 = .ok (.invokevirtual 268, 3) := dk_182 1 12 (dk_at dksX4_finish_0 7 rfl rfl)
theorem dX4_finish_10 : decode cX4_finish 10 = .ok (.ifCond .eq 7, 3) := dk_153 0 7 (dk_at dksX4_finish_0 10 rfl rfl)
theorem dX4_finish_13 : decode cX4_finish 13 = .ok (.iconst 0, 1) := dk_3 (dk_at dksX4_finish_0 13 rfl rfl)
theorem dX4_finish_14 : decode cX4_finish 14 = .ok (.goto 12, 3) := dk_167 0 12 (dk_at dksX4_finish_0 14 rfl rfl)
theorem dX4_finish_17 : decode cX4_finish 17 = .ok (.aload_n 0, 1) := dk_42 (dk_at dksX4_finish_0 17 rfl rfl)
theorem dX4_finish_18 : decode cX4_finish 18 = .ok (.iconst 2, 1) := dk_5 (dk_at dksX4_finish_0 18 rfl rfl)
theorem dX4_finish_19 : decode cX4_finish 19 = .ok (.iload_n 1, 1) := dk_27 (dk_at dksX4_finish_0 19 rfl rfl)
theorem dX4_finish_20 : decode cX4_finish 20 = .ok (.iconst 0, 1) := dk_3 (dk_at dksX4_finish_0 20 rfl rfl)
theorem dX4_finish_21 : decode cX4_finish 21 = .ok (.iconst 0, 1) := dk_3 (dk_at dksX4_finish_0 21 rfl rfl)
theorem dX4_finish_22 : decode cX4_finish 22 = .ok (.iconst 2, 1) := dk_5 (dk_at dksX4_finish_0 22 rfl rfl)
theorem dX4_finish_23 : decode cX4_finish 23 = .ok (.invokevirtual 309, 3) := dk_182 1 53 (dk_at dksX4_finish_1 0 rfl rfl)
theorem dX4_finish_26 : decode cX4_finish 26 = .ok (.ireturn, 1) := dk_172 (dk_at dksX4_finish_1 3 rfl rfl)
abbrev cX4_withdraw : ByteArray := prog_33_method_111_code
def yX4_withdraw : MethodName := ⟨RX4, "withdraw", "(I)I"⟩
def dkwX4_withdraw_1 : List UInt8 := [182, 1, 53, 172]
abbrev dktX4_withdraw_1 : List UInt8 := dkwX4_withdraw_1 ++ []
def dkwX4_withdraw_0 : List UInt8 := [42, 3, 181, 0, 1, 42, 27, 182, 1, 12, 153, 0, 7, 3, 167, 0, 12, 42, 6, 27, 3, 3, 5]
abbrev dktX4_withdraw_0 : List UInt8 := dkwX4_withdraw_0 ++ dktX4_withdraw_1
theorem dksX4_withdraw_0 : cX4_withdraw.data.toList.drop 0 = dktX4_withdraw_0 := by decide +kernel
theorem dksX4_withdraw_1 : cX4_withdraw.data.toList.drop 23 = dktX4_withdraw_1 := dk_seg dksX4_withdraw_0 23 rfl rfl
theorem dX4_withdraw_0 : decode cX4_withdraw 0 = .ok (.aload_n 0, 1) := dk_42 (dk_at dksX4_withdraw_0 0 rfl rfl)
theorem dX4_withdraw_1 : decode cX4_withdraw 1 = .ok (.iconst 0, 1) := dk_3 (dk_at dksX4_withdraw_0 1 rfl rfl)
theorem dX4_withdraw_2 : decode cX4_withdraw 2 = .ok (.putfield 1, 3) := dk_181 0 1 (dk_at dksX4_withdraw_0 2 rfl rfl)
theorem dX4_withdraw_5 : decode cX4_withdraw 5 = .ok (.aload_n 0, 1) := dk_42 (dk_at dksX4_withdraw_0 5 rfl rfl)
theorem dX4_withdraw_6 : decode cX4_withdraw 6 = .ok (.iload_n 1, 1) := dk_27 (dk_at dksX4_withdraw_0 6 rfl rfl)
theorem dX4_withdraw_7 : decode cX4_withdraw 7 = .ok (.invokevirtual 268, 3) := dk_182 1 12 (dk_at dksX4_withdraw_0 7 rfl rfl)
theorem dX4_withdraw_10 : decode cX4_withdraw 10 = .ok (.ifCond .eq 7, 3) := dk_153 0 7 (dk_at dksX4_withdraw_0 10 rfl rfl)
theorem dX4_withdraw_13 : decode cX4_withdraw 13 = .ok (.iconst 0, 1) := dk_3 (dk_at dksX4_withdraw_0 13 rfl rfl)
theorem dX4_withdraw_14 : decode cX4_withdraw 14 = .ok (.goto 12, 3) := dk_167 0 12 (dk_at dksX4_withdraw_0 14 rfl rfl)
theorem dX4_withdraw_17 : decode cX4_withdraw 17 = .ok (.aload_n 0, 1) := dk_42 (dk_at dksX4_withdraw_0 17 rfl rfl)
theorem dX4_withdraw_18 : decode cX4_withdraw 18 = .ok (.iconst 3, 1) := dk_6 (dk_at dksX4_withdraw_0 18 rfl rfl)
theorem dX4_withdraw_19 : decode cX4_withdraw 19 = .ok (.iload_n 1, 1) := dk_27 (dk_at dksX4_withdraw_0 19 rfl rfl)
theorem dX4_withdraw_20 : decode cX4_withdraw 20 = .ok (.iconst 0, 1) := dk_3 (dk_at dksX4_withdraw_0 20 rfl rfl)
theorem dX4_withdraw_21 : decode cX4_withdraw 21 = .ok (.iconst 0, 1) := dk_3 (dk_at dksX4_withdraw_0 21 rfl rfl)
theorem dX4_withdraw_22 : decode cX4_withdraw 22 = .ok (.iconst 2, 1) := dk_5 (dk_at dksX4_withdraw_0 22 rfl rfl)
theorem dX4_withdraw_23 : decode cX4_withdraw 23 = .ok (.invokevirtual 309, 3) := dk_182 1 53 (dk_at dksX4_withdraw_1 0 rfl rfl)
theorem dX4_withdraw_26 : decode cX4_withdraw 26 = .ok (.ireturn, 1) := dk_172 (dk_at dksX4_withdraw_1 3 rfl rfl)
abbrev cX4_changeClaim : ByteArray := prog_33_method_112_code
def yX4_changeClaim : MethodName := ⟨RX4, "changeClaim", "(III)I"⟩
def dkwX4_changeClaim_2 : List UInt8 := [182, 1, 53, 172]
abbrev dktX4_changeClaim_2 : List UInt8 := dkwX4_changeClaim_2 ++ []
def dkwX4_changeClaim_1 : List UInt8 := [96, 46, 184, 0, 209, 5, 182, 0, 241, 153, 0, 7, 3, 167, 0, 12, 42, 7, 27, 28, 29, 6]
abbrev dktX4_changeClaim_1 : List UInt8 := dkwX4_changeClaim_1 ++ dktX4_changeClaim_2
def dkwX4_changeClaim_0 : List UInt8 := [42, 3, 181, 0, 1, 42, 27, 28, 182, 1, 15, 154, 0, 25, 42, 29, 3, 42, 180, 0, 13, 16, 9, 28]
abbrev dktX4_changeClaim_0 : List UInt8 := dkwX4_changeClaim_0 ++ dktX4_changeClaim_1
theorem dksX4_changeClaim_0 : cX4_changeClaim.data.toList.drop 0 = dktX4_changeClaim_0 := by decide +kernel
theorem dksX4_changeClaim_1 : cX4_changeClaim.data.toList.drop 24 = dktX4_changeClaim_1 := dk_seg dksX4_changeClaim_0 24 rfl rfl
theorem dksX4_changeClaim_2 : cX4_changeClaim.data.toList.drop 46 = dktX4_changeClaim_2 := dk_seg dksX4_changeClaim_1 22 rfl rfl
theorem dX4_changeClaim_0 : decode cX4_changeClaim 0 = .ok (.aload_n 0, 1) := dk_42 (dk_at dksX4_changeClaim_0 0 rfl rfl)
theorem dX4_changeClaim_1 : decode cX4_changeClaim 1 = .ok (.iconst 0, 1) := dk_3 (dk_at dksX4_changeClaim_0 1 rfl rfl)
theorem dX4_changeClaim_2 : decode cX4_changeClaim 2 = .ok (.putfield 1, 3) := dk_181 0 1 (dk_at dksX4_changeClaim_0 2 rfl rfl)
theorem dX4_changeClaim_5 : decode cX4_changeClaim 5 = .ok (.aload_n 0, 1) := dk_42 (dk_at dksX4_changeClaim_0 5 rfl rfl)
theorem dX4_changeClaim_6 : decode cX4_changeClaim 6 = .ok (.iload_n 1, 1) := dk_27 (dk_at dksX4_changeClaim_0 6 rfl rfl)
theorem dX4_changeClaim_7 : decode cX4_changeClaim 7 = .ok (.iload_n 2, 1) := dk_28 (dk_at dksX4_changeClaim_0 7 rfl rfl)
theorem dX4_changeClaim_8 : decode cX4_changeClaim 8 = .ok (.invokevirtual 271, 3) := dk_182 1 15 (dk_at dksX4_changeClaim_0 8 rfl rfl)
theorem dX4_changeClaim_11 : decode cX4_changeClaim 11 = .ok (.ifCond .ne 25, 3) := dk_154 0 25 (dk_at dksX4_changeClaim_0 11 rfl rfl)
theorem dX4_changeClaim_14 : decode cX4_changeClaim 14 = .ok (.aload_n 0, 1) := dk_42 (dk_at dksX4_changeClaim_0 14 rfl rfl)
theorem dX4_changeClaim_15 : decode cX4_changeClaim 15 = .ok (.iload_n 3, 1) := dk_29 (dk_at dksX4_changeClaim_0 15 rfl rfl)
theorem dX4_changeClaim_16 : decode cX4_changeClaim 16 = .ok (.iconst 0, 1) := dk_3 (dk_at dksX4_changeClaim_0 16 rfl rfl)
theorem dX4_changeClaim_17 : decode cX4_changeClaim 17 = .ok (.aload_n 0, 1) := dk_42 (dk_at dksX4_changeClaim_0 17 rfl rfl)
theorem dX4_changeClaim_18 : decode cX4_changeClaim 18 = .ok (.getfield 13, 3) := dk_180 0 13 (dk_at dksX4_changeClaim_0 18 rfl rfl)
theorem dX4_changeClaim_21 : decode cX4_changeClaim 21 = .ok (.bipush 9, 2) := dk_16 9 (dk_at dksX4_changeClaim_0 21 rfl rfl)
theorem dX4_changeClaim_23 : decode cX4_changeClaim 23 = .ok (.iload_n 2, 1) := dk_28 (dk_at dksX4_changeClaim_0 23 rfl rfl)
theorem dX4_changeClaim_24 : decode cX4_changeClaim 24 = .ok (.iadd, 1) := dk_96 (dk_at dksX4_changeClaim_1 0 rfl rfl)
theorem dX4_changeClaim_25 : decode cX4_changeClaim 25 = .ok (.iaload, 1) := dk_46 (dk_at dksX4_changeClaim_1 1 rfl rfl)
theorem dX4_changeClaim_26 : decode cX4_changeClaim 26 = .ok (.invokestatic 209, 3) := dk_184 0 209 (dk_at dksX4_changeClaim_1 2 rfl rfl)
theorem dX4_changeClaim_29 : decode cX4_changeClaim 29 = .ok (.iconst 2, 1) := dk_5 (dk_at dksX4_changeClaim_1 5 rfl rfl)
theorem dX4_changeClaim_30 : decode cX4_changeClaim 30 = .ok (.invokevirtual 241, 3) := dk_182 0 241 (dk_at dksX4_changeClaim_1 6 rfl rfl)
theorem dX4_changeClaim_33 : decode cX4_changeClaim 33 = .ok (.ifCond .eq 7, 3) := dk_153 0 7 (dk_at dksX4_changeClaim_1 9 rfl rfl)
theorem dX4_changeClaim_36 : decode cX4_changeClaim 36 = .ok (.iconst 0, 1) := dk_3 (dk_at dksX4_changeClaim_1 12 rfl rfl)
theorem dX4_changeClaim_37 : decode cX4_changeClaim 37 = .ok (.goto 12, 3) := dk_167 0 12 (dk_at dksX4_changeClaim_1 13 rfl rfl)
theorem dX4_changeClaim_40 : decode cX4_changeClaim 40 = .ok (.aload_n 0, 1) := dk_42 (dk_at dksX4_changeClaim_1 16 rfl rfl)
theorem dX4_changeClaim_41 : decode cX4_changeClaim 41 = .ok (.iconst 4, 1) := dk_7 (dk_at dksX4_changeClaim_1 17 rfl rfl)
theorem dX4_changeClaim_42 : decode cX4_changeClaim 42 = .ok (.iload_n 1, 1) := dk_27 (dk_at dksX4_changeClaim_1 18 rfl rfl)
theorem dX4_changeClaim_43 : decode cX4_changeClaim 43 = .ok (.iload_n 2, 1) := dk_28 (dk_at dksX4_changeClaim_1 19 rfl rfl)
theorem dX4_changeClaim_44 : decode cX4_changeClaim 44 = .ok (.iload_n 3, 1) := dk_29 (dk_at dksX4_changeClaim_1 20 rfl rfl)
theorem dX4_changeClaim_45 : decode cX4_changeClaim 45 = .ok (.iconst 3, 1) := dk_6 (dk_at dksX4_changeClaim_1 21 rfl rfl)
theorem dX4_changeClaim_46 : decode cX4_changeClaim 46 = .ok (.invokevirtual 309, 3) := dk_182 1 53 (dk_at dksX4_changeClaim_2 0 rfl rfl)
theorem dX4_changeClaim_49 : decode cX4_changeClaim 49 = .ok (.ireturn, 1) := dk_172 (dk_at dksX4_changeClaim_2 3 rfl rfl)
abbrev cX4_addPrinters : ByteArray := prog_33_method_113_code
def yX4_addPrinters : MethodName := ⟨RX4, "addPrinters", "(II)I"⟩
def dkwX4_addPrinters_1 : List UInt8 := [182, 0, 241, 153, 0, 7, 3, 167, 0, 12, 42, 8, 27, 28, 3, 6, 182, 1, 53, 172]
abbrev dktX4_addPrinters_1 : List UInt8 := dkwX4_addPrinters_1 ++ []
def dkwX4_addPrinters_0 : List UInt8 := [42, 3, 181, 0, 1, 42, 27, 182, 1, 6, 154, 0, 18, 42, 28, 4, 16, 20, 184, 0, 209, 5]
abbrev dktX4_addPrinters_0 : List UInt8 := dkwX4_addPrinters_0 ++ dktX4_addPrinters_1
theorem dksX4_addPrinters_0 : cX4_addPrinters.data.toList.drop 0 = dktX4_addPrinters_0 := by decide +kernel
theorem dksX4_addPrinters_1 : cX4_addPrinters.data.toList.drop 22 = dktX4_addPrinters_1 := dk_seg dksX4_addPrinters_0 22 rfl rfl
theorem dX4_addPrinters_0 : decode cX4_addPrinters 0 = .ok (.aload_n 0, 1) := dk_42 (dk_at dksX4_addPrinters_0 0 rfl rfl)
theorem dX4_addPrinters_1 : decode cX4_addPrinters 1 = .ok (.iconst 0, 1) := dk_3 (dk_at dksX4_addPrinters_0 1 rfl rfl)
theorem dX4_addPrinters_2 : decode cX4_addPrinters 2 = .ok (.putfield 1, 3) := dk_181 0 1 (dk_at dksX4_addPrinters_0 2 rfl rfl)
theorem dX4_addPrinters_5 : decode cX4_addPrinters 5 = .ok (.aload_n 0, 1) := dk_42 (dk_at dksX4_addPrinters_0 5 rfl rfl)
theorem dX4_addPrinters_6 : decode cX4_addPrinters 6 = .ok (.iload_n 1, 1) := dk_27 (dk_at dksX4_addPrinters_0 6 rfl rfl)
theorem dX4_addPrinters_7 : decode cX4_addPrinters 7 = .ok (.invokevirtual 262, 3) := dk_182 1 6 (dk_at dksX4_addPrinters_0 7 rfl rfl)
theorem dX4_addPrinters_10 : decode cX4_addPrinters 10 = .ok (.ifCond .ne 18, 3) := dk_154 0 18 (dk_at dksX4_addPrinters_0 10 rfl rfl)
theorem dX4_addPrinters_13 : decode cX4_addPrinters 13 = .ok (.aload_n 0, 1) := dk_42 (dk_at dksX4_addPrinters_0 13 rfl rfl)
theorem dX4_addPrinters_14 : decode cX4_addPrinters 14 = .ok (.iload_n 2, 1) := dk_28 (dk_at dksX4_addPrinters_0 14 rfl rfl)
theorem dX4_addPrinters_15 : decode cX4_addPrinters 15 = .ok (.iconst 1, 1) := dk_4 (dk_at dksX4_addPrinters_0 15 rfl rfl)
theorem dX4_addPrinters_16 : decode cX4_addPrinters 16 = .ok (.bipush 20, 2) := dk_16 20 (dk_at dksX4_addPrinters_0 16 rfl rfl)
theorem dX4_addPrinters_18 : decode cX4_addPrinters 18 = .ok (.invokestatic 209, 3) := dk_184 0 209 (dk_at dksX4_addPrinters_0 18 rfl rfl)
theorem dX4_addPrinters_21 : decode cX4_addPrinters 21 = .ok (.iconst 2, 1) := dk_5 (dk_at dksX4_addPrinters_0 21 rfl rfl)
theorem dX4_addPrinters_22 : decode cX4_addPrinters 22 = .ok (.invokevirtual 241, 3) := dk_182 0 241 (dk_at dksX4_addPrinters_1 0 rfl rfl)
theorem dX4_addPrinters_25 : decode cX4_addPrinters 25 = .ok (.ifCond .eq 7, 3) := dk_153 0 7 (dk_at dksX4_addPrinters_1 3 rfl rfl)
theorem dX4_addPrinters_28 : decode cX4_addPrinters 28 = .ok (.iconst 0, 1) := dk_3 (dk_at dksX4_addPrinters_1 6 rfl rfl)
theorem dX4_addPrinters_29 : decode cX4_addPrinters 29 = .ok (.goto 12, 3) := dk_167 0 12 (dk_at dksX4_addPrinters_1 7 rfl rfl)
theorem dX4_addPrinters_32 : decode cX4_addPrinters 32 = .ok (.aload_n 0, 1) := dk_42 (dk_at dksX4_addPrinters_1 10 rfl rfl)
theorem dX4_addPrinters_33 : decode cX4_addPrinters 33 = .ok (.iconst 5, 1) := dk_8 (dk_at dksX4_addPrinters_1 11 rfl rfl)
theorem dX4_addPrinters_34 : decode cX4_addPrinters 34 = .ok (.iload_n 1, 1) := dk_27 (dk_at dksX4_addPrinters_1 12 rfl rfl)
theorem dX4_addPrinters_35 : decode cX4_addPrinters 35 = .ok (.iload_n 2, 1) := dk_28 (dk_at dksX4_addPrinters_1 13 rfl rfl)
theorem dX4_addPrinters_36 : decode cX4_addPrinters 36 = .ok (.iconst 0, 1) := dk_3 (dk_at dksX4_addPrinters_1 14 rfl rfl)
theorem dX4_addPrinters_37 : decode cX4_addPrinters 37 = .ok (.iconst 3, 1) := dk_6 (dk_at dksX4_addPrinters_1 15 rfl rfl)
theorem dX4_addPrinters_38 : decode cX4_addPrinters 38 = .ok (.invokevirtual 309, 3) := dk_182 1 53 (dk_at dksX4_addPrinters_1 16 rfl rfl)
theorem dX4_addPrinters_41 : decode cX4_addPrinters 41 = .ok (.ireturn, 1) := dk_172 (dk_at dksX4_addPrinters_1 19 rfl rfl)
abbrev cX4_retirePrinters : ByteArray := prog_33_method_114_code
def yX4_retirePrinters : MethodName := ⟨RX4, "retirePrinters", "(II)I"⟩
def dkwX4_retirePrinters_1 : List UInt8 := [182, 0, 241, 153, 0, 7, 3, 167, 0, 13, 42, 16, 6, 27, 28, 3, 6, 182, 1, 53, 172]
abbrev dktX4_retirePrinters_1 : List UInt8 := dkwX4_retirePrinters_1 ++ []
def dkwX4_retirePrinters_0 : List UInt8 := [42, 3, 181, 0, 1, 42, 27, 182, 1, 6, 154, 0, 18, 42, 28, 4, 16, 20, 184, 0, 209, 5]
abbrev dktX4_retirePrinters_0 : List UInt8 := dkwX4_retirePrinters_0 ++ dktX4_retirePrinters_1
theorem dksX4_retirePrinters_0 : cX4_retirePrinters.data.toList.drop 0 = dktX4_retirePrinters_0 := by decide +kernel
theorem dksX4_retirePrinters_1 : cX4_retirePrinters.data.toList.drop 22 = dktX4_retirePrinters_1 := dk_seg dksX4_retirePrinters_0 22 rfl rfl
theorem dX4_retirePrinters_0 : decode cX4_retirePrinters 0 = .ok (.aload_n 0, 1) := dk_42 (dk_at dksX4_retirePrinters_0 0 rfl rfl)
theorem dX4_retirePrinters_1 : decode cX4_retirePrinters 1 = .ok (.iconst 0, 1) := dk_3 (dk_at dksX4_retirePrinters_0 1 rfl rfl)
theorem dX4_retirePrinters_2 : decode cX4_retirePrinters 2 = .ok (.putfield 1, 3) := dk_181 0 1 (dk_at dksX4_retirePrinters_0 2 rfl rfl)
theorem dX4_retirePrinters_5 : decode cX4_retirePrinters 5 = .ok (.aload_n 0, 1) := dk_42 (dk_at dksX4_retirePrinters_0 5 rfl rfl)
theorem dX4_retirePrinters_6 : decode cX4_retirePrinters 6 = .ok (.iload_n 1, 1) := dk_27 (dk_at dksX4_retirePrinters_0 6 rfl rfl)
theorem dX4_retirePrinters_7 : decode cX4_retirePrinters 7 = .ok (.invokevirtual 262, 3) := dk_182 1 6 (dk_at dksX4_retirePrinters_0 7 rfl rfl)
theorem dX4_retirePrinters_10 : decode cX4_retirePrinters 10 = .ok (.ifCond .ne 18, 3) := dk_154 0 18 (dk_at dksX4_retirePrinters_0 10 rfl rfl)
theorem dX4_retirePrinters_13 : decode cX4_retirePrinters 13 = .ok (.aload_n 0, 1) := dk_42 (dk_at dksX4_retirePrinters_0 13 rfl rfl)
theorem dX4_retirePrinters_14 : decode cX4_retirePrinters 14 = .ok (.iload_n 2, 1) := dk_28 (dk_at dksX4_retirePrinters_0 14 rfl rfl)
theorem dX4_retirePrinters_15 : decode cX4_retirePrinters 15 = .ok (.iconst 1, 1) := dk_4 (dk_at dksX4_retirePrinters_0 15 rfl rfl)
theorem dX4_retirePrinters_16 : decode cX4_retirePrinters 16 = .ok (.bipush 20, 2) := dk_16 20 (dk_at dksX4_retirePrinters_0 16 rfl rfl)
theorem dX4_retirePrinters_18 : decode cX4_retirePrinters 18 = .ok (.invokestatic 209, 3) := dk_184 0 209 (dk_at dksX4_retirePrinters_0 18 rfl rfl)
theorem dX4_retirePrinters_21 : decode cX4_retirePrinters 21 = .ok (.iconst 2, 1) := dk_5 (dk_at dksX4_retirePrinters_0 21 rfl rfl)
theorem dX4_retirePrinters_22 : decode cX4_retirePrinters 22 = .ok (.invokevirtual 241, 3) := dk_182 0 241 (dk_at dksX4_retirePrinters_1 0 rfl rfl)
theorem dX4_retirePrinters_25 : decode cX4_retirePrinters 25 = .ok (.ifCond .eq 7, 3) := dk_153 0 7 (dk_at dksX4_retirePrinters_1 3 rfl rfl)
theorem dX4_retirePrinters_28 : decode cX4_retirePrinters 28 = .ok (.iconst 0, 1) := dk_3 (dk_at dksX4_retirePrinters_1 6 rfl rfl)
theorem dX4_retirePrinters_29 : decode cX4_retirePrinters 29 = .ok (.goto 13, 3) := dk_167 0 13 (dk_at dksX4_retirePrinters_1 7 rfl rfl)
theorem dX4_retirePrinters_32 : decode cX4_retirePrinters 32 = .ok (.aload_n 0, 1) := dk_42 (dk_at dksX4_retirePrinters_1 10 rfl rfl)
theorem dX4_retirePrinters_33 : decode cX4_retirePrinters 33 = .ok (.bipush 6, 2) := dk_16 6 (dk_at dksX4_retirePrinters_1 11 rfl rfl)
theorem dX4_retirePrinters_35 : decode cX4_retirePrinters 35 = .ok (.iload_n 1, 1) := dk_27 (dk_at dksX4_retirePrinters_1 13 rfl rfl)
theorem dX4_retirePrinters_36 : decode cX4_retirePrinters 36 = .ok (.iload_n 2, 1) := dk_28 (dk_at dksX4_retirePrinters_1 14 rfl rfl)
theorem dX4_retirePrinters_37 : decode cX4_retirePrinters 37 = .ok (.iconst 0, 1) := dk_3 (dk_at dksX4_retirePrinters_1 15 rfl rfl)
theorem dX4_retirePrinters_38 : decode cX4_retirePrinters 38 = .ok (.iconst 3, 1) := dk_6 (dk_at dksX4_retirePrinters_1 16 rfl rfl)
theorem dX4_retirePrinters_39 : decode cX4_retirePrinters 39 = .ok (.invokevirtual 309, 3) := dk_182 1 53 (dk_at dksX4_retirePrinters_1 17 rfl rfl)
theorem dX4_retirePrinters_42 : decode cX4_retirePrinters 42 = .ok (.ireturn, 1) := dk_172 (dk_at dksX4_retirePrinters_1 20 rfl rfl)
abbrev cX4_runScript : ByteArray := prog_33_method_120_code
def yX4_runScript : MethodName := ⟨RX4, "runScript", "(I)I"⟩
def dkwX4_runScript_3 : List UInt8 := [180, 1, 74, 162, 0, 19, 42, 7, 28, 104, 182, 1, 86, 153, 0, 9, 132, 2, 1, 167, 255, 235, 28, 172]
abbrev dktX4_runScript_3 : List UInt8 := dkwX4_runScript_3 ++ []
def dkwX4_runScript_2 : List UInt8 := [42, 182, 1, 83, 167, 255, 238, 42, 180, 0, 168, 153, 0, 5, 2, 172, 42, 182, 1, 46, 3, 61, 28, 42]
abbrev dktX4_runScript_2 : List UInt8 := dkwX4_runScript_2 ++ dktX4_runScript_3
def dkwX4_runScript_1 : List UInt8 := [42, 27, 182, 0, 249, 42, 3, 181, 1, 74, 42, 180, 0, 168, 154, 0, 17, 42, 180, 0, 187, 153, 0, 10]
abbrev dktX4_runScript_1 : List UInt8 := dkwX4_runScript_1 ++ dktX4_runScript_2
def dkwX4_runScript_0 : List UInt8 := [42, 3, 181, 0, 1, 42, 27, 3, 42, 180, 0, 56, 184, 0, 209, 4, 182, 0, 241, 153, 0, 5, 3, 172]
abbrev dktX4_runScript_0 : List UInt8 := dkwX4_runScript_0 ++ dktX4_runScript_1
theorem dksX4_runScript_0 : cX4_runScript.data.toList.drop 0 = dktX4_runScript_0 := by decide +kernel
theorem dksX4_runScript_1 : cX4_runScript.data.toList.drop 24 = dktX4_runScript_1 := dk_seg dksX4_runScript_0 24 rfl rfl
theorem dksX4_runScript_2 : cX4_runScript.data.toList.drop 48 = dktX4_runScript_2 := dk_seg dksX4_runScript_1 24 rfl rfl
theorem dksX4_runScript_3 : cX4_runScript.data.toList.drop 72 = dktX4_runScript_3 := dk_seg dksX4_runScript_2 24 rfl rfl
theorem dX4_runScript_0 : decode cX4_runScript 0 = .ok (.aload_n 0, 1) := dk_42 (dk_at dksX4_runScript_0 0 rfl rfl)
theorem dX4_runScript_1 : decode cX4_runScript 1 = .ok (.iconst 0, 1) := dk_3 (dk_at dksX4_runScript_0 1 rfl rfl)
theorem dX4_runScript_2 : decode cX4_runScript 2 = .ok (.putfield 1, 3) := dk_181 0 1 (dk_at dksX4_runScript_0 2 rfl rfl)
theorem dX4_runScript_5 : decode cX4_runScript 5 = .ok (.aload_n 0, 1) := dk_42 (dk_at dksX4_runScript_0 5 rfl rfl)
theorem dX4_runScript_6 : decode cX4_runScript 6 = .ok (.iload_n 1, 1) := dk_27 (dk_at dksX4_runScript_0 6 rfl rfl)
theorem dX4_runScript_7 : decode cX4_runScript 7 = .ok (.iconst 0, 1) := dk_3 (dk_at dksX4_runScript_0 7 rfl rfl)
theorem dX4_runScript_8 : decode cX4_runScript 8 = .ok (.aload_n 0, 1) := dk_42 (dk_at dksX4_runScript_0 8 rfl rfl)
theorem dX4_runScript_9 : decode cX4_runScript 9 = .ok (.getfield 56, 3) := dk_180 0 56 (dk_at dksX4_runScript_0 9 rfl rfl)
theorem dX4_runScript_12 : decode cX4_runScript 12 = .ok (.invokestatic 209, 3) := dk_184 0 209 (dk_at dksX4_runScript_0 12 rfl rfl)
theorem dX4_runScript_15 : decode cX4_runScript 15 = .ok (.iconst 1, 1) := dk_4 (dk_at dksX4_runScript_0 15 rfl rfl)
theorem dX4_runScript_16 : decode cX4_runScript 16 = .ok (.invokevirtual 241, 3) := dk_182 0 241 (dk_at dksX4_runScript_0 16 rfl rfl)
theorem dX4_runScript_19 : decode cX4_runScript 19 = .ok (.ifCond .eq 5, 3) := dk_153 0 5 (dk_at dksX4_runScript_0 19 rfl rfl)
theorem dX4_runScript_22 : decode cX4_runScript 22 = .ok (.iconst 0, 1) := dk_3 (dk_at dksX4_runScript_0 22 rfl rfl)
theorem dX4_runScript_23 : decode cX4_runScript 23 = .ok (.ireturn, 1) := dk_172 (dk_at dksX4_runScript_0 23 rfl rfl)
theorem dX4_runScript_24 : decode cX4_runScript 24 = .ok (.aload_n 0, 1) := dk_42 (dk_at dksX4_runScript_1 0 rfl rfl)
theorem dX4_runScript_25 : decode cX4_runScript 25 = .ok (.iload_n 1, 1) := dk_27 (dk_at dksX4_runScript_1 1 rfl rfl)
theorem dX4_runScript_26 : decode cX4_runScript 26 = .ok (.invokevirtual 249, 3) := dk_182 0 249 (dk_at dksX4_runScript_1 2 rfl rfl)
theorem dX4_runScript_29 : decode cX4_runScript 29 = .ok (.aload_n 0, 1) := dk_42 (dk_at dksX4_runScript_1 5 rfl rfl)
theorem dX4_runScript_30 : decode cX4_runScript 30 = .ok (.iconst 0, 1) := dk_3 (dk_at dksX4_runScript_1 6 rfl rfl)
theorem dX4_runScript_31 : decode cX4_runScript 31 = .ok (.putfield 330, 3) := dk_181 1 74 (dk_at dksX4_runScript_1 7 rfl rfl)
theorem dX4_runScript_34 : decode cX4_runScript 34 = .ok (.aload_n 0, 1) := dk_42 (dk_at dksX4_runScript_1 10 rfl rfl)
theorem dX4_runScript_35 : decode cX4_runScript 35 = .ok (.getfield 168, 3) := dk_180 0 168 (dk_at dksX4_runScript_1 11 rfl rfl)
theorem dX4_runScript_38 : decode cX4_runScript 38 = .ok (.ifCond .ne 17, 3) := dk_154 0 17 (dk_at dksX4_runScript_1 14 rfl rfl)
theorem dX4_runScript_41 : decode cX4_runScript 41 = .ok (.aload_n 0, 1) := dk_42 (dk_at dksX4_runScript_1 17 rfl rfl)
theorem dX4_runScript_42 : decode cX4_runScript 42 = .ok (.getfield 187, 3) := dk_180 0 187 (dk_at dksX4_runScript_1 18 rfl rfl)
theorem dX4_runScript_45 : decode cX4_runScript 45 = .ok (.ifCond .eq 10, 3) := dk_153 0 10 (dk_at dksX4_runScript_1 21 rfl rfl)
theorem dX4_runScript_48 : decode cX4_runScript 48 = .ok (.aload_n 0, 1) := dk_42 (dk_at dksX4_runScript_2 0 rfl rfl)
theorem dX4_runScript_49 : decode cX4_runScript 49 = .ok (.invokevirtual 339, 3) := dk_182 1 83 (dk_at dksX4_runScript_2 1 rfl rfl)
theorem dX4_runScript_52 : decode cX4_runScript 52 = .ok (.goto (-18), 3) := dk_167 255 238 (dk_at dksX4_runScript_2 4 rfl rfl)
theorem dX4_runScript_55 : decode cX4_runScript 55 = .ok (.aload_n 0, 1) := dk_42 (dk_at dksX4_runScript_2 7 rfl rfl)
theorem dX4_runScript_56 : decode cX4_runScript 56 = .ok (.getfield 168, 3) := dk_180 0 168 (dk_at dksX4_runScript_2 8 rfl rfl)
theorem dX4_runScript_59 : decode cX4_runScript 59 = .ok (.ifCond .eq 5, 3) := dk_153 0 5 (dk_at dksX4_runScript_2 11 rfl rfl)
theorem dX4_runScript_62 : decode cX4_runScript 62 = .ok (.iconst (-1), 1) := dk_2 (dk_at dksX4_runScript_2 14 rfl rfl)
theorem dX4_runScript_63 : decode cX4_runScript 63 = .ok (.ireturn, 1) := dk_172 (dk_at dksX4_runScript_2 15 rfl rfl)
theorem dX4_runScript_64 : decode cX4_runScript 64 = .ok (.aload_n 0, 1) := dk_42 (dk_at dksX4_runScript_2 16 rfl rfl)
theorem dX4_runScript_65 : decode cX4_runScript 65 = .ok (.invokevirtual 302, 3) := dk_182 1 46 (dk_at dksX4_runScript_2 17 rfl rfl)
theorem dX4_runScript_68 : decode cX4_runScript 68 = .ok (.iconst 0, 1) := dk_3 (dk_at dksX4_runScript_2 20 rfl rfl)
theorem dX4_runScript_69 : decode cX4_runScript 69 = .ok (.istore_n 2, 1) := dk_61 (dk_at dksX4_runScript_2 21 rfl rfl)
theorem dX4_runScript_70 : decode cX4_runScript 70 = .ok (.iload_n 2, 1) := dk_28 (dk_at dksX4_runScript_2 22 rfl rfl)
theorem dX4_runScript_71 : decode cX4_runScript 71 = .ok (.aload_n 0, 1) := dk_42 (dk_at dksX4_runScript_2 23 rfl rfl)
theorem dX4_runScript_72 : decode cX4_runScript 72 = .ok (.getfield 330, 3) := dk_180 1 74 (dk_at dksX4_runScript_3 0 rfl rfl)
theorem dX4_runScript_75 : decode cX4_runScript 75 = .ok (.if_icmp .ge 19, 3) := dk_162 0 19 (dk_at dksX4_runScript_3 3 rfl rfl)
theorem dX4_runScript_78 : decode cX4_runScript 78 = .ok (.aload_n 0, 1) := dk_42 (dk_at dksX4_runScript_3 6 rfl rfl)
theorem dX4_runScript_79 : decode cX4_runScript 79 = .ok (.iconst 4, 1) := dk_7 (dk_at dksX4_runScript_3 7 rfl rfl)
theorem dX4_runScript_80 : decode cX4_runScript 80 = .ok (.iload_n 2, 1) := dk_28 (dk_at dksX4_runScript_3 8 rfl rfl)
theorem dX4_runScript_81 : decode cX4_runScript 81 = .ok (.imul, 1) := dk_104 (dk_at dksX4_runScript_3 9 rfl rfl)
theorem dX4_runScript_82 : decode cX4_runScript 82 = .ok (.invokevirtual 342, 3) := dk_182 1 86 (dk_at dksX4_runScript_3 10 rfl rfl)
theorem dX4_runScript_85 : decode cX4_runScript 85 = .ok (.ifCond .eq 9, 3) := dk_153 0 9 (dk_at dksX4_runScript_3 13 rfl rfl)
theorem dX4_runScript_88 : decode cX4_runScript 88 = .ok (.iinc 2 1, 3) := dk_132 2 1 (dk_at dksX4_runScript_3 16 rfl rfl)
theorem dX4_runScript_91 : decode cX4_runScript 91 = .ok (.goto (-21), 3) := dk_167 255 235 (dk_at dksX4_runScript_3 19 rfl rfl)
theorem dX4_runScript_94 : decode cX4_runScript 94 = .ok (.iload_n 2, 1) := dk_28 (dk_at dksX4_runScript_3 22 rfl rfl)
theorem dX4_runScript_95 : decode cX4_runScript 95 = .ok (.ireturn, 1) := dk_172 (dk_at dksX4_runScript_3 23 rfl rfl)
abbrev cX4_readsOrder : ByteArray := prog_33_method_117_code
def yX4_readsOrder : MethodName := ⟨RX4, "readsOrder", "()V"⟩
def dkwX4_readsOrder_4 : List UInt8 := [4, 96, 181, 1, 74, 42, 182, 0, 221, 177]
abbrev dktX4_readsOrder_4 : List UInt8 := dkwX4_readsOrder_4 ++ []
def dkwX4_readsOrder_3 : List UInt8 := [7, 42, 180, 1, 74, 104, 27, 79, 42, 7, 42, 180, 1, 74, 104, 27, 182, 1, 77, 42, 89, 180, 1, 74]
abbrev dktX4_readsOrder_3 : List UInt8 := dkwX4_readsOrder_3 ++ dktX4_readsOrder_4
def dkwX4_readsOrder_2 : List UInt8 := [42, 180, 0, 38, 7, 42, 180, 1, 74, 104, 28, 96, 3, 79, 132, 2, 1, 167, 255, 234, 42, 180, 0, 38]
abbrev dktX4_readsOrder_2 : List UInt8 := dkwX4_readsOrder_2 ++ dktX4_readsOrder_3
def dkwX4_readsOrder_1 : List UInt8 := [42, 6, 182, 0, 206, 42, 180, 0, 168, 153, 0, 4, 177, 42, 182, 0, 199, 4, 61, 28, 7, 162, 0, 23]
abbrev dktX4_readsOrder_1 : List UInt8 := dkwX4_readsOrder_1 ++ dktX4_readsOrder_2
def dkwX4_readsOrder_0 : List UInt8 := [42, 182, 1, 71, 60, 27, 2, 160, 0, 8, 42, 4, 182, 0, 206, 42, 180, 1, 74, 16, 20, 160, 0, 8]
abbrev dktX4_readsOrder_0 : List UInt8 := dkwX4_readsOrder_0 ++ dktX4_readsOrder_1
theorem dksX4_readsOrder_0 : cX4_readsOrder.data.toList.drop 0 = dktX4_readsOrder_0 := by decide +kernel
theorem dksX4_readsOrder_1 : cX4_readsOrder.data.toList.drop 24 = dktX4_readsOrder_1 := dk_seg dksX4_readsOrder_0 24 rfl rfl
theorem dksX4_readsOrder_2 : cX4_readsOrder.data.toList.drop 48 = dktX4_readsOrder_2 := dk_seg dksX4_readsOrder_1 24 rfl rfl
theorem dksX4_readsOrder_3 : cX4_readsOrder.data.toList.drop 72 = dktX4_readsOrder_3 := dk_seg dksX4_readsOrder_2 24 rfl rfl
theorem dksX4_readsOrder_4 : cX4_readsOrder.data.toList.drop 96 = dktX4_readsOrder_4 := dk_seg dksX4_readsOrder_3 24 rfl rfl
theorem dX4_readsOrder_0 : decode cX4_readsOrder 0 = .ok (.aload_n 0, 1) := dk_42 (dk_at dksX4_readsOrder_0 0 rfl rfl)
theorem dX4_readsOrder_1 : decode cX4_readsOrder 1 = .ok (.invokevirtual 327, 3) := dk_182 1 71 (dk_at dksX4_readsOrder_0 1 rfl rfl)
theorem dX4_readsOrder_4 : decode cX4_readsOrder 4 = .ok (.istore_n 1, 1) := dk_60 (dk_at dksX4_readsOrder_0 4 rfl rfl)
theorem dX4_readsOrder_5 : decode cX4_readsOrder 5 = .ok (.iload_n 1, 1) := dk_27 (dk_at dksX4_readsOrder_0 5 rfl rfl)
theorem dX4_readsOrder_6 : decode cX4_readsOrder 6 = .ok (.iconst (-1), 1) := dk_2 (dk_at dksX4_readsOrder_0 6 rfl rfl)
theorem dX4_readsOrder_7 : decode cX4_readsOrder 7 = .ok (.if_icmp .ne 8, 3) := dk_160 0 8 (dk_at dksX4_readsOrder_0 7 rfl rfl)
theorem dX4_readsOrder_10 : decode cX4_readsOrder 10 = .ok (.aload_n 0, 1) := dk_42 (dk_at dksX4_readsOrder_0 10 rfl rfl)
theorem dX4_readsOrder_11 : decode cX4_readsOrder 11 = .ok (.iconst 1, 1) := dk_4 (dk_at dksX4_readsOrder_0 11 rfl rfl)
theorem dX4_readsOrder_12 : decode cX4_readsOrder 12 = .ok (.invokevirtual 206, 3) := dk_182 0 206 (dk_at dksX4_readsOrder_0 12 rfl rfl)
theorem dX4_readsOrder_15 : decode cX4_readsOrder 15 = .ok (.aload_n 0, 1) := dk_42 (dk_at dksX4_readsOrder_0 15 rfl rfl)
theorem dX4_readsOrder_16 : decode cX4_readsOrder 16 = .ok (.getfield 330, 3) := dk_180 1 74 (dk_at dksX4_readsOrder_0 16 rfl rfl)
theorem dX4_readsOrder_19 : decode cX4_readsOrder 19 = .ok (.bipush 20, 2) := dk_16 20 (dk_at dksX4_readsOrder_0 19 rfl rfl)
theorem dX4_readsOrder_21 : decode cX4_readsOrder 21 = .ok (.if_icmp .ne 8, 3) := dk_160 0 8 (dk_at dksX4_readsOrder_0 21 rfl rfl)
theorem dX4_readsOrder_24 : decode cX4_readsOrder 24 = .ok (.aload_n 0, 1) := dk_42 (dk_at dksX4_readsOrder_1 0 rfl rfl)
theorem dX4_readsOrder_25 : decode cX4_readsOrder 25 = .ok (.iconst 3, 1) := dk_6 (dk_at dksX4_readsOrder_1 1 rfl rfl)
theorem dX4_readsOrder_26 : decode cX4_readsOrder 26 = .ok (.invokevirtual 206, 3) := dk_182 0 206 (dk_at dksX4_readsOrder_1 2 rfl rfl)
theorem dX4_readsOrder_29 : decode cX4_readsOrder 29 = .ok (.aload_n 0, 1) := dk_42 (dk_at dksX4_readsOrder_1 5 rfl rfl)
theorem dX4_readsOrder_30 : decode cX4_readsOrder 30 = .ok (.getfield 168, 3) := dk_180 0 168 (dk_at dksX4_readsOrder_1 6 rfl rfl)
theorem dX4_readsOrder_33 : decode cX4_readsOrder 33 = .ok (.ifCond .eq 4, 3) := dk_153 0 4 (dk_at dksX4_readsOrder_1 9 rfl rfl)
theorem dX4_readsOrder_36 : decode cX4_readsOrder 36 = .ok (.return_, 1) := dk_177 (dk_at dksX4_readsOrder_1 12 rfl rfl)
theorem dX4_readsOrder_37 : decode cX4_readsOrder 37 = .ok (.aload_n 0, 1) := dk_42 (dk_at dksX4_readsOrder_1 13 rfl rfl)
theorem dX4_readsOrder_38 : decode cX4_readsOrder 38 = .ok (.invokevirtual 199, 3) := dk_182 0 199 (dk_at dksX4_readsOrder_1 14 rfl rfl)
theorem dX4_readsOrder_41 : decode cX4_readsOrder 41 = .ok (.iconst 1, 1) := dk_4 (dk_at dksX4_readsOrder_1 17 rfl rfl)
theorem dX4_readsOrder_42 : decode cX4_readsOrder 42 = .ok (.istore_n 2, 1) := dk_61 (dk_at dksX4_readsOrder_1 18 rfl rfl)
theorem dX4_readsOrder_43 : decode cX4_readsOrder 43 = .ok (.iload_n 2, 1) := dk_28 (dk_at dksX4_readsOrder_1 19 rfl rfl)
theorem dX4_readsOrder_44 : decode cX4_readsOrder 44 = .ok (.iconst 4, 1) := dk_7 (dk_at dksX4_readsOrder_1 20 rfl rfl)
theorem dX4_readsOrder_45 : decode cX4_readsOrder 45 = .ok (.if_icmp .ge 23, 3) := dk_162 0 23 (dk_at dksX4_readsOrder_1 21 rfl rfl)
theorem dX4_readsOrder_48 : decode cX4_readsOrder 48 = .ok (.aload_n 0, 1) := dk_42 (dk_at dksX4_readsOrder_2 0 rfl rfl)
theorem dX4_readsOrder_49 : decode cX4_readsOrder 49 = .ok (.getfield 38, 3) := dk_180 0 38 (dk_at dksX4_readsOrder_2 1 rfl rfl)
theorem dX4_readsOrder_52 : decode cX4_readsOrder 52 = .ok (.iconst 4, 1) := dk_7 (dk_at dksX4_readsOrder_2 4 rfl rfl)
theorem dX4_readsOrder_53 : decode cX4_readsOrder 53 = .ok (.aload_n 0, 1) := dk_42 (dk_at dksX4_readsOrder_2 5 rfl rfl)
theorem dX4_readsOrder_54 : decode cX4_readsOrder 54 = .ok (.getfield 330, 3) := dk_180 1 74 (dk_at dksX4_readsOrder_2 6 rfl rfl)
theorem dX4_readsOrder_57 : decode cX4_readsOrder 57 = .ok (.imul, 1) := dk_104 (dk_at dksX4_readsOrder_2 9 rfl rfl)
theorem dX4_readsOrder_58 : decode cX4_readsOrder 58 = .ok (.iload_n 2, 1) := dk_28 (dk_at dksX4_readsOrder_2 10 rfl rfl)
theorem dX4_readsOrder_59 : decode cX4_readsOrder 59 = .ok (.iadd, 1) := dk_96 (dk_at dksX4_readsOrder_2 11 rfl rfl)
theorem dX4_readsOrder_60 : decode cX4_readsOrder 60 = .ok (.iconst 0, 1) := dk_3 (dk_at dksX4_readsOrder_2 12 rfl rfl)
theorem dX4_readsOrder_61 : decode cX4_readsOrder 61 = .ok (.iastore, 1) := dk_79 (dk_at dksX4_readsOrder_2 13 rfl rfl)
theorem dX4_readsOrder_62 : decode cX4_readsOrder 62 = .ok (.iinc 2 1, 3) := dk_132 2 1 (dk_at dksX4_readsOrder_2 14 rfl rfl)
theorem dX4_readsOrder_65 : decode cX4_readsOrder 65 = .ok (.goto (-22), 3) := dk_167 255 234 (dk_at dksX4_readsOrder_2 17 rfl rfl)
theorem dX4_readsOrder_68 : decode cX4_readsOrder 68 = .ok (.aload_n 0, 1) := dk_42 (dk_at dksX4_readsOrder_2 20 rfl rfl)
theorem dX4_readsOrder_69 : decode cX4_readsOrder 69 = .ok (.getfield 38, 3) := dk_180 0 38 (dk_at dksX4_readsOrder_2 21 rfl rfl)
theorem dX4_readsOrder_72 : decode cX4_readsOrder 72 = .ok (.iconst 4, 1) := dk_7 (dk_at dksX4_readsOrder_3 0 rfl rfl)
theorem dX4_readsOrder_73 : decode cX4_readsOrder 73 = .ok (.aload_n 0, 1) := dk_42 (dk_at dksX4_readsOrder_3 1 rfl rfl)
theorem dX4_readsOrder_74 : decode cX4_readsOrder 74 = .ok (.getfield 330, 3) := dk_180 1 74 (dk_at dksX4_readsOrder_3 2 rfl rfl)
theorem dX4_readsOrder_77 : decode cX4_readsOrder 77 = .ok (.imul, 1) := dk_104 (dk_at dksX4_readsOrder_3 5 rfl rfl)
theorem dX4_readsOrder_78 : decode cX4_readsOrder 78 = .ok (.iload_n 1, 1) := dk_27 (dk_at dksX4_readsOrder_3 6 rfl rfl)
theorem dX4_readsOrder_79 : decode cX4_readsOrder 79 = .ok (.iastore, 1) := dk_79 (dk_at dksX4_readsOrder_3 7 rfl rfl)
theorem dX4_readsOrder_80 : decode cX4_readsOrder 80 = .ok (.aload_n 0, 1) := dk_42 (dk_at dksX4_readsOrder_3 8 rfl rfl)
theorem dX4_readsOrder_81 : decode cX4_readsOrder 81 = .ok (.iconst 4, 1) := dk_7 (dk_at dksX4_readsOrder_3 9 rfl rfl)
theorem dX4_readsOrder_82 : decode cX4_readsOrder 82 = .ok (.aload_n 0, 1) := dk_42 (dk_at dksX4_readsOrder_3 10 rfl rfl)
theorem dX4_readsOrder_83 : decode cX4_readsOrder 83 = .ok (.getfield 330, 3) := dk_180 1 74 (dk_at dksX4_readsOrder_3 11 rfl rfl)
theorem dX4_readsOrder_86 : decode cX4_readsOrder 86 = .ok (.imul, 1) := dk_104 (dk_at dksX4_readsOrder_3 14 rfl rfl)
theorem dX4_readsOrder_87 : decode cX4_readsOrder 87 = .ok (.iload_n 1, 1) := dk_27 (dk_at dksX4_readsOrder_3 15 rfl rfl)
theorem dX4_readsOrder_88 : decode cX4_readsOrder 88 = .ok (.invokevirtual 333, 3) := dk_182 1 77 (dk_at dksX4_readsOrder_3 16 rfl rfl)
theorem dX4_readsOrder_91 : decode cX4_readsOrder 91 = .ok (.aload_n 0, 1) := dk_42 (dk_at dksX4_readsOrder_3 19 rfl rfl)
theorem dX4_readsOrder_92 : decode cX4_readsOrder 92 = .ok (.dup, 1) := dk_89 (dk_at dksX4_readsOrder_3 20 rfl rfl)
theorem dX4_readsOrder_93 : decode cX4_readsOrder 93 = .ok (.getfield 330, 3) := dk_180 1 74 (dk_at dksX4_readsOrder_3 21 rfl rfl)
theorem dX4_readsOrder_96 : decode cX4_readsOrder 96 = .ok (.iconst 1, 1) := dk_4 (dk_at dksX4_readsOrder_4 0 rfl rfl)
theorem dX4_readsOrder_97 : decode cX4_readsOrder 97 = .ok (.iadd, 1) := dk_96 (dk_at dksX4_readsOrder_4 1 rfl rfl)
theorem dX4_readsOrder_98 : decode cX4_readsOrder 98 = .ok (.putfield 330, 3) := dk_181 1 74 (dk_at dksX4_readsOrder_4 2 rfl rfl)
theorem dX4_readsOrder_101 : decode cX4_readsOrder 101 = .ok (.aload_n 0, 1) := dk_42 (dk_at dksX4_readsOrder_4 5 rfl rfl)
theorem dX4_readsOrder_102 : decode cX4_readsOrder 102 = .ok (.invokevirtual 221, 3) := dk_182 0 221 (dk_at dksX4_readsOrder_4 6 rfl rfl)
theorem dX4_readsOrder_105 : decode cX4_readsOrder 105 = .ok (.return_, 1) := dk_177 (dk_at dksX4_readsOrder_4 9 rfl rfl)
abbrev cX4_orderHere : ByteArray := prog_33_method_115_code
def yX4_orderHere : MethodName := ⟨RX4, "orderHere", "()I"⟩
def dkwX4_orderHere_3 : List UInt8 := [42, 19, 1, 69, 182, 0, 202, 153, 0, 8, 16, 6, 167, 0, 4, 2, 172]
abbrev dktX4_orderHere_3 : List UInt8 := dkwX4_orderHere_3 ++ []
def dkwX4_orderHere_2 : List UInt8 := [42, 19, 1, 65, 182, 0, 202, 153, 0, 5, 7, 172, 42, 19, 1, 67, 182, 0, 202, 153, 0, 5, 8, 172]
abbrev dktX4_orderHere_2 : List UInt8 := dkwX4_orderHere_2 ++ dktX4_orderHere_3
def dkwX4_orderHere_1 : List UInt8 := [42, 19, 1, 61, 182, 0, 202, 153, 0, 5, 5, 172, 42, 19, 1, 63, 182, 0, 202, 153, 0, 5, 6, 172]
abbrev dktX4_orderHere_1 : List UInt8 := dkwX4_orderHere_1 ++ dktX4_orderHere_2
def dkwX4_orderHere_0 : List UInt8 := [42, 19, 1, 57, 182, 0, 202, 153, 0, 5, 3, 172, 42, 19, 1, 59, 182, 0, 202, 153, 0, 5, 4, 172]
abbrev dktX4_orderHere_0 : List UInt8 := dkwX4_orderHere_0 ++ dktX4_orderHere_1
theorem dksX4_orderHere_0 : cX4_orderHere.data.toList.drop 0 = dktX4_orderHere_0 := by decide +kernel
theorem dksX4_orderHere_1 : cX4_orderHere.data.toList.drop 24 = dktX4_orderHere_1 := dk_seg dksX4_orderHere_0 24 rfl rfl
theorem dksX4_orderHere_2 : cX4_orderHere.data.toList.drop 48 = dktX4_orderHere_2 := dk_seg dksX4_orderHere_1 24 rfl rfl
theorem dksX4_orderHere_3 : cX4_orderHere.data.toList.drop 72 = dktX4_orderHere_3 := dk_seg dksX4_orderHere_2 24 rfl rfl
theorem dX4_orderHere_0 : decode cX4_orderHere 0 = .ok (.aload_n 0, 1) := dk_42 (dk_at dksX4_orderHere_0 0 rfl rfl)
theorem dX4_orderHere_1 : decode cX4_orderHere 1 = .ok (.ldc_w 313, 3) := dk_19 1 57 (dk_at dksX4_orderHere_0 1 rfl rfl)
theorem dX4_orderHere_4 : decode cX4_orderHere 4 = .ok (.invokevirtual 202, 3) := dk_182 0 202 (dk_at dksX4_orderHere_0 4 rfl rfl)
theorem dX4_orderHere_7 : decode cX4_orderHere 7 = .ok (.ifCond .eq 5, 3) := dk_153 0 5 (dk_at dksX4_orderHere_0 7 rfl rfl)
theorem dX4_orderHere_10 : decode cX4_orderHere 10 = .ok (.iconst 0, 1) := dk_3 (dk_at dksX4_orderHere_0 10 rfl rfl)
theorem dX4_orderHere_11 : decode cX4_orderHere 11 = .ok (.ireturn, 1) := dk_172 (dk_at dksX4_orderHere_0 11 rfl rfl)
theorem dX4_orderHere_12 : decode cX4_orderHere 12 = .ok (.aload_n 0, 1) := dk_42 (dk_at dksX4_orderHere_0 12 rfl rfl)
theorem dX4_orderHere_13 : decode cX4_orderHere 13 = .ok (.ldc_w 315, 3) := dk_19 1 59 (dk_at dksX4_orderHere_0 13 rfl rfl)
theorem dX4_orderHere_16 : decode cX4_orderHere 16 = .ok (.invokevirtual 202, 3) := dk_182 0 202 (dk_at dksX4_orderHere_0 16 rfl rfl)
theorem dX4_orderHere_19 : decode cX4_orderHere 19 = .ok (.ifCond .eq 5, 3) := dk_153 0 5 (dk_at dksX4_orderHere_0 19 rfl rfl)
theorem dX4_orderHere_22 : decode cX4_orderHere 22 = .ok (.iconst 1, 1) := dk_4 (dk_at dksX4_orderHere_0 22 rfl rfl)
theorem dX4_orderHere_23 : decode cX4_orderHere 23 = .ok (.ireturn, 1) := dk_172 (dk_at dksX4_orderHere_0 23 rfl rfl)
theorem dX4_orderHere_24 : decode cX4_orderHere 24 = .ok (.aload_n 0, 1) := dk_42 (dk_at dksX4_orderHere_1 0 rfl rfl)
theorem dX4_orderHere_25 : decode cX4_orderHere 25 = .ok (.ldc_w 317, 3) := dk_19 1 61 (dk_at dksX4_orderHere_1 1 rfl rfl)
theorem dX4_orderHere_28 : decode cX4_orderHere 28 = .ok (.invokevirtual 202, 3) := dk_182 0 202 (dk_at dksX4_orderHere_1 4 rfl rfl)
theorem dX4_orderHere_31 : decode cX4_orderHere 31 = .ok (.ifCond .eq 5, 3) := dk_153 0 5 (dk_at dksX4_orderHere_1 7 rfl rfl)
theorem dX4_orderHere_34 : decode cX4_orderHere 34 = .ok (.iconst 2, 1) := dk_5 (dk_at dksX4_orderHere_1 10 rfl rfl)
theorem dX4_orderHere_35 : decode cX4_orderHere 35 = .ok (.ireturn, 1) := dk_172 (dk_at dksX4_orderHere_1 11 rfl rfl)
theorem dX4_orderHere_36 : decode cX4_orderHere 36 = .ok (.aload_n 0, 1) := dk_42 (dk_at dksX4_orderHere_1 12 rfl rfl)
theorem dX4_orderHere_37 : decode cX4_orderHere 37 = .ok (.ldc_w 319, 3) := dk_19 1 63 (dk_at dksX4_orderHere_1 13 rfl rfl)
theorem dX4_orderHere_40 : decode cX4_orderHere 40 = .ok (.invokevirtual 202, 3) := dk_182 0 202 (dk_at dksX4_orderHere_1 16 rfl rfl)
theorem dX4_orderHere_43 : decode cX4_orderHere 43 = .ok (.ifCond .eq 5, 3) := dk_153 0 5 (dk_at dksX4_orderHere_1 19 rfl rfl)
theorem dX4_orderHere_46 : decode cX4_orderHere 46 = .ok (.iconst 3, 1) := dk_6 (dk_at dksX4_orderHere_1 22 rfl rfl)
theorem dX4_orderHere_47 : decode cX4_orderHere 47 = .ok (.ireturn, 1) := dk_172 (dk_at dksX4_orderHere_1 23 rfl rfl)
theorem dX4_orderHere_48 : decode cX4_orderHere 48 = .ok (.aload_n 0, 1) := dk_42 (dk_at dksX4_orderHere_2 0 rfl rfl)
theorem dX4_orderHere_49 : decode cX4_orderHere 49 = .ok (.ldc_w 321, 3) := dk_19 1 65 (dk_at dksX4_orderHere_2 1 rfl rfl)
theorem dX4_orderHere_52 : decode cX4_orderHere 52 = .ok (.invokevirtual 202, 3) := dk_182 0 202 (dk_at dksX4_orderHere_2 4 rfl rfl)
theorem dX4_orderHere_55 : decode cX4_orderHere 55 = .ok (.ifCond .eq 5, 3) := dk_153 0 5 (dk_at dksX4_orderHere_2 7 rfl rfl)
theorem dX4_orderHere_58 : decode cX4_orderHere 58 = .ok (.iconst 4, 1) := dk_7 (dk_at dksX4_orderHere_2 10 rfl rfl)
theorem dX4_orderHere_59 : decode cX4_orderHere 59 = .ok (.ireturn, 1) := dk_172 (dk_at dksX4_orderHere_2 11 rfl rfl)
theorem dX4_orderHere_60 : decode cX4_orderHere 60 = .ok (.aload_n 0, 1) := dk_42 (dk_at dksX4_orderHere_2 12 rfl rfl)
theorem dX4_orderHere_61 : decode cX4_orderHere 61 = .ok (.ldc_w 323, 3) := dk_19 1 67 (dk_at dksX4_orderHere_2 13 rfl rfl)
theorem dX4_orderHere_64 : decode cX4_orderHere 64 = .ok (.invokevirtual 202, 3) := dk_182 0 202 (dk_at dksX4_orderHere_2 16 rfl rfl)
theorem dX4_orderHere_67 : decode cX4_orderHere 67 = .ok (.ifCond .eq 5, 3) := dk_153 0 5 (dk_at dksX4_orderHere_2 19 rfl rfl)
theorem dX4_orderHere_70 : decode cX4_orderHere 70 = .ok (.iconst 5, 1) := dk_8 (dk_at dksX4_orderHere_2 22 rfl rfl)
theorem dX4_orderHere_71 : decode cX4_orderHere 71 = .ok (.ireturn, 1) := dk_172 (dk_at dksX4_orderHere_2 23 rfl rfl)
theorem dX4_orderHere_72 : decode cX4_orderHere 72 = .ok (.aload_n 0, 1) := dk_42 (dk_at dksX4_orderHere_3 0 rfl rfl)
theorem dX4_orderHere_73 : decode cX4_orderHere 73 = .ok (.ldc_w 325, 3) := dk_19 1 69 (dk_at dksX4_orderHere_3 1 rfl rfl)
theorem dX4_orderHere_76 : decode cX4_orderHere 76 = .ok (.invokevirtual 202, 3) := dk_182 0 202 (dk_at dksX4_orderHere_3 4 rfl rfl)
theorem dX4_orderHere_79 : decode cX4_orderHere 79 = .ok (.ifCond .eq 8, 3) := dk_153 0 8 (dk_at dksX4_orderHere_3 7 rfl rfl)
theorem dX4_orderHere_82 : decode cX4_orderHere 82 = .ok (.bipush 6, 2) := dk_16 6 (dk_at dksX4_orderHere_3 10 rfl rfl)
theorem dX4_orderHere_84 : decode cX4_orderHere 84 = .ok (.goto 4, 3) := dk_167 0 4 (dk_at dksX4_orderHere_3 12 rfl rfl)
theorem dX4_orderHere_87 : decode cX4_orderHere 87 = .ok (.iconst (-1), 1) := dk_2 (dk_at dksX4_orderHere_3 15 rfl rfl)
theorem dX4_orderHere_88 : decode cX4_orderHere 88 = .ok (.ireturn, 1) := dk_172 (dk_at dksX4_orderHere_3 16 rfl rfl)
abbrev cX4_readsRest : ByteArray := prog_33_method_116_code
def yX4_readsRest : MethodName := ⟨RX4, "readsRest", "(II)V"⟩
def dkwX4_readsRest_5 : List UInt8 := [177]
abbrev dktX4_readsRest_5 : List UInt8 := dkwX4_readsRest_5 ++ []
def dkwX4_readsRest_4 : List UInt8 := [96, 28, 7, 160, 0, 13, 42, 3, 16, 40, 182, 0, 227, 167, 0, 10, 42, 4, 16, 20, 182, 0, 227, 79]
abbrev dktX4_readsRest_4 : List UInt8 := dkwX4_readsRest_4 ++ dktX4_readsRest_5
def dkwX4_readsRest_3 : List UInt8 := [182, 0, 227, 167, 0, 9, 42, 3, 6, 182, 0, 227, 79, 29, 153, 0, 4, 177, 42, 180, 0, 38, 27, 6]
abbrev dktX4_readsRest_3 : List UInt8 := dkwX4_readsRest_3 ++ dktX4_readsRest_4
def dkwX4_readsRest_2 : List UInt8 := [159, 0, 8, 28, 6, 160, 0, 4, 177, 42, 180, 0, 38, 27, 5, 96, 29, 153, 0, 13, 42, 4, 16, 20]
abbrev dktX4_readsRest_2 : List UInt8 := dkwX4_readsRest_2 ++ dktX4_readsRest_3
def dkwX4_readsRest_1 : List UInt8 := [29, 153, 0, 12, 42, 3, 6, 182, 0, 227, 167, 0, 10, 42, 3, 16, 7, 182, 0, 227, 79, 28, 5]
abbrev dktX4_readsRest_1 : List UInt8 := dkwX4_readsRest_1 ++ dktX4_readsRest_2
def dkwX4_readsRest_0 : List UInt8 := [28, 8, 159, 0, 9, 28, 16, 6, 160, 0, 7, 4, 167, 0, 4, 3, 62, 42, 180, 0, 38, 27, 4, 96]
abbrev dktX4_readsRest_0 : List UInt8 := dkwX4_readsRest_0 ++ dktX4_readsRest_1
theorem dksX4_readsRest_0 : cX4_readsRest.data.toList.drop 0 = dktX4_readsRest_0 := by decide +kernel
theorem dksX4_readsRest_1 : cX4_readsRest.data.toList.drop 24 = dktX4_readsRest_1 := dk_seg dksX4_readsRest_0 24 rfl rfl
theorem dksX4_readsRest_2 : cX4_readsRest.data.toList.drop 47 = dktX4_readsRest_2 := dk_seg dksX4_readsRest_1 23 rfl rfl
theorem dksX4_readsRest_3 : cX4_readsRest.data.toList.drop 71 = dktX4_readsRest_3 := dk_seg dksX4_readsRest_2 24 rfl rfl
theorem dksX4_readsRest_4 : cX4_readsRest.data.toList.drop 95 = dktX4_readsRest_4 := dk_seg dksX4_readsRest_3 24 rfl rfl
theorem dksX4_readsRest_5 : cX4_readsRest.data.toList.drop 119 = dktX4_readsRest_5 := dk_seg dksX4_readsRest_4 24 rfl rfl
theorem dX4_readsRest_0 : decode cX4_readsRest 0 = .ok (.iload_n 2, 1) := dk_28 (dk_at dksX4_readsRest_0 0 rfl rfl)
theorem dX4_readsRest_1 : decode cX4_readsRest 1 = .ok (.iconst 5, 1) := dk_8 (dk_at dksX4_readsRest_0 1 rfl rfl)
theorem dX4_readsRest_2 : decode cX4_readsRest 2 = .ok (.if_icmp .eq 9, 3) := dk_159 0 9 (dk_at dksX4_readsRest_0 2 rfl rfl)
theorem dX4_readsRest_5 : decode cX4_readsRest 5 = .ok (.iload_n 2, 1) := dk_28 (dk_at dksX4_readsRest_0 5 rfl rfl)
theorem dX4_readsRest_6 : decode cX4_readsRest 6 = .ok (.bipush 6, 2) := dk_16 6 (dk_at dksX4_readsRest_0 6 rfl rfl)
theorem dX4_readsRest_8 : decode cX4_readsRest 8 = .ok (.if_icmp .ne 7, 3) := dk_160 0 7 (dk_at dksX4_readsRest_0 8 rfl rfl)
theorem dX4_readsRest_11 : decode cX4_readsRest 11 = .ok (.iconst 1, 1) := dk_4 (dk_at dksX4_readsRest_0 11 rfl rfl)
theorem dX4_readsRest_12 : decode cX4_readsRest 12 = .ok (.goto 4, 3) := dk_167 0 4 (dk_at dksX4_readsRest_0 12 rfl rfl)
theorem dX4_readsRest_15 : decode cX4_readsRest 15 = .ok (.iconst 0, 1) := dk_3 (dk_at dksX4_readsRest_0 15 rfl rfl)
theorem dX4_readsRest_16 : decode cX4_readsRest 16 = .ok (.istore_n 3, 1) := dk_62 (dk_at dksX4_readsRest_0 16 rfl rfl)
theorem dX4_readsRest_17 : decode cX4_readsRest 17 = .ok (.aload_n 0, 1) := dk_42 (dk_at dksX4_readsRest_0 17 rfl rfl)
theorem dX4_readsRest_18 : decode cX4_readsRest 18 = .ok (.getfield 38, 3) := dk_180 0 38 (dk_at dksX4_readsRest_0 18 rfl rfl)
theorem dX4_readsRest_21 : decode cX4_readsRest 21 = .ok (.iload_n 1, 1) := dk_27 (dk_at dksX4_readsRest_0 21 rfl rfl)
theorem dX4_readsRest_22 : decode cX4_readsRest 22 = .ok (.iconst 1, 1) := dk_4 (dk_at dksX4_readsRest_0 22 rfl rfl)
theorem dX4_readsRest_23 : decode cX4_readsRest 23 = .ok (.iadd, 1) := dk_96 (dk_at dksX4_readsRest_0 23 rfl rfl)
theorem dX4_readsRest_24 : decode cX4_readsRest 24 = .ok (.iload_n 3, 1) := dk_29 (dk_at dksX4_readsRest_1 0 rfl rfl)
theorem dX4_readsRest_25 : decode cX4_readsRest 25 = .ok (.ifCond .eq 12, 3) := dk_153 0 12 (dk_at dksX4_readsRest_1 1 rfl rfl)
theorem dX4_readsRest_28 : decode cX4_readsRest 28 = .ok (.aload_n 0, 1) := dk_42 (dk_at dksX4_readsRest_1 4 rfl rfl)
theorem dX4_readsRest_29 : decode cX4_readsRest 29 = .ok (.iconst 0, 1) := dk_3 (dk_at dksX4_readsRest_1 5 rfl rfl)
theorem dX4_readsRest_30 : decode cX4_readsRest 30 = .ok (.iconst 3, 1) := dk_6 (dk_at dksX4_readsRest_1 6 rfl rfl)
theorem dX4_readsRest_31 : decode cX4_readsRest 31 = .ok (.invokevirtual 227, 3) := dk_182 0 227 (dk_at dksX4_readsRest_1 7 rfl rfl)
theorem dX4_readsRest_34 : decode cX4_readsRest 34 = .ok (.goto 10, 3) := dk_167 0 10 (dk_at dksX4_readsRest_1 10 rfl rfl)
theorem dX4_readsRest_37 : decode cX4_readsRest 37 = .ok (.aload_n 0, 1) := dk_42 (dk_at dksX4_readsRest_1 13 rfl rfl)
theorem dX4_readsRest_38 : decode cX4_readsRest 38 = .ok (.iconst 0, 1) := dk_3 (dk_at dksX4_readsRest_1 14 rfl rfl)
theorem dX4_readsRest_39 : decode cX4_readsRest 39 = .ok (.bipush 7, 2) := dk_16 7 (dk_at dksX4_readsRest_1 15 rfl rfl)
theorem dX4_readsRest_41 : decode cX4_readsRest 41 = .ok (.invokevirtual 227, 3) := dk_182 0 227 (dk_at dksX4_readsRest_1 17 rfl rfl)
theorem dX4_readsRest_44 : decode cX4_readsRest 44 = .ok (.iastore, 1) := dk_79 (dk_at dksX4_readsRest_1 20 rfl rfl)
theorem dX4_readsRest_45 : decode cX4_readsRest 45 = .ok (.iload_n 2, 1) := dk_28 (dk_at dksX4_readsRest_1 21 rfl rfl)
theorem dX4_readsRest_46 : decode cX4_readsRest 46 = .ok (.iconst 2, 1) := dk_5 (dk_at dksX4_readsRest_1 22 rfl rfl)
theorem dX4_readsRest_47 : decode cX4_readsRest 47 = .ok (.if_icmp .eq 8, 3) := dk_159 0 8 (dk_at dksX4_readsRest_2 0 rfl rfl)
theorem dX4_readsRest_50 : decode cX4_readsRest 50 = .ok (.iload_n 2, 1) := dk_28 (dk_at dksX4_readsRest_2 3 rfl rfl)
theorem dX4_readsRest_51 : decode cX4_readsRest 51 = .ok (.iconst 3, 1) := dk_6 (dk_at dksX4_readsRest_2 4 rfl rfl)
theorem dX4_readsRest_52 : decode cX4_readsRest 52 = .ok (.if_icmp .ne 4, 3) := dk_160 0 4 (dk_at dksX4_readsRest_2 5 rfl rfl)
theorem dX4_readsRest_55 : decode cX4_readsRest 55 = .ok (.return_, 1) := dk_177 (dk_at dksX4_readsRest_2 8 rfl rfl)
theorem dX4_readsRest_56 : decode cX4_readsRest 56 = .ok (.aload_n 0, 1) := dk_42 (dk_at dksX4_readsRest_2 9 rfl rfl)
theorem dX4_readsRest_57 : decode cX4_readsRest 57 = .ok (.getfield 38, 3) := dk_180 0 38 (dk_at dksX4_readsRest_2 10 rfl rfl)
theorem dX4_readsRest_60 : decode cX4_readsRest 60 = .ok (.iload_n 1, 1) := dk_27 (dk_at dksX4_readsRest_2 13 rfl rfl)
theorem dX4_readsRest_61 : decode cX4_readsRest 61 = .ok (.iconst 2, 1) := dk_5 (dk_at dksX4_readsRest_2 14 rfl rfl)
theorem dX4_readsRest_62 : decode cX4_readsRest 62 = .ok (.iadd, 1) := dk_96 (dk_at dksX4_readsRest_2 15 rfl rfl)
theorem dX4_readsRest_63 : decode cX4_readsRest 63 = .ok (.iload_n 3, 1) := dk_29 (dk_at dksX4_readsRest_2 16 rfl rfl)
theorem dX4_readsRest_64 : decode cX4_readsRest 64 = .ok (.ifCond .eq 13, 3) := dk_153 0 13 (dk_at dksX4_readsRest_2 17 rfl rfl)
theorem dX4_readsRest_67 : decode cX4_readsRest 67 = .ok (.aload_n 0, 1) := dk_42 (dk_at dksX4_readsRest_2 20 rfl rfl)
theorem dX4_readsRest_68 : decode cX4_readsRest 68 = .ok (.iconst 1, 1) := dk_4 (dk_at dksX4_readsRest_2 21 rfl rfl)
theorem dX4_readsRest_69 : decode cX4_readsRest 69 = .ok (.bipush 20, 2) := dk_16 20 (dk_at dksX4_readsRest_2 22 rfl rfl)
theorem dX4_readsRest_71 : decode cX4_readsRest 71 = .ok (.invokevirtual 227, 3) := dk_182 0 227 (dk_at dksX4_readsRest_3 0 rfl rfl)
theorem dX4_readsRest_74 : decode cX4_readsRest 74 = .ok (.goto 9, 3) := dk_167 0 9 (dk_at dksX4_readsRest_3 3 rfl rfl)
theorem dX4_readsRest_77 : decode cX4_readsRest 77 = .ok (.aload_n 0, 1) := dk_42 (dk_at dksX4_readsRest_3 6 rfl rfl)
theorem dX4_readsRest_78 : decode cX4_readsRest 78 = .ok (.iconst 0, 1) := dk_3 (dk_at dksX4_readsRest_3 7 rfl rfl)
theorem dX4_readsRest_79 : decode cX4_readsRest 79 = .ok (.iconst 3, 1) := dk_6 (dk_at dksX4_readsRest_3 8 rfl rfl)
theorem dX4_readsRest_80 : decode cX4_readsRest 80 = .ok (.invokevirtual 227, 3) := dk_182 0 227 (dk_at dksX4_readsRest_3 9 rfl rfl)
theorem dX4_readsRest_83 : decode cX4_readsRest 83 = .ok (.iastore, 1) := dk_79 (dk_at dksX4_readsRest_3 12 rfl rfl)
theorem dX4_readsRest_84 : decode cX4_readsRest 84 = .ok (.iload_n 3, 1) := dk_29 (dk_at dksX4_readsRest_3 13 rfl rfl)
theorem dX4_readsRest_85 : decode cX4_readsRest 85 = .ok (.ifCond .eq 4, 3) := dk_153 0 4 (dk_at dksX4_readsRest_3 14 rfl rfl)
theorem dX4_readsRest_88 : decode cX4_readsRest 88 = .ok (.return_, 1) := dk_177 (dk_at dksX4_readsRest_3 17 rfl rfl)
theorem dX4_readsRest_89 : decode cX4_readsRest 89 = .ok (.aload_n 0, 1) := dk_42 (dk_at dksX4_readsRest_3 18 rfl rfl)
theorem dX4_readsRest_90 : decode cX4_readsRest 90 = .ok (.getfield 38, 3) := dk_180 0 38 (dk_at dksX4_readsRest_3 19 rfl rfl)
theorem dX4_readsRest_93 : decode cX4_readsRest 93 = .ok (.iload_n 1, 1) := dk_27 (dk_at dksX4_readsRest_3 22 rfl rfl)
theorem dX4_readsRest_94 : decode cX4_readsRest 94 = .ok (.iconst 3, 1) := dk_6 (dk_at dksX4_readsRest_3 23 rfl rfl)
theorem dX4_readsRest_95 : decode cX4_readsRest 95 = .ok (.iadd, 1) := dk_96 (dk_at dksX4_readsRest_4 0 rfl rfl)
theorem dX4_readsRest_96 : decode cX4_readsRest 96 = .ok (.iload_n 2, 1) := dk_28 (dk_at dksX4_readsRest_4 1 rfl rfl)
theorem dX4_readsRest_97 : decode cX4_readsRest 97 = .ok (.iconst 4, 1) := dk_7 (dk_at dksX4_readsRest_4 2 rfl rfl)
theorem dX4_readsRest_98 : decode cX4_readsRest 98 = .ok (.if_icmp .ne 13, 3) := dk_160 0 13 (dk_at dksX4_readsRest_4 3 rfl rfl)
theorem dX4_readsRest_101 : decode cX4_readsRest 101 = .ok (.aload_n 0, 1) := dk_42 (dk_at dksX4_readsRest_4 6 rfl rfl)
theorem dX4_readsRest_102 : decode cX4_readsRest 102 = .ok (.iconst 0, 1) := dk_3 (dk_at dksX4_readsRest_4 7 rfl rfl)
theorem dX4_readsRest_103 : decode cX4_readsRest 103 = .ok (.bipush 40, 2) := dk_16 40 (dk_at dksX4_readsRest_4 8 rfl rfl)
theorem dX4_readsRest_105 : decode cX4_readsRest 105 = .ok (.invokevirtual 227, 3) := dk_182 0 227 (dk_at dksX4_readsRest_4 10 rfl rfl)
theorem dX4_readsRest_108 : decode cX4_readsRest 108 = .ok (.goto 10, 3) := dk_167 0 10 (dk_at dksX4_readsRest_4 13 rfl rfl)
theorem dX4_readsRest_111 : decode cX4_readsRest 111 = .ok (.aload_n 0, 1) := dk_42 (dk_at dksX4_readsRest_4 16 rfl rfl)
theorem dX4_readsRest_112 : decode cX4_readsRest 112 = .ok (.iconst 1, 1) := dk_4 (dk_at dksX4_readsRest_4 17 rfl rfl)
theorem dX4_readsRest_113 : decode cX4_readsRest 113 = .ok (.bipush 20, 2) := dk_16 20 (dk_at dksX4_readsRest_4 18 rfl rfl)
theorem dX4_readsRest_115 : decode cX4_readsRest 115 = .ok (.invokevirtual 227, 3) := dk_182 0 227 (dk_at dksX4_readsRest_4 20 rfl rfl)
theorem dX4_readsRest_118 : decode cX4_readsRest 118 = .ok (.iastore, 1) := dk_79 (dk_at dksX4_readsRest_4 23 rfl rfl)
theorem dX4_readsRest_119 : decode cX4_readsRest 119 = .ok (.return_, 1) := dk_177 (dk_at dksX4_readsRest_5 0 rfl rfl)
abbrev cX4_isDoneNow : ByteArray := prog_33_method_119_code
def yX4_isDoneNow : MethodName := ⟨RX4, "isDoneNow", "(I)Z"⟩
def dkwX4_isDoneNow_3 : List UInt8 := [21, 5, 182, 1, 49, 54, 6, 4, 172]
abbrev dktX4_isDoneNow_3 : List UInt8 := dkwX4_isDoneNow_3 ++ []
def dkwX4_isDoneNow_2 : List UInt8 := [153, 0, 16, 42, 28, 29, 21, 4, 21, 5, 182, 1, 42, 154, 0, 5, 3, 172, 42, 28, 29, 21, 4]
abbrev dktX4_isDoneNow_2 : List UInt8 := dkwX4_isDoneNow_2 ++ dktX4_isDoneNow_3
def dkwX4_isDoneNow_1 : List UInt8 := [54, 4, 42, 180, 0, 38, 27, 6, 96, 46, 54, 5, 42, 28, 29, 21, 4, 21, 5, 182, 1, 80]
abbrev dktX4_isDoneNow_1 : List UInt8 := dkwX4_isDoneNow_1 ++ dktX4_isDoneNow_2
def dkwX4_isDoneNow_0 : List UInt8 := [42, 180, 0, 38, 27, 46, 61, 42, 180, 0, 38, 27, 4, 96, 46, 62, 42, 180, 0, 38, 27, 5, 96, 46]
abbrev dktX4_isDoneNow_0 : List UInt8 := dkwX4_isDoneNow_0 ++ dktX4_isDoneNow_1
theorem dksX4_isDoneNow_0 : cX4_isDoneNow.data.toList.drop 0 = dktX4_isDoneNow_0 := by decide +kernel
theorem dksX4_isDoneNow_1 : cX4_isDoneNow.data.toList.drop 24 = dktX4_isDoneNow_1 := dk_seg dksX4_isDoneNow_0 24 rfl rfl
theorem dksX4_isDoneNow_2 : cX4_isDoneNow.data.toList.drop 46 = dktX4_isDoneNow_2 := dk_seg dksX4_isDoneNow_1 22 rfl rfl
theorem dksX4_isDoneNow_3 : cX4_isDoneNow.data.toList.drop 69 = dktX4_isDoneNow_3 := dk_seg dksX4_isDoneNow_2 23 rfl rfl
theorem dX4_isDoneNow_0 : decode cX4_isDoneNow 0 = .ok (.aload_n 0, 1) := dk_42 (dk_at dksX4_isDoneNow_0 0 rfl rfl)
theorem dX4_isDoneNow_1 : decode cX4_isDoneNow 1 = .ok (.getfield 38, 3) := dk_180 0 38 (dk_at dksX4_isDoneNow_0 1 rfl rfl)
theorem dX4_isDoneNow_4 : decode cX4_isDoneNow 4 = .ok (.iload_n 1, 1) := dk_27 (dk_at dksX4_isDoneNow_0 4 rfl rfl)
theorem dX4_isDoneNow_5 : decode cX4_isDoneNow 5 = .ok (.iaload, 1) := dk_46 (dk_at dksX4_isDoneNow_0 5 rfl rfl)
theorem dX4_isDoneNow_6 : decode cX4_isDoneNow 6 = .ok (.istore_n 2, 1) := dk_61 (dk_at dksX4_isDoneNow_0 6 rfl rfl)
theorem dX4_isDoneNow_7 : decode cX4_isDoneNow 7 = .ok (.aload_n 0, 1) := dk_42 (dk_at dksX4_isDoneNow_0 7 rfl rfl)
theorem dX4_isDoneNow_8 : decode cX4_isDoneNow 8 = .ok (.getfield 38, 3) := dk_180 0 38 (dk_at dksX4_isDoneNow_0 8 rfl rfl)
theorem dX4_isDoneNow_11 : decode cX4_isDoneNow 11 = .ok (.iload_n 1, 1) := dk_27 (dk_at dksX4_isDoneNow_0 11 rfl rfl)
theorem dX4_isDoneNow_12 : decode cX4_isDoneNow 12 = .ok (.iconst 1, 1) := dk_4 (dk_at dksX4_isDoneNow_0 12 rfl rfl)
theorem dX4_isDoneNow_13 : decode cX4_isDoneNow 13 = .ok (.iadd, 1) := dk_96 (dk_at dksX4_isDoneNow_0 13 rfl rfl)
theorem dX4_isDoneNow_14 : decode cX4_isDoneNow 14 = .ok (.iaload, 1) := dk_46 (dk_at dksX4_isDoneNow_0 14 rfl rfl)
theorem dX4_isDoneNow_15 : decode cX4_isDoneNow 15 = .ok (.istore_n 3, 1) := dk_62 (dk_at dksX4_isDoneNow_0 15 rfl rfl)
theorem dX4_isDoneNow_16 : decode cX4_isDoneNow 16 = .ok (.aload_n 0, 1) := dk_42 (dk_at dksX4_isDoneNow_0 16 rfl rfl)
theorem dX4_isDoneNow_17 : decode cX4_isDoneNow 17 = .ok (.getfield 38, 3) := dk_180 0 38 (dk_at dksX4_isDoneNow_0 17 rfl rfl)
theorem dX4_isDoneNow_20 : decode cX4_isDoneNow 20 = .ok (.iload_n 1, 1) := dk_27 (dk_at dksX4_isDoneNow_0 20 rfl rfl)
theorem dX4_isDoneNow_21 : decode cX4_isDoneNow 21 = .ok (.iconst 2, 1) := dk_5 (dk_at dksX4_isDoneNow_0 21 rfl rfl)
theorem dX4_isDoneNow_22 : decode cX4_isDoneNow 22 = .ok (.iadd, 1) := dk_96 (dk_at dksX4_isDoneNow_0 22 rfl rfl)
theorem dX4_isDoneNow_23 : decode cX4_isDoneNow 23 = .ok (.iaload, 1) := dk_46 (dk_at dksX4_isDoneNow_0 23 rfl rfl)
theorem dX4_isDoneNow_24 : decode cX4_isDoneNow 24 = .ok (.istore 4, 2) := dk_54 4 (dk_at dksX4_isDoneNow_1 0 rfl rfl)
theorem dX4_isDoneNow_26 : decode cX4_isDoneNow 26 = .ok (.aload_n 0, 1) := dk_42 (dk_at dksX4_isDoneNow_1 2 rfl rfl)
theorem dX4_isDoneNow_27 : decode cX4_isDoneNow 27 = .ok (.getfield 38, 3) := dk_180 0 38 (dk_at dksX4_isDoneNow_1 3 rfl rfl)
theorem dX4_isDoneNow_30 : decode cX4_isDoneNow 30 = .ok (.iload_n 1, 1) := dk_27 (dk_at dksX4_isDoneNow_1 6 rfl rfl)
theorem dX4_isDoneNow_31 : decode cX4_isDoneNow 31 = .ok (.iconst 3, 1) := dk_6 (dk_at dksX4_isDoneNow_1 7 rfl rfl)
theorem dX4_isDoneNow_32 : decode cX4_isDoneNow 32 = .ok (.iadd, 1) := dk_96 (dk_at dksX4_isDoneNow_1 8 rfl rfl)
theorem dX4_isDoneNow_33 : decode cX4_isDoneNow 33 = .ok (.iaload, 1) := dk_46 (dk_at dksX4_isDoneNow_1 9 rfl rfl)
theorem dX4_isDoneNow_34 : decode cX4_isDoneNow 34 = .ok (.istore 5, 2) := dk_54 5 (dk_at dksX4_isDoneNow_1 10 rfl rfl)
theorem dX4_isDoneNow_36 : decode cX4_isDoneNow 36 = .ok (.aload_n 0, 1) := dk_42 (dk_at dksX4_isDoneNow_1 12 rfl rfl)
theorem dX4_isDoneNow_37 : decode cX4_isDoneNow 37 = .ok (.iload_n 2, 1) := dk_28 (dk_at dksX4_isDoneNow_1 13 rfl rfl)
theorem dX4_isDoneNow_38 : decode cX4_isDoneNow 38 = .ok (.iload_n 3, 1) := dk_29 (dk_at dksX4_isDoneNow_1 14 rfl rfl)
theorem dX4_isDoneNow_39 : decode cX4_isDoneNow 39 = .ok (.iload 4, 2) := dk_21 4 (dk_at dksX4_isDoneNow_1 15 rfl rfl)
theorem dX4_isDoneNow_41 : decode cX4_isDoneNow 41 = .ok (.iload 5, 2) := dk_21 5 (dk_at dksX4_isDoneNow_1 17 rfl rfl)
theorem dX4_isDoneNow_43 : decode cX4_isDoneNow 43 = .ok (.invokevirtual 336, 3) := dk_182 1 80 (dk_at dksX4_isDoneNow_1 19 rfl rfl)
theorem dX4_isDoneNow_46 : decode cX4_isDoneNow 46 = .ok (.ifCond .eq 16, 3) := dk_153 0 16 (dk_at dksX4_isDoneNow_2 0 rfl rfl)
theorem dX4_isDoneNow_49 : decode cX4_isDoneNow 49 = .ok (.aload_n 0, 1) := dk_42 (dk_at dksX4_isDoneNow_2 3 rfl rfl)
theorem dX4_isDoneNow_50 : decode cX4_isDoneNow 50 = .ok (.iload_n 2, 1) := dk_28 (dk_at dksX4_isDoneNow_2 4 rfl rfl)
theorem dX4_isDoneNow_51 : decode cX4_isDoneNow 51 = .ok (.iload_n 3, 1) := dk_29 (dk_at dksX4_isDoneNow_2 5 rfl rfl)
theorem dX4_isDoneNow_52 : decode cX4_isDoneNow 52 = .ok (.iload 4, 2) := dk_21 4 (dk_at dksX4_isDoneNow_2 6 rfl rfl)
theorem dX4_isDoneNow_54 : decode cX4_isDoneNow 54 = .ok (.iload 5, 2) := dk_21 5 (dk_at dksX4_isDoneNow_2 8 rfl rfl)
theorem dX4_isDoneNow_56 : decode cX4_isDoneNow 56 = .ok (.invokevirtual 298, 3) := dk_182 1 42 (dk_at dksX4_isDoneNow_2 10 rfl rfl)
theorem dX4_isDoneNow_59 : decode cX4_isDoneNow 59 = .ok (.ifCond .ne 5, 3) := dk_154 0 5 (dk_at dksX4_isDoneNow_2 13 rfl rfl)
theorem dX4_isDoneNow_62 : decode cX4_isDoneNow 62 = .ok (.iconst 0, 1) := dk_3 (dk_at dksX4_isDoneNow_2 16 rfl rfl)
theorem dX4_isDoneNow_63 : decode cX4_isDoneNow 63 = .ok (.ireturn, 1) := dk_172 (dk_at dksX4_isDoneNow_2 17 rfl rfl)
theorem dX4_isDoneNow_64 : decode cX4_isDoneNow 64 = .ok (.aload_n 0, 1) := dk_42 (dk_at dksX4_isDoneNow_2 18 rfl rfl)
theorem dX4_isDoneNow_65 : decode cX4_isDoneNow 65 = .ok (.iload_n 2, 1) := dk_28 (dk_at dksX4_isDoneNow_2 19 rfl rfl)
theorem dX4_isDoneNow_66 : decode cX4_isDoneNow 66 = .ok (.iload_n 3, 1) := dk_29 (dk_at dksX4_isDoneNow_2 20 rfl rfl)
theorem dX4_isDoneNow_67 : decode cX4_isDoneNow 67 = .ok (.iload 4, 2) := dk_21 4 (dk_at dksX4_isDoneNow_2 21 rfl rfl)
theorem dX4_isDoneNow_69 : decode cX4_isDoneNow 69 = .ok (.iload 5, 2) := dk_21 5 (dk_at dksX4_isDoneNow_3 0 rfl rfl)
theorem dX4_isDoneNow_71 : decode cX4_isDoneNow 71 = .ok (.invokevirtual 305, 3) := dk_182 1 49 (dk_at dksX4_isDoneNow_3 2 rfl rfl)
theorem dX4_isDoneNow_74 : decode cX4_isDoneNow 74 = .ok (.istore 6, 2) := dk_54 6 (dk_at dksX4_isDoneNow_3 5 rfl rfl)
theorem dX4_isDoneNow_76 : decode cX4_isDoneNow 76 = .ok (.iconst 1, 1) := dk_4 (dk_at dksX4_isDoneNow_3 7 rfl rfl)
theorem dX4_isDoneNow_77 : decode cX4_isDoneNow 77 = .ok (.ireturn, 1) := dk_172 (dk_at dksX4_isDoneNow_3 8 rfl rfl)
abbrev cX4_areThere : ByteArray := prog_33_method_118_code
def yX4_areThere : MethodName := ⟨RX4, "areThere", "(IIII)Z"⟩
def dkwX4_areThere_6 : List UInt8 := [167, 0, 4, 3, 172]
abbrev dktX4_areThere_6 : List UInt8 := dkwX4_areThere_6 ++ []
def dkwX4_areThere_5 : List UInt8 := [172, 28, 42, 180, 0, 13, 4, 46, 162, 0, 17, 29, 42, 180, 0, 13, 3, 46, 162, 0, 7, 4]
abbrev dktX4_areThere_5 : List UInt8 := dkwX4_areThere_5 ++ dktX4_areThere_6
def dkwX4_areThere_4 : List UInt8 := [3, 46, 162, 0, 21, 21, 4, 42, 180, 0, 13, 16, 9, 29, 96, 46, 163, 0, 7, 4, 167, 0, 4, 3]
abbrev dktX4_areThere_4 : List UInt8 := dkwX4_areThere_4 ++ dktX4_areThere_5
def dkwX4_areThere_3 : List UInt8 := [162, 0, 7, 4, 167, 0, 4, 3, 172, 28, 42, 180, 0, 13, 4, 46, 162, 0, 31, 29, 42, 180, 0, 13]
abbrev dktX4_areThere_3 : List UInt8 := dkwX4_areThere_3 ++ dktX4_areThere_4
def dkwX4_areThere_2 : List UInt8 := [28, 42, 180, 0, 13, 4, 46, 162, 0, 7, 4, 167, 0, 4, 3, 172, 28, 42, 180, 0, 13, 3, 46]
abbrev dktX4_areThere_2 : List UInt8 := dkwX4_areThere_2 ++ dktX4_areThere_3
def dkwX4_areThere_1 : List UInt8 := [170, 0, 0, 0, 0, 0, 107, 0, 0, 0, 2, 0, 0, 0, 6, 0, 0, 0, 35, 0, 0, 0, 35, 0, 0, 0, 67, 0, 0, 0, 51, 0, 0, 0, 51]
abbrev dktX4_areThere_1 : List UInt8 := dkwX4_areThere_1 ++ dktX4_areThere_2
def dkwX4_areThere_0 : List UInt8 := [27]
abbrev dktX4_areThere_0 : List UInt8 := dkwX4_areThere_0 ++ dktX4_areThere_1
theorem dksX4_areThere_0 : cX4_areThere.data.toList.drop 0 = dktX4_areThere_0 := by decide +kernel
theorem dksX4_areThere_1 : cX4_areThere.data.toList.drop 1 = dktX4_areThere_1 := dk_seg dksX4_areThere_0 1 rfl rfl
theorem dksX4_areThere_2 : cX4_areThere.data.toList.drop 36 = dktX4_areThere_2 := dk_seg dksX4_areThere_1 35 rfl rfl
theorem dksX4_areThere_3 : cX4_areThere.data.toList.drop 59 = dktX4_areThere_3 := dk_seg dksX4_areThere_2 23 rfl rfl
theorem dksX4_areThere_4 : cX4_areThere.data.toList.drop 83 = dktX4_areThere_4 := dk_seg dksX4_areThere_3 24 rfl rfl
theorem dksX4_areThere_5 : cX4_areThere.data.toList.drop 107 = dktX4_areThere_5 := dk_seg dksX4_areThere_4 24 rfl rfl
theorem dksX4_areThere_6 : cX4_areThere.data.toList.drop 129 = dktX4_areThere_6 := dk_seg dksX4_areThere_5 22 rfl rfl
theorem dX4_areThere_0 : decode cX4_areThere 0 = .ok (.iload_n 1, 1) := dk_27 (dk_at dksX4_areThere_0 0 rfl rfl)
theorem dX4_areThere_1 : decode cX4_areThere 1 = .ok (.tableswitch 107 2 6 #[35, 35, 67, 51, 51], 35) := by decide +kernel
theorem dX4_areThere_36 : decode cX4_areThere 36 = .ok (.iload_n 2, 1) := dk_28 (dk_at dksX4_areThere_2 0 rfl rfl)
theorem dX4_areThere_37 : decode cX4_areThere 37 = .ok (.aload_n 0, 1) := dk_42 (dk_at dksX4_areThere_2 1 rfl rfl)
theorem dX4_areThere_38 : decode cX4_areThere 38 = .ok (.getfield 13, 3) := dk_180 0 13 (dk_at dksX4_areThere_2 2 rfl rfl)
theorem dX4_areThere_41 : decode cX4_areThere 41 = .ok (.iconst 1, 1) := dk_4 (dk_at dksX4_areThere_2 5 rfl rfl)
theorem dX4_areThere_42 : decode cX4_areThere 42 = .ok (.iaload, 1) := dk_46 (dk_at dksX4_areThere_2 6 rfl rfl)
theorem dX4_areThere_43 : decode cX4_areThere 43 = .ok (.if_icmp .ge 7, 3) := dk_162 0 7 (dk_at dksX4_areThere_2 7 rfl rfl)
theorem dX4_areThere_46 : decode cX4_areThere 46 = .ok (.iconst 1, 1) := dk_4 (dk_at dksX4_areThere_2 10 rfl rfl)
theorem dX4_areThere_47 : decode cX4_areThere 47 = .ok (.goto 4, 3) := dk_167 0 4 (dk_at dksX4_areThere_2 11 rfl rfl)
theorem dX4_areThere_50 : decode cX4_areThere 50 = .ok (.iconst 0, 1) := dk_3 (dk_at dksX4_areThere_2 14 rfl rfl)
theorem dX4_areThere_51 : decode cX4_areThere 51 = .ok (.ireturn, 1) := dk_172 (dk_at dksX4_areThere_2 15 rfl rfl)
theorem dX4_areThere_52 : decode cX4_areThere 52 = .ok (.iload_n 2, 1) := dk_28 (dk_at dksX4_areThere_2 16 rfl rfl)
theorem dX4_areThere_53 : decode cX4_areThere 53 = .ok (.aload_n 0, 1) := dk_42 (dk_at dksX4_areThere_2 17 rfl rfl)
theorem dX4_areThere_54 : decode cX4_areThere 54 = .ok (.getfield 13, 3) := dk_180 0 13 (dk_at dksX4_areThere_2 18 rfl rfl)
theorem dX4_areThere_57 : decode cX4_areThere 57 = .ok (.iconst 0, 1) := dk_3 (dk_at dksX4_areThere_2 21 rfl rfl)
theorem dX4_areThere_58 : decode cX4_areThere 58 = .ok (.iaload, 1) := dk_46 (dk_at dksX4_areThere_2 22 rfl rfl)
theorem dX4_areThere_59 : decode cX4_areThere 59 = .ok (.if_icmp .ge 7, 3) := dk_162 0 7 (dk_at dksX4_areThere_3 0 rfl rfl)
theorem dX4_areThere_62 : decode cX4_areThere 62 = .ok (.iconst 1, 1) := dk_4 (dk_at dksX4_areThere_3 3 rfl rfl)
theorem dX4_areThere_63 : decode cX4_areThere 63 = .ok (.goto 4, 3) := dk_167 0 4 (dk_at dksX4_areThere_3 4 rfl rfl)
theorem dX4_areThere_66 : decode cX4_areThere 66 = .ok (.iconst 0, 1) := dk_3 (dk_at dksX4_areThere_3 7 rfl rfl)
theorem dX4_areThere_67 : decode cX4_areThere 67 = .ok (.ireturn, 1) := dk_172 (dk_at dksX4_areThere_3 8 rfl rfl)
theorem dX4_areThere_68 : decode cX4_areThere 68 = .ok (.iload_n 2, 1) := dk_28 (dk_at dksX4_areThere_3 9 rfl rfl)
theorem dX4_areThere_69 : decode cX4_areThere 69 = .ok (.aload_n 0, 1) := dk_42 (dk_at dksX4_areThere_3 10 rfl rfl)
theorem dX4_areThere_70 : decode cX4_areThere 70 = .ok (.getfield 13, 3) := dk_180 0 13 (dk_at dksX4_areThere_3 11 rfl rfl)
theorem dX4_areThere_73 : decode cX4_areThere 73 = .ok (.iconst 1, 1) := dk_4 (dk_at dksX4_areThere_3 14 rfl rfl)
theorem dX4_areThere_74 : decode cX4_areThere 74 = .ok (.iaload, 1) := dk_46 (dk_at dksX4_areThere_3 15 rfl rfl)
theorem dX4_areThere_75 : decode cX4_areThere 75 = .ok (.if_icmp .ge 31, 3) := dk_162 0 31 (dk_at dksX4_areThere_3 16 rfl rfl)
theorem dX4_areThere_78 : decode cX4_areThere 78 = .ok (.iload_n 3, 1) := dk_29 (dk_at dksX4_areThere_3 19 rfl rfl)
theorem dX4_areThere_79 : decode cX4_areThere 79 = .ok (.aload_n 0, 1) := dk_42 (dk_at dksX4_areThere_3 20 rfl rfl)
theorem dX4_areThere_80 : decode cX4_areThere 80 = .ok (.getfield 13, 3) := dk_180 0 13 (dk_at dksX4_areThere_3 21 rfl rfl)
theorem dX4_areThere_83 : decode cX4_areThere 83 = .ok (.iconst 0, 1) := dk_3 (dk_at dksX4_areThere_4 0 rfl rfl)
theorem dX4_areThere_84 : decode cX4_areThere 84 = .ok (.iaload, 1) := dk_46 (dk_at dksX4_areThere_4 1 rfl rfl)
theorem dX4_areThere_85 : decode cX4_areThere 85 = .ok (.if_icmp .ge 21, 3) := dk_162 0 21 (dk_at dksX4_areThere_4 2 rfl rfl)
theorem dX4_areThere_88 : decode cX4_areThere 88 = .ok (.iload 4, 2) := dk_21 4 (dk_at dksX4_areThere_4 5 rfl rfl)
theorem dX4_areThere_90 : decode cX4_areThere 90 = .ok (.aload_n 0, 1) := dk_42 (dk_at dksX4_areThere_4 7 rfl rfl)
theorem dX4_areThere_91 : decode cX4_areThere 91 = .ok (.getfield 13, 3) := dk_180 0 13 (dk_at dksX4_areThere_4 8 rfl rfl)
theorem dX4_areThere_94 : decode cX4_areThere 94 = .ok (.bipush 9, 2) := dk_16 9 (dk_at dksX4_areThere_4 11 rfl rfl)
theorem dX4_areThere_96 : decode cX4_areThere 96 = .ok (.iload_n 3, 1) := dk_29 (dk_at dksX4_areThere_4 13 rfl rfl)
theorem dX4_areThere_97 : decode cX4_areThere 97 = .ok (.iadd, 1) := dk_96 (dk_at dksX4_areThere_4 14 rfl rfl)
theorem dX4_areThere_98 : decode cX4_areThere 98 = .ok (.iaload, 1) := dk_46 (dk_at dksX4_areThere_4 15 rfl rfl)
theorem dX4_areThere_99 : decode cX4_areThere 99 = .ok (.if_icmp .gt 7, 3) := dk_163 0 7 (dk_at dksX4_areThere_4 16 rfl rfl)
theorem dX4_areThere_102 : decode cX4_areThere 102 = .ok (.iconst 1, 1) := dk_4 (dk_at dksX4_areThere_4 19 rfl rfl)
theorem dX4_areThere_103 : decode cX4_areThere 103 = .ok (.goto 4, 3) := dk_167 0 4 (dk_at dksX4_areThere_4 20 rfl rfl)
theorem dX4_areThere_106 : decode cX4_areThere 106 = .ok (.iconst 0, 1) := dk_3 (dk_at dksX4_areThere_4 23 rfl rfl)
theorem dX4_areThere_107 : decode cX4_areThere 107 = .ok (.ireturn, 1) := dk_172 (dk_at dksX4_areThere_5 0 rfl rfl)
theorem dX4_areThere_108 : decode cX4_areThere 108 = .ok (.iload_n 2, 1) := dk_28 (dk_at dksX4_areThere_5 1 rfl rfl)
theorem dX4_areThere_109 : decode cX4_areThere 109 = .ok (.aload_n 0, 1) := dk_42 (dk_at dksX4_areThere_5 2 rfl rfl)
theorem dX4_areThere_110 : decode cX4_areThere 110 = .ok (.getfield 13, 3) := dk_180 0 13 (dk_at dksX4_areThere_5 3 rfl rfl)
theorem dX4_areThere_113 : decode cX4_areThere 113 = .ok (.iconst 1, 1) := dk_4 (dk_at dksX4_areThere_5 6 rfl rfl)
theorem dX4_areThere_114 : decode cX4_areThere 114 = .ok (.iaload, 1) := dk_46 (dk_at dksX4_areThere_5 7 rfl rfl)
theorem dX4_areThere_115 : decode cX4_areThere 115 = .ok (.if_icmp .ge 17, 3) := dk_162 0 17 (dk_at dksX4_areThere_5 8 rfl rfl)
theorem dX4_areThere_118 : decode cX4_areThere 118 = .ok (.iload_n 3, 1) := dk_29 (dk_at dksX4_areThere_5 11 rfl rfl)
theorem dX4_areThere_119 : decode cX4_areThere 119 = .ok (.aload_n 0, 1) := dk_42 (dk_at dksX4_areThere_5 12 rfl rfl)
theorem dX4_areThere_120 : decode cX4_areThere 120 = .ok (.getfield 13, 3) := dk_180 0 13 (dk_at dksX4_areThere_5 13 rfl rfl)
theorem dX4_areThere_123 : decode cX4_areThere 123 = .ok (.iconst 0, 1) := dk_3 (dk_at dksX4_areThere_5 16 rfl rfl)
theorem dX4_areThere_124 : decode cX4_areThere 124 = .ok (.iaload, 1) := dk_46 (dk_at dksX4_areThere_5 17 rfl rfl)
theorem dX4_areThere_125 : decode cX4_areThere 125 = .ok (.if_icmp .ge 7, 3) := dk_162 0 7 (dk_at dksX4_areThere_5 18 rfl rfl)
theorem dX4_areThere_128 : decode cX4_areThere 128 = .ok (.iconst 1, 1) := dk_4 (dk_at dksX4_areThere_5 21 rfl rfl)
theorem dX4_areThere_129 : decode cX4_areThere 129 = .ok (.goto 4, 3) := dk_167 0 4 (dk_at dksX4_areThere_6 0 rfl rfl)
theorem dX4_areThere_132 : decode cX4_areThere 132 = .ok (.iconst 0, 1) := dk_3 (dk_at dksX4_areThere_6 3 rfl rfl)
theorem dX4_areThere_133 : decode cX4_areThere 133 = .ok (.ireturn, 1) := dk_172 (dk_at dksX4_areThere_6 4 rfl rfl)
abbrev cX4_writeOffice : ByteArray := prog_33_method_123_code
def yX4_writeOffice : MethodName := ⟨RX4, "writeOffice", "(I)I"⟩
def dkwX4_writeOffice_5 : List UInt8 := [16, 58, 182, 1, 92, 42, 42, 27, 16, 9, 182, 0, 63, 182, 1, 95, 42, 180, 1, 89, 172]
abbrev dktX4_writeOffice_5 : List UInt8 := dkwX4_writeOffice_5 ++ []
def dkwX4_writeOffice_4 : List UInt8 := [182, 1, 92, 42, 16, 63, 182, 1, 92, 42, 42, 27, 16, 8, 182, 0, 63, 4, 100, 182, 1, 95, 42]
abbrev dktX4_writeOffice_4 : List UInt8 := dkwX4_writeOffice_4 ++ dktX4_writeOffice_5
def dkwX4_writeOffice_3 : List UInt8 := [132, 2, 1, 167, 255, 203, 42, 27, 182, 0, 107, 154, 0, 8, 42, 180, 1, 89, 172, 42, 16, 32]
abbrev dktX4_writeOffice_3 : List UInt8 := dkwX4_writeOffice_3 ++ dktX4_writeOffice_4
def dkwX4_writeOffice_2 : List UInt8 := [182, 0, 63, 182, 1, 95, 42, 16, 47, 182, 1, 92, 42, 42, 27, 3, 28, 96, 182, 0, 63, 182, 1, 95]
abbrev dktX4_writeOffice_2 : List UInt8 := dkwX4_writeOffice_2 ++ dktX4_writeOffice_3
def dkwX4_writeOffice_1 : List UInt8 := [180, 0, 13, 3, 46, 162, 0, 49, 28, 158, 0, 9, 42, 16, 32, 182, 1, 92, 42, 42, 27, 7, 28, 96]
abbrev dktX4_writeOffice_1 : List UInt8 := dkwX4_writeOffice_1 ++ dktX4_writeOffice_2
def dkwX4_writeOffice_0 : List UInt8 := [42, 3, 181, 0, 1, 42, 27, 182, 1, 12, 153, 0, 5, 3, 172, 42, 3, 181, 1, 89, 3, 61, 28, 42]
abbrev dktX4_writeOffice_0 : List UInt8 := dkwX4_writeOffice_0 ++ dktX4_writeOffice_1
theorem dksX4_writeOffice_0 : cX4_writeOffice.data.toList.drop 0 = dktX4_writeOffice_0 := by decide +kernel
theorem dksX4_writeOffice_1 : cX4_writeOffice.data.toList.drop 24 = dktX4_writeOffice_1 := dk_seg dksX4_writeOffice_0 24 rfl rfl
theorem dksX4_writeOffice_2 : cX4_writeOffice.data.toList.drop 48 = dktX4_writeOffice_2 := dk_seg dksX4_writeOffice_1 24 rfl rfl
theorem dksX4_writeOffice_3 : cX4_writeOffice.data.toList.drop 72 = dktX4_writeOffice_3 := dk_seg dksX4_writeOffice_2 24 rfl rfl
theorem dksX4_writeOffice_4 : cX4_writeOffice.data.toList.drop 94 = dktX4_writeOffice_4 := dk_seg dksX4_writeOffice_3 22 rfl rfl
theorem dksX4_writeOffice_5 : cX4_writeOffice.data.toList.drop 117 = dktX4_writeOffice_5 := dk_seg dksX4_writeOffice_4 23 rfl rfl
theorem dX4_writeOffice_0 : decode cX4_writeOffice 0 = .ok (.aload_n 0, 1) := dk_42 (dk_at dksX4_writeOffice_0 0 rfl rfl)
theorem dX4_writeOffice_1 : decode cX4_writeOffice 1 = .ok (.iconst 0, 1) := dk_3 (dk_at dksX4_writeOffice_0 1 rfl rfl)
theorem dX4_writeOffice_2 : decode cX4_writeOffice 2 = .ok (.putfield 1, 3) := dk_181 0 1 (dk_at dksX4_writeOffice_0 2 rfl rfl)
theorem dX4_writeOffice_5 : decode cX4_writeOffice 5 = .ok (.aload_n 0, 1) := dk_42 (dk_at dksX4_writeOffice_0 5 rfl rfl)
theorem dX4_writeOffice_6 : decode cX4_writeOffice 6 = .ok (.iload_n 1, 1) := dk_27 (dk_at dksX4_writeOffice_0 6 rfl rfl)
theorem dX4_writeOffice_7 : decode cX4_writeOffice 7 = .ok (.invokevirtual 268, 3) := dk_182 1 12 (dk_at dksX4_writeOffice_0 7 rfl rfl)
theorem dX4_writeOffice_10 : decode cX4_writeOffice 10 = .ok (.ifCond .eq 5, 3) := dk_153 0 5 (dk_at dksX4_writeOffice_0 10 rfl rfl)
theorem dX4_writeOffice_13 : decode cX4_writeOffice 13 = .ok (.iconst 0, 1) := dk_3 (dk_at dksX4_writeOffice_0 13 rfl rfl)
theorem dX4_writeOffice_14 : decode cX4_writeOffice 14 = .ok (.ireturn, 1) := dk_172 (dk_at dksX4_writeOffice_0 14 rfl rfl)
theorem dX4_writeOffice_15 : decode cX4_writeOffice 15 = .ok (.aload_n 0, 1) := dk_42 (dk_at dksX4_writeOffice_0 15 rfl rfl)
theorem dX4_writeOffice_16 : decode cX4_writeOffice 16 = .ok (.iconst 0, 1) := dk_3 (dk_at dksX4_writeOffice_0 16 rfl rfl)
theorem dX4_writeOffice_17 : decode cX4_writeOffice 17 = .ok (.putfield 345, 3) := dk_181 1 89 (dk_at dksX4_writeOffice_0 17 rfl rfl)
theorem dX4_writeOffice_20 : decode cX4_writeOffice 20 = .ok (.iconst 0, 1) := dk_3 (dk_at dksX4_writeOffice_0 20 rfl rfl)
theorem dX4_writeOffice_21 : decode cX4_writeOffice 21 = .ok (.istore_n 2, 1) := dk_61 (dk_at dksX4_writeOffice_0 21 rfl rfl)
theorem dX4_writeOffice_22 : decode cX4_writeOffice 22 = .ok (.iload_n 2, 1) := dk_28 (dk_at dksX4_writeOffice_0 22 rfl rfl)
theorem dX4_writeOffice_23 : decode cX4_writeOffice 23 = .ok (.aload_n 0, 1) := dk_42 (dk_at dksX4_writeOffice_0 23 rfl rfl)
theorem dX4_writeOffice_24 : decode cX4_writeOffice 24 = .ok (.getfield 13, 3) := dk_180 0 13 (dk_at dksX4_writeOffice_1 0 rfl rfl)
theorem dX4_writeOffice_27 : decode cX4_writeOffice 27 = .ok (.iconst 0, 1) := dk_3 (dk_at dksX4_writeOffice_1 3 rfl rfl)
theorem dX4_writeOffice_28 : decode cX4_writeOffice 28 = .ok (.iaload, 1) := dk_46 (dk_at dksX4_writeOffice_1 4 rfl rfl)
theorem dX4_writeOffice_29 : decode cX4_writeOffice 29 = .ok (.if_icmp .ge 49, 3) := dk_162 0 49 (dk_at dksX4_writeOffice_1 5 rfl rfl)
theorem dX4_writeOffice_32 : decode cX4_writeOffice 32 = .ok (.iload_n 2, 1) := dk_28 (dk_at dksX4_writeOffice_1 8 rfl rfl)
theorem dX4_writeOffice_33 : decode cX4_writeOffice 33 = .ok (.ifCond .le 9, 3) := dk_158 0 9 (dk_at dksX4_writeOffice_1 9 rfl rfl)
theorem dX4_writeOffice_36 : decode cX4_writeOffice 36 = .ok (.aload_n 0, 1) := dk_42 (dk_at dksX4_writeOffice_1 12 rfl rfl)
theorem dX4_writeOffice_37 : decode cX4_writeOffice 37 = .ok (.bipush 32, 2) := dk_16 32 (dk_at dksX4_writeOffice_1 13 rfl rfl)
theorem dX4_writeOffice_39 : decode cX4_writeOffice 39 = .ok (.invokevirtual 348, 3) := dk_182 1 92 (dk_at dksX4_writeOffice_1 15 rfl rfl)
theorem dX4_writeOffice_42 : decode cX4_writeOffice 42 = .ok (.aload_n 0, 1) := dk_42 (dk_at dksX4_writeOffice_1 18 rfl rfl)
theorem dX4_writeOffice_43 : decode cX4_writeOffice 43 = .ok (.aload_n 0, 1) := dk_42 (dk_at dksX4_writeOffice_1 19 rfl rfl)
theorem dX4_writeOffice_44 : decode cX4_writeOffice 44 = .ok (.iload_n 1, 1) := dk_27 (dk_at dksX4_writeOffice_1 20 rfl rfl)
theorem dX4_writeOffice_45 : decode cX4_writeOffice 45 = .ok (.iconst 4, 1) := dk_7 (dk_at dksX4_writeOffice_1 21 rfl rfl)
theorem dX4_writeOffice_46 : decode cX4_writeOffice 46 = .ok (.iload_n 2, 1) := dk_28 (dk_at dksX4_writeOffice_1 22 rfl rfl)
theorem dX4_writeOffice_47 : decode cX4_writeOffice 47 = .ok (.iadd, 1) := dk_96 (dk_at dksX4_writeOffice_1 23 rfl rfl)
theorem dX4_writeOffice_48 : decode cX4_writeOffice 48 = .ok (.invokevirtual 63, 3) := dk_182 0 63 (dk_at dksX4_writeOffice_2 0 rfl rfl)
theorem dX4_writeOffice_51 : decode cX4_writeOffice 51 = .ok (.invokevirtual 351, 3) := dk_182 1 95 (dk_at dksX4_writeOffice_2 3 rfl rfl)
theorem dX4_writeOffice_54 : decode cX4_writeOffice 54 = .ok (.aload_n 0, 1) := dk_42 (dk_at dksX4_writeOffice_2 6 rfl rfl)
theorem dX4_writeOffice_55 : decode cX4_writeOffice 55 = .ok (.bipush 47, 2) := dk_16 47 (dk_at dksX4_writeOffice_2 7 rfl rfl)
theorem dX4_writeOffice_57 : decode cX4_writeOffice 57 = .ok (.invokevirtual 348, 3) := dk_182 1 92 (dk_at dksX4_writeOffice_2 9 rfl rfl)
theorem dX4_writeOffice_60 : decode cX4_writeOffice 60 = .ok (.aload_n 0, 1) := dk_42 (dk_at dksX4_writeOffice_2 12 rfl rfl)
theorem dX4_writeOffice_61 : decode cX4_writeOffice 61 = .ok (.aload_n 0, 1) := dk_42 (dk_at dksX4_writeOffice_2 13 rfl rfl)
theorem dX4_writeOffice_62 : decode cX4_writeOffice 62 = .ok (.iload_n 1, 1) := dk_27 (dk_at dksX4_writeOffice_2 14 rfl rfl)
theorem dX4_writeOffice_63 : decode cX4_writeOffice 63 = .ok (.iconst 0, 1) := dk_3 (dk_at dksX4_writeOffice_2 15 rfl rfl)
theorem dX4_writeOffice_64 : decode cX4_writeOffice 64 = .ok (.iload_n 2, 1) := dk_28 (dk_at dksX4_writeOffice_2 16 rfl rfl)
theorem dX4_writeOffice_65 : decode cX4_writeOffice 65 = .ok (.iadd, 1) := dk_96 (dk_at dksX4_writeOffice_2 17 rfl rfl)
theorem dX4_writeOffice_66 : decode cX4_writeOffice 66 = .ok (.invokevirtual 63, 3) := dk_182 0 63 (dk_at dksX4_writeOffice_2 18 rfl rfl)
theorem dX4_writeOffice_69 : decode cX4_writeOffice 69 = .ok (.invokevirtual 351, 3) := dk_182 1 95 (dk_at dksX4_writeOffice_2 21 rfl rfl)
theorem dX4_writeOffice_72 : decode cX4_writeOffice 72 = .ok (.iinc 2 1, 3) := dk_132 2 1 (dk_at dksX4_writeOffice_3 0 rfl rfl)
theorem dX4_writeOffice_75 : decode cX4_writeOffice 75 = .ok (.goto (-53), 3) := dk_167 255 203 (dk_at dksX4_writeOffice_3 3 rfl rfl)
theorem dX4_writeOffice_78 : decode cX4_writeOffice 78 = .ok (.aload_n 0, 1) := dk_42 (dk_at dksX4_writeOffice_3 6 rfl rfl)
theorem dX4_writeOffice_79 : decode cX4_writeOffice 79 = .ok (.iload_n 1, 1) := dk_27 (dk_at dksX4_writeOffice_3 7 rfl rfl)
theorem dX4_writeOffice_80 : decode cX4_writeOffice 80 = .ok (.invokevirtual 107, 3) := dk_182 0 107 (dk_at dksX4_writeOffice_3 8 rfl rfl)
theorem dX4_writeOffice_83 : decode cX4_writeOffice 83 = .ok (.ifCond .ne 8, 3) := dk_154 0 8 (dk_at dksX4_writeOffice_3 11 rfl rfl)
theorem dX4_writeOffice_86 : decode cX4_writeOffice 86 = .ok (.aload_n 0, 1) := dk_42 (dk_at dksX4_writeOffice_3 14 rfl rfl)
theorem dX4_writeOffice_87 : decode cX4_writeOffice 87 = .ok (.getfield 345, 3) := dk_180 1 89 (dk_at dksX4_writeOffice_3 15 rfl rfl)
theorem dX4_writeOffice_90 : decode cX4_writeOffice 90 = .ok (.ireturn, 1) := dk_172 (dk_at dksX4_writeOffice_3 18 rfl rfl)
theorem dX4_writeOffice_91 : decode cX4_writeOffice 91 = .ok (.aload_n 0, 1) := dk_42 (dk_at dksX4_writeOffice_3 19 rfl rfl)
theorem dX4_writeOffice_92 : decode cX4_writeOffice 92 = .ok (.bipush 32, 2) := dk_16 32 (dk_at dksX4_writeOffice_3 20 rfl rfl)
theorem dX4_writeOffice_94 : decode cX4_writeOffice 94 = .ok (.invokevirtual 348, 3) := dk_182 1 92 (dk_at dksX4_writeOffice_4 0 rfl rfl)
theorem dX4_writeOffice_97 : decode cX4_writeOffice 97 = .ok (.aload_n 0, 1) := dk_42 (dk_at dksX4_writeOffice_4 3 rfl rfl)
theorem dX4_writeOffice_98 : decode cX4_writeOffice 98 = .ok (.bipush 63, 2) := dk_16 63 (dk_at dksX4_writeOffice_4 4 rfl rfl)
theorem dX4_writeOffice_100 : decode cX4_writeOffice 100 = .ok (.invokevirtual 348, 3) := dk_182 1 92 (dk_at dksX4_writeOffice_4 6 rfl rfl)
theorem dX4_writeOffice_103 : decode cX4_writeOffice 103 = .ok (.aload_n 0, 1) := dk_42 (dk_at dksX4_writeOffice_4 9 rfl rfl)
theorem dX4_writeOffice_104 : decode cX4_writeOffice 104 = .ok (.aload_n 0, 1) := dk_42 (dk_at dksX4_writeOffice_4 10 rfl rfl)
theorem dX4_writeOffice_105 : decode cX4_writeOffice 105 = .ok (.iload_n 1, 1) := dk_27 (dk_at dksX4_writeOffice_4 11 rfl rfl)
theorem dX4_writeOffice_106 : decode cX4_writeOffice 106 = .ok (.bipush 8, 2) := dk_16 8 (dk_at dksX4_writeOffice_4 12 rfl rfl)
theorem dX4_writeOffice_108 : decode cX4_writeOffice 108 = .ok (.invokevirtual 63, 3) := dk_182 0 63 (dk_at dksX4_writeOffice_4 14 rfl rfl)
theorem dX4_writeOffice_111 : decode cX4_writeOffice 111 = .ok (.iconst 1, 1) := dk_4 (dk_at dksX4_writeOffice_4 17 rfl rfl)
theorem dX4_writeOffice_112 : decode cX4_writeOffice 112 = .ok (.isub, 1) := dk_100 (dk_at dksX4_writeOffice_4 18 rfl rfl)
theorem dX4_writeOffice_113 : decode cX4_writeOffice 113 = .ok (.invokevirtual 351, 3) := dk_182 1 95 (dk_at dksX4_writeOffice_4 19 rfl rfl)
theorem dX4_writeOffice_116 : decode cX4_writeOffice 116 = .ok (.aload_n 0, 1) := dk_42 (dk_at dksX4_writeOffice_4 22 rfl rfl)
theorem dX4_writeOffice_117 : decode cX4_writeOffice 117 = .ok (.bipush 58, 2) := dk_16 58 (dk_at dksX4_writeOffice_5 0 rfl rfl)
theorem dX4_writeOffice_119 : decode cX4_writeOffice 119 = .ok (.invokevirtual 348, 3) := dk_182 1 92 (dk_at dksX4_writeOffice_5 2 rfl rfl)
theorem dX4_writeOffice_122 : decode cX4_writeOffice 122 = .ok (.aload_n 0, 1) := dk_42 (dk_at dksX4_writeOffice_5 5 rfl rfl)
theorem dX4_writeOffice_123 : decode cX4_writeOffice 123 = .ok (.aload_n 0, 1) := dk_42 (dk_at dksX4_writeOffice_5 6 rfl rfl)
theorem dX4_writeOffice_124 : decode cX4_writeOffice 124 = .ok (.iload_n 1, 1) := dk_27 (dk_at dksX4_writeOffice_5 7 rfl rfl)
theorem dX4_writeOffice_125 : decode cX4_writeOffice 125 = .ok (.bipush 9, 2) := dk_16 9 (dk_at dksX4_writeOffice_5 8 rfl rfl)
theorem dX4_writeOffice_127 : decode cX4_writeOffice 127 = .ok (.invokevirtual 63, 3) := dk_182 0 63 (dk_at dksX4_writeOffice_5 10 rfl rfl)
theorem dX4_writeOffice_130 : decode cX4_writeOffice 130 = .ok (.invokevirtual 351, 3) := dk_182 1 95 (dk_at dksX4_writeOffice_5 13 rfl rfl)
theorem dX4_writeOffice_133 : decode cX4_writeOffice 133 = .ok (.aload_n 0, 1) := dk_42 (dk_at dksX4_writeOffice_5 16 rfl rfl)
theorem dX4_writeOffice_134 : decode cX4_writeOffice 134 = .ok (.getfield 345, 3) := dk_180 1 89 (dk_at dksX4_writeOffice_5 17 rfl rfl)
theorem dX4_writeOffice_137 : decode cX4_writeOffice 137 = .ok (.ireturn, 1) := dk_172 (dk_at dksX4_writeOffice_5 20 rfl rfl)
abbrev cX4_writes : ByteArray := prog_33_method_121_code
def yX4_writes : MethodName := ⟨RX4, "writes", "(I)V"⟩
def dkwX4_writes_0 : List UInt8 := [42, 180, 0, 41, 42, 180, 1, 89, 27, 79, 42, 89, 180, 1, 89, 4, 96, 181, 1, 89, 177]
abbrev dktX4_writes_0 : List UInt8 := dkwX4_writes_0 ++ []
theorem dksX4_writes_0 : cX4_writes.data.toList.drop 0 = dktX4_writes_0 := by decide +kernel
theorem dX4_writes_0 : decode cX4_writes 0 = .ok (.aload_n 0, 1) := dk_42 (dk_at dksX4_writes_0 0 rfl rfl)
theorem dX4_writes_1 : decode cX4_writes 1 = .ok (.getfield 41, 3) := dk_180 0 41 (dk_at dksX4_writes_0 1 rfl rfl)
theorem dX4_writes_4 : decode cX4_writes 4 = .ok (.aload_n 0, 1) := dk_42 (dk_at dksX4_writes_0 4 rfl rfl)
theorem dX4_writes_5 : decode cX4_writes 5 = .ok (.getfield 345, 3) := dk_180 1 89 (dk_at dksX4_writes_0 5 rfl rfl)
theorem dX4_writes_8 : decode cX4_writes 8 = .ok (.iload_n 1, 1) := dk_27 (dk_at dksX4_writes_0 8 rfl rfl)
theorem dX4_writes_9 : decode cX4_writes 9 = .ok (.iastore, 1) := dk_79 (dk_at dksX4_writes_0 9 rfl rfl)
theorem dX4_writes_10 : decode cX4_writes 10 = .ok (.aload_n 0, 1) := dk_42 (dk_at dksX4_writes_0 10 rfl rfl)
theorem dX4_writes_11 : decode cX4_writes 11 = .ok (.dup, 1) := dk_89 (dk_at dksX4_writes_0 11 rfl rfl)
theorem dX4_writes_12 : decode cX4_writes 12 = .ok (.getfield 345, 3) := dk_180 1 89 (dk_at dksX4_writes_0 12 rfl rfl)
theorem dX4_writes_15 : decode cX4_writes 15 = .ok (.iconst 1, 1) := dk_4 (dk_at dksX4_writes_0 15 rfl rfl)
theorem dX4_writes_16 : decode cX4_writes 16 = .ok (.iadd, 1) := dk_96 (dk_at dksX4_writes_0 16 rfl rfl)
theorem dX4_writes_17 : decode cX4_writes 17 = .ok (.putfield 345, 3) := dk_181 1 89 (dk_at dksX4_writes_0 17 rfl rfl)
theorem dX4_writes_20 : decode cX4_writes 20 = .ok (.return_, 1) := dk_177 (dk_at dksX4_writes_0 20 rfl rfl)
abbrev cX4_writesNumber : ByteArray := prog_33_method_122_code
def yX4_writesNumber : MethodName := ⟨RX4, "writesNumber", "(I)V"⟩
def dkwX4_writesNumber_1 : List UInt8 := [96, 182, 1, 92, 177]
abbrev dktX4_writesNumber_1 : List UInt8 := dkwX4_writesNumber_1 ++ []
def dkwX4_writesNumber_0 : List UInt8 := [27, 16, 9, 164, 0, 14, 42, 16, 48, 27, 16, 10, 108, 96, 182, 1, 92, 42, 16, 48, 27, 16, 10, 112]
abbrev dktX4_writesNumber_0 : List UInt8 := dkwX4_writesNumber_0 ++ dktX4_writesNumber_1
theorem dksX4_writesNumber_0 : cX4_writesNumber.data.toList.drop 0 = dktX4_writesNumber_0 := by decide +kernel
theorem dksX4_writesNumber_1 : cX4_writesNumber.data.toList.drop 24 = dktX4_writesNumber_1 := dk_seg dksX4_writesNumber_0 24 rfl rfl
theorem dX4_writesNumber_0 : decode cX4_writesNumber 0 = .ok (.iload_n 1, 1) := dk_27 (dk_at dksX4_writesNumber_0 0 rfl rfl)
theorem dX4_writesNumber_1 : decode cX4_writesNumber 1 = .ok (.bipush 9, 2) := dk_16 9 (dk_at dksX4_writesNumber_0 1 rfl rfl)
theorem dX4_writesNumber_3 : decode cX4_writesNumber 3 = .ok (.if_icmp .le 14, 3) := dk_164 0 14 (dk_at dksX4_writesNumber_0 3 rfl rfl)
theorem dX4_writesNumber_6 : decode cX4_writesNumber 6 = .ok (.aload_n 0, 1) := dk_42 (dk_at dksX4_writesNumber_0 6 rfl rfl)
theorem dX4_writesNumber_7 : decode cX4_writesNumber 7 = .ok (.bipush 48, 2) := dk_16 48 (dk_at dksX4_writesNumber_0 7 rfl rfl)
theorem dX4_writesNumber_9 : decode cX4_writesNumber 9 = .ok (.iload_n 1, 1) := dk_27 (dk_at dksX4_writesNumber_0 9 rfl rfl)
theorem dX4_writesNumber_10 : decode cX4_writesNumber 10 = .ok (.bipush 10, 2) := dk_16 10 (dk_at dksX4_writesNumber_0 10 rfl rfl)
theorem dX4_writesNumber_12 : decode cX4_writesNumber 12 = .ok (.idiv, 1) := dk_108 (dk_at dksX4_writesNumber_0 12 rfl rfl)
theorem dX4_writesNumber_13 : decode cX4_writesNumber 13 = .ok (.iadd, 1) := dk_96 (dk_at dksX4_writesNumber_0 13 rfl rfl)
theorem dX4_writesNumber_14 : decode cX4_writesNumber 14 = .ok (.invokevirtual 348, 3) := dk_182 1 92 (dk_at dksX4_writesNumber_0 14 rfl rfl)
theorem dX4_writesNumber_17 : decode cX4_writesNumber 17 = .ok (.aload_n 0, 1) := dk_42 (dk_at dksX4_writesNumber_0 17 rfl rfl)
theorem dX4_writesNumber_18 : decode cX4_writesNumber 18 = .ok (.bipush 48, 2) := dk_16 48 (dk_at dksX4_writesNumber_0 18 rfl rfl)
theorem dX4_writesNumber_20 : decode cX4_writesNumber 20 = .ok (.iload_n 1, 1) := dk_27 (dk_at dksX4_writesNumber_0 20 rfl rfl)
theorem dX4_writesNumber_21 : decode cX4_writesNumber 21 = .ok (.bipush 10, 2) := dk_16 10 (dk_at dksX4_writesNumber_0 21 rfl rfl)
theorem dX4_writesNumber_23 : decode cX4_writesNumber 23 = .ok (.irem, 1) := dk_112 (dk_at dksX4_writesNumber_0 23 rfl rfl)
theorem dX4_writesNumber_24 : decode cX4_writesNumber 24 = .ok (.iadd, 1) := dk_96 (dk_at dksX4_writesNumber_1 0 rfl rfl)
theorem dX4_writesNumber_25 : decode cX4_writesNumber 25 = .ok (.invokevirtual 348, 3) := dk_182 1 92 (dk_at dksX4_writesNumber_1 1 rfl rfl)
theorem dX4_writesNumber_28 : decode cX4_writesNumber 28 = .ok (.return_, 1) := dk_177 (dk_at dksX4_writesNumber_1 4 rfl rfl)
abbrev cX4_outputByte : ByteArray := prog_33_method_124_code
def yX4_outputByte : MethodName := ⟨RX4, "outputByte", "(I)I"⟩
def dkwX4_outputByte_1 : List UInt8 := [3, 167, 0, 9, 42, 180, 0, 41, 27, 46, 172]
abbrev dktX4_outputByte_1 : List UInt8 := dkwX4_outputByte_1 ++ []
def dkwX4_outputByte_0 : List UInt8 := [42, 3, 181, 0, 1, 42, 27, 3, 42, 180, 1, 89, 4, 100, 184, 0, 209, 4, 182, 0, 241, 153, 0, 7]
abbrev dktX4_outputByte_0 : List UInt8 := dkwX4_outputByte_0 ++ dktX4_outputByte_1
theorem dksX4_outputByte_0 : cX4_outputByte.data.toList.drop 0 = dktX4_outputByte_0 := by decide +kernel
theorem dksX4_outputByte_1 : cX4_outputByte.data.toList.drop 24 = dktX4_outputByte_1 := dk_seg dksX4_outputByte_0 24 rfl rfl
theorem dX4_outputByte_0 : decode cX4_outputByte 0 = .ok (.aload_n 0, 1) := dk_42 (dk_at dksX4_outputByte_0 0 rfl rfl)
theorem dX4_outputByte_1 : decode cX4_outputByte 1 = .ok (.iconst 0, 1) := dk_3 (dk_at dksX4_outputByte_0 1 rfl rfl)
theorem dX4_outputByte_2 : decode cX4_outputByte 2 = .ok (.putfield 1, 3) := dk_181 0 1 (dk_at dksX4_outputByte_0 2 rfl rfl)
theorem dX4_outputByte_5 : decode cX4_outputByte 5 = .ok (.aload_n 0, 1) := dk_42 (dk_at dksX4_outputByte_0 5 rfl rfl)
theorem dX4_outputByte_6 : decode cX4_outputByte 6 = .ok (.iload_n 1, 1) := dk_27 (dk_at dksX4_outputByte_0 6 rfl rfl)
theorem dX4_outputByte_7 : decode cX4_outputByte 7 = .ok (.iconst 0, 1) := dk_3 (dk_at dksX4_outputByte_0 7 rfl rfl)
theorem dX4_outputByte_8 : decode cX4_outputByte 8 = .ok (.aload_n 0, 1) := dk_42 (dk_at dksX4_outputByte_0 8 rfl rfl)
theorem dX4_outputByte_9 : decode cX4_outputByte 9 = .ok (.getfield 345, 3) := dk_180 1 89 (dk_at dksX4_outputByte_0 9 rfl rfl)
theorem dX4_outputByte_12 : decode cX4_outputByte 12 = .ok (.iconst 1, 1) := dk_4 (dk_at dksX4_outputByte_0 12 rfl rfl)
theorem dX4_outputByte_13 : decode cX4_outputByte 13 = .ok (.isub, 1) := dk_100 (dk_at dksX4_outputByte_0 13 rfl rfl)
theorem dX4_outputByte_14 : decode cX4_outputByte 14 = .ok (.invokestatic 209, 3) := dk_184 0 209 (dk_at dksX4_outputByte_0 14 rfl rfl)
theorem dX4_outputByte_17 : decode cX4_outputByte 17 = .ok (.iconst 1, 1) := dk_4 (dk_at dksX4_outputByte_0 17 rfl rfl)
theorem dX4_outputByte_18 : decode cX4_outputByte 18 = .ok (.invokevirtual 241, 3) := dk_182 0 241 (dk_at dksX4_outputByte_0 18 rfl rfl)
theorem dX4_outputByte_21 : decode cX4_outputByte 21 = .ok (.ifCond .eq 7, 3) := dk_153 0 7 (dk_at dksX4_outputByte_0 21 rfl rfl)
theorem dX4_outputByte_24 : decode cX4_outputByte 24 = .ok (.iconst 0, 1) := dk_3 (dk_at dksX4_outputByte_1 0 rfl rfl)
theorem dX4_outputByte_25 : decode cX4_outputByte 25 = .ok (.goto 9, 3) := dk_167 0 9 (dk_at dksX4_outputByte_1 1 rfl rfl)
theorem dX4_outputByte_28 : decode cX4_outputByte 28 = .ok (.aload_n 0, 1) := dk_42 (dk_at dksX4_outputByte_1 4 rfl rfl)
theorem dX4_outputByte_29 : decode cX4_outputByte 29 = .ok (.getfield 41, 3) := dk_180 0 41 (dk_at dksX4_outputByte_1 5 rfl rfl)
theorem dX4_outputByte_32 : decode cX4_outputByte 32 = .ok (.iload_n 1, 1) := dk_27 (dk_at dksX4_outputByte_1 8 rfl rfl)
theorem dX4_outputByte_33 : decode cX4_outputByte 33 = .ok (.iaload, 1) := dk_46 (dk_at dksX4_outputByte_1 9 rfl rfl)
theorem dX4_outputByte_34 : decode cX4_outputByte 34 = .ok (.ireturn, 1) := dk_172 (dk_at dksX4_outputByte_1 10 rfl rfl)
abbrev cX4_undoableCount : ByteArray := prog_33_method_125_code
def yX4_undoableCount : MethodName := ⟨RX4, "undoableCount", "()I"⟩
def dkwX4_undoableCount_0 : List UInt8 := [42, 3, 181, 0, 1, 42, 180, 0, 255, 172]
abbrev dktX4_undoableCount_0 : List UInt8 := dkwX4_undoableCount_0 ++ []
theorem dksX4_undoableCount_0 : cX4_undoableCount.data.toList.drop 0 = dktX4_undoableCount_0 := by decide +kernel
theorem dX4_undoableCount_0 : decode cX4_undoableCount 0 = .ok (.aload_n 0, 1) := dk_42 (dk_at dksX4_undoableCount_0 0 rfl rfl)
theorem dX4_undoableCount_1 : decode cX4_undoableCount 1 = .ok (.iconst 0, 1) := dk_3 (dk_at dksX4_undoableCount_0 1 rfl rfl)
theorem dX4_undoableCount_2 : decode cX4_undoableCount 2 = .ok (.putfield 1, 3) := dk_181 0 1 (dk_at dksX4_undoableCount_0 2 rfl rfl)
theorem dX4_undoableCount_5 : decode cX4_undoableCount 5 = .ok (.aload_n 0, 1) := dk_42 (dk_at dksX4_undoableCount_0 5 rfl rfl)
theorem dX4_undoableCount_6 : decode cX4_undoableCount 6 = .ok (.getfield 255, 3) := dk_180 0 255 (dk_at dksX4_undoableCount_0 6 rfl rfl)
theorem dX4_undoableCount_9 : decode cX4_undoableCount 9 = .ok (.ireturn, 1) := dk_172 (dk_at dksX4_undoableCount_0 9 rfl rfl)
abbrev cX4_undo : ByteArray := prog_33_method_126_code
def yX4_undo : MethodName := ⟨RX4, "undo", "()I"⟩
def dkwX4_undo_2 : List UInt8 := [180, 0, 255, 104, 42, 180, 0, 13, 3, 16, 101, 184, 0, 245, 42, 180, 0, 255, 172]
abbrev dktX4_undo_2 : List UInt8 := dkwX4_undo_2 ++ []
def dkwX4_undo_1 : List UInt8 := [153, 0, 5, 3, 172, 42, 89, 180, 0, 255, 4, 100, 181, 0, 255, 42, 180, 0, 26, 16, 101, 42]
abbrev dktX4_undo_1 : List UInt8 := dkwX4_undo_1 ++ dktX4_undo_2
def dkwX4_undo_0 : List UInt8 := [42, 3, 181, 0, 1, 42, 42, 180, 0, 255, 158, 0, 7, 4, 167, 0, 4, 3, 4, 182, 0, 241]
abbrev dktX4_undo_0 : List UInt8 := dkwX4_undo_0 ++ dktX4_undo_1
theorem dksX4_undo_0 : cX4_undo.data.toList.drop 0 = dktX4_undo_0 := by decide +kernel
theorem dksX4_undo_1 : cX4_undo.data.toList.drop 22 = dktX4_undo_1 := dk_seg dksX4_undo_0 22 rfl rfl
theorem dksX4_undo_2 : cX4_undo.data.toList.drop 44 = dktX4_undo_2 := dk_seg dksX4_undo_1 22 rfl rfl
theorem dX4_undo_0 : decode cX4_undo 0 = .ok (.aload_n 0, 1) := dk_42 (dk_at dksX4_undo_0 0 rfl rfl)
theorem dX4_undo_1 : decode cX4_undo 1 = .ok (.iconst 0, 1) := dk_3 (dk_at dksX4_undo_0 1 rfl rfl)
theorem dX4_undo_2 : decode cX4_undo 2 = .ok (.putfield 1, 3) := dk_181 0 1 (dk_at dksX4_undo_0 2 rfl rfl)
theorem dX4_undo_5 : decode cX4_undo 5 = .ok (.aload_n 0, 1) := dk_42 (dk_at dksX4_undo_0 5 rfl rfl)
theorem dX4_undo_6 : decode cX4_undo 6 = .ok (.aload_n 0, 1) := dk_42 (dk_at dksX4_undo_0 6 rfl rfl)
theorem dX4_undo_7 : decode cX4_undo 7 = .ok (.getfield 255, 3) := dk_180 0 255 (dk_at dksX4_undo_0 7 rfl rfl)
theorem dX4_undo_10 : decode cX4_undo 10 = .ok (.ifCond .le 7, 3) := dk_158 0 7 (dk_at dksX4_undo_0 10 rfl rfl)
theorem dX4_undo_13 : decode cX4_undo 13 = .ok (.iconst 1, 1) := dk_4 (dk_at dksX4_undo_0 13 rfl rfl)
theorem dX4_undo_14 : decode cX4_undo 14 = .ok (.goto 4, 3) := dk_167 0 4 (dk_at dksX4_undo_0 14 rfl rfl)
theorem dX4_undo_17 : decode cX4_undo 17 = .ok (.iconst 0, 1) := dk_3 (dk_at dksX4_undo_0 17 rfl rfl)
theorem dX4_undo_18 : decode cX4_undo 18 = .ok (.iconst 1, 1) := dk_4 (dk_at dksX4_undo_0 18 rfl rfl)
theorem dX4_undo_19 : decode cX4_undo 19 = .ok (.invokevirtual 241, 3) := dk_182 0 241 (dk_at dksX4_undo_0 19 rfl rfl)
theorem dX4_undo_22 : decode cX4_undo 22 = .ok (.ifCond .eq 5, 3) := dk_153 0 5 (dk_at dksX4_undo_1 0 rfl rfl)
theorem dX4_undo_25 : decode cX4_undo 25 = .ok (.iconst 0, 1) := dk_3 (dk_at dksX4_undo_1 3 rfl rfl)
theorem dX4_undo_26 : decode cX4_undo 26 = .ok (.ireturn, 1) := dk_172 (dk_at dksX4_undo_1 4 rfl rfl)
theorem dX4_undo_27 : decode cX4_undo 27 = .ok (.aload_n 0, 1) := dk_42 (dk_at dksX4_undo_1 5 rfl rfl)
theorem dX4_undo_28 : decode cX4_undo 28 = .ok (.dup, 1) := dk_89 (dk_at dksX4_undo_1 6 rfl rfl)
theorem dX4_undo_29 : decode cX4_undo 29 = .ok (.getfield 255, 3) := dk_180 0 255 (dk_at dksX4_undo_1 7 rfl rfl)
theorem dX4_undo_32 : decode cX4_undo 32 = .ok (.iconst 1, 1) := dk_4 (dk_at dksX4_undo_1 10 rfl rfl)
theorem dX4_undo_33 : decode cX4_undo 33 = .ok (.isub, 1) := dk_100 (dk_at dksX4_undo_1 11 rfl rfl)
theorem dX4_undo_34 : decode cX4_undo 34 = .ok (.putfield 255, 3) := dk_181 0 255 (dk_at dksX4_undo_1 12 rfl rfl)
theorem dX4_undo_37 : decode cX4_undo 37 = .ok (.aload_n 0, 1) := dk_42 (dk_at dksX4_undo_1 15 rfl rfl)
theorem dX4_undo_38 : decode cX4_undo 38 = .ok (.getfield 26, 3) := dk_180 0 26 (dk_at dksX4_undo_1 16 rfl rfl)
theorem dX4_undo_41 : decode cX4_undo 41 = .ok (.bipush 101, 2) := dk_16 101 (dk_at dksX4_undo_1 19 rfl rfl)
theorem dX4_undo_43 : decode cX4_undo 43 = .ok (.aload_n 0, 1) := dk_42 (dk_at dksX4_undo_1 21 rfl rfl)
theorem dX4_undo_44 : decode cX4_undo 44 = .ok (.getfield 255, 3) := dk_180 0 255 (dk_at dksX4_undo_2 0 rfl rfl)
theorem dX4_undo_47 : decode cX4_undo 47 = .ok (.imul, 1) := dk_104 (dk_at dksX4_undo_2 3 rfl rfl)
theorem dX4_undo_48 : decode cX4_undo 48 = .ok (.aload_n 0, 1) := dk_42 (dk_at dksX4_undo_2 4 rfl rfl)
theorem dX4_undo_49 : decode cX4_undo 49 = .ok (.getfield 13, 3) := dk_180 0 13 (dk_at dksX4_undo_2 5 rfl rfl)
theorem dX4_undo_52 : decode cX4_undo 52 = .ok (.iconst 0, 1) := dk_3 (dk_at dksX4_undo_2 8 rfl rfl)
theorem dX4_undo_53 : decode cX4_undo 53 = .ok (.bipush 101, 2) := dk_16 101 (dk_at dksX4_undo_2 9 rfl rfl)
theorem dX4_undo_55 : decode cX4_undo 55 = .ok (.invokestatic 245, 3) := dk_184 0 245 (dk_at dksX4_undo_2 11 rfl rfl)
theorem dX4_undo_58 : decode cX4_undo 58 = .ok (.aload_n 0, 1) := dk_42 (dk_at dksX4_undo_2 14 rfl rfl)
theorem dX4_undo_59 : decode cX4_undo 59 = .ok (.getfield 255, 3) := dk_180 0 255 (dk_at dksX4_undo_2 15 rfl rfl)
theorem dX4_undo_62 : decode cX4_undo 62 = .ok (.ireturn, 1) := dk_172 (dk_at dksX4_undo_2 18 rfl rfl)
abbrev cX4_saveSnapshot : ByteArray := prog_33_method_127_code
def yX4_saveSnapshot : MethodName := ⟨RX4, "saveSnapshot", "()V"⟩
def dkwX4_saveSnapshot_1 : List UInt8 := [181, 1, 2, 177]
abbrev dktX4_saveSnapshot_1 : List UInt8 := dkwX4_saveSnapshot_1 ++ []
def dkwX4_saveSnapshot_0 : List UInt8 := [42, 3, 181, 0, 1, 42, 180, 0, 13, 3, 42, 180, 0, 20, 3, 16, 101, 184, 0, 245, 42, 4]
abbrev dktX4_saveSnapshot_0 : List UInt8 := dkwX4_saveSnapshot_0 ++ dktX4_saveSnapshot_1
theorem dksX4_saveSnapshot_0 : cX4_saveSnapshot.data.toList.drop 0 = dktX4_saveSnapshot_0 := by decide +kernel
theorem dksX4_saveSnapshot_1 : cX4_saveSnapshot.data.toList.drop 22 = dktX4_saveSnapshot_1 := dk_seg dksX4_saveSnapshot_0 22 rfl rfl
theorem dX4_saveSnapshot_0 : decode cX4_saveSnapshot 0 = .ok (.aload_n 0, 1) := dk_42 (dk_at dksX4_saveSnapshot_0 0 rfl rfl)
theorem dX4_saveSnapshot_1 : decode cX4_saveSnapshot 1 = .ok (.iconst 0, 1) := dk_3 (dk_at dksX4_saveSnapshot_0 1 rfl rfl)
theorem dX4_saveSnapshot_2 : decode cX4_saveSnapshot 2 = .ok (.putfield 1, 3) := dk_181 0 1 (dk_at dksX4_saveSnapshot_0 2 rfl rfl)
theorem dX4_saveSnapshot_5 : decode cX4_saveSnapshot 5 = .ok (.aload_n 0, 1) := dk_42 (dk_at dksX4_saveSnapshot_0 5 rfl rfl)
theorem dX4_saveSnapshot_6 : decode cX4_saveSnapshot 6 = .ok (.getfield 13, 3) := dk_180 0 13 (dk_at dksX4_saveSnapshot_0 6 rfl rfl)
theorem dX4_saveSnapshot_9 : decode cX4_saveSnapshot 9 = .ok (.iconst 0, 1) := dk_3 (dk_at dksX4_saveSnapshot_0 9 rfl rfl)
theorem dX4_saveSnapshot_10 : decode cX4_saveSnapshot 10 = .ok (.aload_n 0, 1) := dk_42 (dk_at dksX4_saveSnapshot_0 10 rfl rfl)
theorem dX4_saveSnapshot_11 : decode cX4_saveSnapshot 11 = .ok (.getfield 20, 3) := dk_180 0 20 (dk_at dksX4_saveSnapshot_0 11 rfl rfl)
theorem dX4_saveSnapshot_14 : decode cX4_saveSnapshot 14 = .ok (.iconst 0, 1) := dk_3 (dk_at dksX4_saveSnapshot_0 14 rfl rfl)
theorem dX4_saveSnapshot_15 : decode cX4_saveSnapshot 15 = .ok (.bipush 101, 2) := dk_16 101 (dk_at dksX4_saveSnapshot_0 15 rfl rfl)
theorem dX4_saveSnapshot_17 : decode cX4_saveSnapshot 17 = .ok (.invokestatic 245, 3) := dk_184 0 245 (dk_at dksX4_saveSnapshot_0 17 rfl rfl)
theorem dX4_saveSnapshot_20 : decode cX4_saveSnapshot 20 = .ok (.aload_n 0, 1) := dk_42 (dk_at dksX4_saveSnapshot_0 20 rfl rfl)
theorem dX4_saveSnapshot_21 : decode cX4_saveSnapshot 21 = .ok (.iconst 1, 1) := dk_4 (dk_at dksX4_saveSnapshot_0 21 rfl rfl)
theorem dX4_saveSnapshot_22 : decode cX4_saveSnapshot 22 = .ok (.putfield 258, 3) := dk_181 1 2 (dk_at dksX4_saveSnapshot_1 0 rfl rfl)
theorem dX4_saveSnapshot_25 : decode cX4_saveSnapshot 25 = .ok (.return_, 1) := dk_177 (dk_at dksX4_saveSnapshot_1 3 rfl rfl)
abbrev cX4_restoreSnapshot : ByteArray := prog_33_method_128_code
def yX4_restoreSnapshot : MethodName := ⟨RX4, "restoreSnapshot", "()I"⟩
def dkwX4_restoreSnapshot_1 : List UInt8 := [42, 180, 0, 13, 3, 16, 101, 184, 0, 245, 42, 3, 181, 0, 255, 42, 182, 0, 118, 172]
abbrev dktX4_restoreSnapshot_1 : List UInt8 := dkwX4_restoreSnapshot_1 ++ []
def dkwX4_restoreSnapshot_0 : List UInt8 := [42, 3, 181, 0, 1, 42, 42, 180, 1, 2, 4, 182, 0, 241, 153, 0, 5, 3, 172, 42, 180, 0, 20, 3]
abbrev dktX4_restoreSnapshot_0 : List UInt8 := dkwX4_restoreSnapshot_0 ++ dktX4_restoreSnapshot_1
theorem dksX4_restoreSnapshot_0 : cX4_restoreSnapshot.data.toList.drop 0 = dktX4_restoreSnapshot_0 := by decide +kernel
theorem dksX4_restoreSnapshot_1 : cX4_restoreSnapshot.data.toList.drop 24 = dktX4_restoreSnapshot_1 := dk_seg dksX4_restoreSnapshot_0 24 rfl rfl
theorem dX4_restoreSnapshot_0 : decode cX4_restoreSnapshot 0 = .ok (.aload_n 0, 1) := dk_42 (dk_at dksX4_restoreSnapshot_0 0 rfl rfl)
theorem dX4_restoreSnapshot_1 : decode cX4_restoreSnapshot 1 = .ok (.iconst 0, 1) := dk_3 (dk_at dksX4_restoreSnapshot_0 1 rfl rfl)
theorem dX4_restoreSnapshot_2 : decode cX4_restoreSnapshot 2 = .ok (.putfield 1, 3) := dk_181 0 1 (dk_at dksX4_restoreSnapshot_0 2 rfl rfl)
theorem dX4_restoreSnapshot_5 : decode cX4_restoreSnapshot 5 = .ok (.aload_n 0, 1) := dk_42 (dk_at dksX4_restoreSnapshot_0 5 rfl rfl)
theorem dX4_restoreSnapshot_6 : decode cX4_restoreSnapshot 6 = .ok (.aload_n 0, 1) := dk_42 (dk_at dksX4_restoreSnapshot_0 6 rfl rfl)
theorem dX4_restoreSnapshot_7 : decode cX4_restoreSnapshot 7 = .ok (.getfield 258, 3) := dk_180 1 2 (dk_at dksX4_restoreSnapshot_0 7 rfl rfl)
theorem dX4_restoreSnapshot_10 : decode cX4_restoreSnapshot 10 = .ok (.iconst 1, 1) := dk_4 (dk_at dksX4_restoreSnapshot_0 10 rfl rfl)
theorem dX4_restoreSnapshot_11 : decode cX4_restoreSnapshot 11 = .ok (.invokevirtual 241, 3) := dk_182 0 241 (dk_at dksX4_restoreSnapshot_0 11 rfl rfl)
theorem dX4_restoreSnapshot_14 : decode cX4_restoreSnapshot 14 = .ok (.ifCond .eq 5, 3) := dk_153 0 5 (dk_at dksX4_restoreSnapshot_0 14 rfl rfl)
theorem dX4_restoreSnapshot_17 : decode cX4_restoreSnapshot 17 = .ok (.iconst 0, 1) := dk_3 (dk_at dksX4_restoreSnapshot_0 17 rfl rfl)
theorem dX4_restoreSnapshot_18 : decode cX4_restoreSnapshot 18 = .ok (.ireturn, 1) := dk_172 (dk_at dksX4_restoreSnapshot_0 18 rfl rfl)
theorem dX4_restoreSnapshot_19 : decode cX4_restoreSnapshot 19 = .ok (.aload_n 0, 1) := dk_42 (dk_at dksX4_restoreSnapshot_0 19 rfl rfl)
theorem dX4_restoreSnapshot_20 : decode cX4_restoreSnapshot 20 = .ok (.getfield 20, 3) := dk_180 0 20 (dk_at dksX4_restoreSnapshot_0 20 rfl rfl)
theorem dX4_restoreSnapshot_23 : decode cX4_restoreSnapshot 23 = .ok (.iconst 0, 1) := dk_3 (dk_at dksX4_restoreSnapshot_0 23 rfl rfl)
theorem dX4_restoreSnapshot_24 : decode cX4_restoreSnapshot 24 = .ok (.aload_n 0, 1) := dk_42 (dk_at dksX4_restoreSnapshot_1 0 rfl rfl)
theorem dX4_restoreSnapshot_25 : decode cX4_restoreSnapshot 25 = .ok (.getfield 13, 3) := dk_180 0 13 (dk_at dksX4_restoreSnapshot_1 1 rfl rfl)
theorem dX4_restoreSnapshot_28 : decode cX4_restoreSnapshot 28 = .ok (.iconst 0, 1) := dk_3 (dk_at dksX4_restoreSnapshot_1 4 rfl rfl)
theorem dX4_restoreSnapshot_29 : decode cX4_restoreSnapshot 29 = .ok (.bipush 101, 2) := dk_16 101 (dk_at dksX4_restoreSnapshot_1 5 rfl rfl)
theorem dX4_restoreSnapshot_31 : decode cX4_restoreSnapshot 31 = .ok (.invokestatic 245, 3) := dk_184 0 245 (dk_at dksX4_restoreSnapshot_1 7 rfl rfl)
theorem dX4_restoreSnapshot_34 : decode cX4_restoreSnapshot 34 = .ok (.aload_n 0, 1) := dk_42 (dk_at dksX4_restoreSnapshot_1 10 rfl rfl)
theorem dX4_restoreSnapshot_35 : decode cX4_restoreSnapshot 35 = .ok (.iconst 0, 1) := dk_3 (dk_at dksX4_restoreSnapshot_1 11 rfl rfl)
theorem dX4_restoreSnapshot_36 : decode cX4_restoreSnapshot 36 = .ok (.putfield 255, 3) := dk_181 0 255 (dk_at dksX4_restoreSnapshot_1 12 rfl rfl)
theorem dX4_restoreSnapshot_39 : decode cX4_restoreSnapshot 39 = .ok (.aload_n 0, 1) := dk_42 (dk_at dksX4_restoreSnapshot_1 15 rfl rfl)
theorem dX4_restoreSnapshot_40 : decode cX4_restoreSnapshot 40 = .ok (.invokevirtual 118, 3) := dk_182 0 118 (dk_at dksX4_restoreSnapshot_1 16 rfl rfl)
theorem dX4_restoreSnapshot_43 : decode cX4_restoreSnapshot 43 = .ok (.ireturn, 1) := dk_172 (dk_at dksX4_restoreSnapshot_1 19 rfl rfl)
theorem q122 : (Jvm.Cond.initialized "PrinterClaimsModel") ∈ lw_all := lw_g (lw_at lw_m1 24 rfl) rfl
theorem q672 : (Jvm.Cond.selects "PrinterClaimsModel" ({ cls := "java/lang/Object", name := "getClass", desc := "()Ljava/lang/Class;" } : Jvm.MethodName) ({ cls := "java/lang/Object", name := "getClass", desc := "()Ljava/lang/Class;" } : Jvm.MethodName)) ∈ lw_all := lw_g (lw_at lw_m3 94 rfl) rfl
theorem q2347 : (Jvm.Cond.instanceMethod ({ cls := "PrinterClaimsModel", name := "thrown", desc := "()I" } : Jvm.MethodName)) ∈ lw_all := lw_g (lw_at lw_m10 89 rfl) rfl
theorem q2348 : (Jvm.Cond.selects "PrinterClaimsModel" ({ cls := "PrinterClaimsModel", name := "thrown", desc := "()I" } : Jvm.MethodName) ({ cls := "PrinterClaimsModel", name := "thrown", desc := "()I" } : Jvm.MethodName)) ∈ lw_all := lw_g (lw_at lw_m10 90 rfl) rfl
theorem q2349 : (Jvm.Cond.code ({ cls := "PrinterClaimsModel", name := "thrown", desc := "()I" } : Jvm.MethodName) prog_33_method_1_code (1 : Nat) (Option.some Jvm.ClassFile.FieldType.int)) ∈ lw_all := lw_g (lw_at lw_m10 91 rfl) rfl
theorem q2351 : (Jvm.Cond.instantiable "PrinterClaimsModel" (22 : Nat)) ∈ lw_all := lw_g (lw_at lw_m10 93 rfl) rfl
theorem q2353 : (Jvm.Cond.instanceMethod ({ cls := "PrinterClaimsModel", name := "<init>", desc := "()V" } : Jvm.MethodName)) ∈ lw_all := lw_g (lw_at lw_m10 95 rfl) rfl
theorem q2354 : (Jvm.Cond.code ({ cls := "PrinterClaimsModel", name := "<init>", desc := "()V" } : Jvm.MethodName) prog_33_method_6_code (3 : Nat) (Option.none : Option Jvm.ClassFile.FieldType)) ∈ lw_all := lw_g (lw_at lw_m10 96 rfl) rfl
theorem q2355 : (Jvm.Cond.methodLink "PrinterClaimsModel" (7 : Nat) ({ cls := "java/lang/Object", name := "<init>", desc := "()V" } : Jvm.MethodName)) ∈ lw_all := lw_g (lw_at lw_m10 97 rfl) rfl
theorem q2356 : (Jvm.Cond.stringRef "PrinterClaimsModel" (44 : Nat) "printers 10 5 7;office 7 5 3 holds 0 1 0;office 3 2 2 holds 2 0 0;office 9 0 2 holds 3 0 2;office 2 2 2 holds 2 1 1;office 4 3 3 holds 0 0 2;") ∈ lw_tbl := lw_at lw_m10 98 rfl
theorem q2357 : (Jvm.Cond.methodLink "PrinterClaimsModel" (46 : Nat) ({ cls := "java/lang/String", name := "length", desc := "()I" } : Jvm.MethodName)) ∈ lw_all := lw_g (lw_at lw_m10 99 rfl) rfl
theorem q2358 : (Jvm.Cond.methodLink "PrinterClaimsModel" (52 : Nat) ({ cls := "java/lang/String", name := "charAt", desc := "(I)C" } : Jvm.MethodName)) ∈ lw_all := lw_g (lw_at lw_m10 100 rfl) rfl
theorem q2359 : (Jvm.Cond.methodLink "PrinterClaimsModel" (59 : Nat) ({ cls := "PrinterClaimsModel", name := "loadSystem", desc := "(I)I" } : Jvm.MethodName)) ∈ lw_all := lw_g (lw_at lw_m10 101 rfl) rfl
theorem q2360 : (Jvm.Cond.instanceMethod ({ cls := "PrinterClaimsModel", name := "loadSystem", desc := "(I)I" } : Jvm.MethodName)) ∈ lw_all := lw_g (lw_at lw_m10 102 rfl) rfl
theorem q2361 : (Jvm.Cond.selects "PrinterClaimsModel" ({ cls := "PrinterClaimsModel", name := "loadSystem", desc := "(I)I" } : Jvm.MethodName) ({ cls := "PrinterClaimsModel", name := "loadSystem", desc := "(I)I" } : Jvm.MethodName)) ∈ lw_all := lw_g (lw_at lw_m10 103 rfl) rfl
theorem q2362 : (Jvm.Cond.code ({ cls := "PrinterClaimsModel", name := "loadSystem", desc := "(I)I" } : Jvm.MethodName) prog_33_method_63_code (2 : Nat) (Option.some Jvm.ClassFile.FieldType.int)) ∈ lw_all := lw_g (lw_at lw_m10 104 rfl) rfl
theorem q2363 : (Jvm.Cond.methodLink "PrinterClaimsModel" (209 : Nat) ({ cls := "PrinterClaimsModel", name := "in", desc := "(III)Z" } : Jvm.MethodName)) ∈ lw_all := lw_g (lw_at lw_m10 105 rfl) rfl
theorem q2364 : (Jvm.Cond.static ({ cls := "PrinterClaimsModel", name := "in", desc := "(III)Z" } : Jvm.MethodName)) ∈ lw_all := lw_g (lw_at lw_m10 106 rfl) rfl
theorem q2365 : (Jvm.Cond.code ({ cls := "PrinterClaimsModel", name := "in", desc := "(III)Z" } : Jvm.MethodName) prog_33_method_2_code (3 : Nat) (Option.some Jvm.ClassFile.FieldType.boolean)) ∈ lw_all := lw_g (lw_at lw_m10 107 rfl) rfl
theorem q2366 : (Jvm.Cond.methodLink "PrinterClaimsModel" (241 : Nat) ({ cls := "PrinterClaimsModel", name := "fails", desc := "(ZI)Z" } : Jvm.MethodName)) ∈ lw_all := lw_g (lw_at lw_m10 108 rfl) rfl
theorem q2367 : (Jvm.Cond.privateMethod ({ cls := "PrinterClaimsModel", name := "fails", desc := "(ZI)Z" } : Jvm.MethodName)) ∈ lw_tbl := lw_at lw_m10 109 rfl
theorem q2368 : (Jvm.Cond.instanceMethod ({ cls := "PrinterClaimsModel", name := "fails", desc := "(ZI)Z" } : Jvm.MethodName)) ∈ lw_all := lw_g (lw_at lw_m10 110 rfl) rfl
theorem q2369 : (Jvm.Cond.code ({ cls := "PrinterClaimsModel", name := "fails", desc := "(ZI)Z" } : Jvm.MethodName) prog_33_method_3_code (3 : Nat) (Option.some Jvm.ClassFile.FieldType.boolean)) ∈ lw_all := lw_g (lw_at lw_m10 111 rfl) rfl
theorem q2370 : (Jvm.Cond.methodLink "PrinterClaimsModel" (245 : Nat) ({ cls := "PrinterClaimsModel", name := "copies", desc := "([II[III)V" } : Jvm.MethodName)) ∈ lw_all := lw_g (lw_at lw_m10 112 rfl) rfl
theorem q2371 : (Jvm.Cond.static ({ cls := "PrinterClaimsModel", name := "copies", desc := "([II[III)V" } : Jvm.MethodName)) ∈ lw_all := lw_g (lw_at lw_m10 113 rfl) rfl
theorem q2372 : (Jvm.Cond.code ({ cls := "PrinterClaimsModel", name := "copies", desc := "([II[III)V" } : Jvm.MethodName) prog_33_method_7_code (6 : Nat) (Option.none : Option Jvm.ClassFile.FieldType)) ∈ lw_all := lw_g (lw_at lw_m10 114 rfl) rfl
theorem q2373 : (Jvm.Cond.methodLink "PrinterClaimsModel" (249 : Nat) ({ cls := "PrinterClaimsModel", name := "starts", desc := "(I)V" } : Jvm.MethodName)) ∈ lw_all := lw_g (lw_at lw_m10 115 rfl) rfl
theorem q2374 : (Jvm.Cond.privateMethod ({ cls := "PrinterClaimsModel", name := "starts", desc := "(I)V" } : Jvm.MethodName)) ∈ lw_tbl := lw_at lw_m10 116 rfl
theorem q2375 : (Jvm.Cond.instanceMethod ({ cls := "PrinterClaimsModel", name := "starts", desc := "(I)V" } : Jvm.MethodName)) ∈ lw_all := lw_g (lw_at lw_m10 117 rfl) rfl
theorem q2376 : (Jvm.Cond.code ({ cls := "PrinterClaimsModel", name := "starts", desc := "(I)V" } : Jvm.MethodName) prog_33_method_52_code (2 : Nat) (Option.none : Option Jvm.ClassFile.FieldType)) ∈ lw_all := lw_g (lw_at lw_m10 118 rfl) rfl
theorem q2377 : (Jvm.Cond.methodLink "PrinterClaimsModel" (199 : Nat) ({ cls := "PrinterClaimsModel", name := "next", desc := "()V" } : Jvm.MethodName)) ∈ lw_all := lw_g (lw_at lw_m10 119 rfl) rfl
theorem q2378 : (Jvm.Cond.privateMethod ({ cls := "PrinterClaimsModel", name := "next", desc := "()V" } : Jvm.MethodName)) ∈ lw_tbl := lw_at lw_m10 120 rfl
theorem q2379 : (Jvm.Cond.instanceMethod ({ cls := "PrinterClaimsModel", name := "next", desc := "()V" } : Jvm.MethodName)) ∈ lw_all := lw_g (lw_at lw_m10 121 rfl) rfl
theorem q2380 : (Jvm.Cond.code ({ cls := "PrinterClaimsModel", name := "next", desc := "()V" } : Jvm.MethodName) prog_33_method_51_code (1 : Nat) (Option.none : Option Jvm.ClassFile.FieldType)) ∈ lw_all := lw_g (lw_at lw_m10 122 rfl) rfl
theorem q2381 : (Jvm.Cond.methodLink "PrinterClaimsModel" (180 : Nat) ({ cls := "PrinterClaimsModel", name := "byteAt", desc := "(I)I" } : Jvm.MethodName)) ∈ lw_all := lw_g (lw_at lw_m10 123 rfl) rfl
theorem q2382 : (Jvm.Cond.privateMethod ({ cls := "PrinterClaimsModel", name := "byteAt", desc := "(I)I" } : Jvm.MethodName)) ∈ lw_tbl := lw_at lw_m10 124 rfl
theorem q2383 : (Jvm.Cond.instanceMethod ({ cls := "PrinterClaimsModel", name := "byteAt", desc := "(I)I" } : Jvm.MethodName)) ∈ lw_all := lw_g (lw_at lw_m10 125 rfl) rfl
theorem q2384 : (Jvm.Cond.code ({ cls := "PrinterClaimsModel", name := "byteAt", desc := "(I)I" } : Jvm.MethodName) prog_33_method_47_code (2 : Nat) (Option.some Jvm.ClassFile.FieldType.int)) ∈ lw_all := lw_g (lw_at lw_m10 126 rfl) rfl
theorem q2385 : (Jvm.Cond.methodLink "PrinterClaimsModel" (193 : Nat) ({ cls := "PrinterClaimsModel", name := "isLetter", desc := "(I)Z" } : Jvm.MethodName)) ∈ lw_all := lw_g (lw_at lw_m10 127 rfl) rfl
theorem q2386 : (Jvm.Cond.static ({ cls := "PrinterClaimsModel", name := "isLetter", desc := "(I)Z" } : Jvm.MethodName)) ∈ lw_all := lw_g (lw_at lw_m10 128 rfl) rfl
theorem q2387 : (Jvm.Cond.code ({ cls := "PrinterClaimsModel", name := "isLetter", desc := "(I)Z" } : Jvm.MethodName) prog_33_method_48_code (1 : Nat) (Option.some Jvm.ClassFile.FieldType.boolean)) ∈ lw_all := lw_g (lw_at lw_m10 129 rfl) rfl
theorem q2388 : (Jvm.Cond.methodLink "PrinterClaimsModel" (183 : Nat) ({ cls := "PrinterClaimsModel", name := "isFigure", desc := "(I)Z" } : Jvm.MethodName)) ∈ lw_all := lw_g (lw_at lw_m10 130 rfl) rfl
theorem q2389 : (Jvm.Cond.static ({ cls := "PrinterClaimsModel", name := "isFigure", desc := "(I)Z" } : Jvm.MethodName)) ∈ lw_all := lw_g (lw_at lw_m10 131 rfl) rfl
theorem q2390 : (Jvm.Cond.code ({ cls := "PrinterClaimsModel", name := "isFigure", desc := "(I)Z" } : Jvm.MethodName) prog_33_method_49_code (1 : Nat) (Option.some Jvm.ClassFile.FieldType.boolean)) ∈ lw_all := lw_g (lw_at lw_m10 132 rfl) rfl
theorem q2391 : (Jvm.Cond.methodLink "PrinterClaimsModel" (196 : Nat) ({ cls := "PrinterClaimsModel", name := "readsNumber", desc := "()V" } : Jvm.MethodName)) ∈ lw_all := lw_g (lw_at lw_m10 133 rfl) rfl
theorem q2392 : (Jvm.Cond.privateMethod ({ cls := "PrinterClaimsModel", name := "readsNumber", desc := "()V" } : Jvm.MethodName)) ∈ lw_tbl := lw_at lw_m10 134 rfl
theorem q2393 : (Jvm.Cond.instanceMethod ({ cls := "PrinterClaimsModel", name := "readsNumber", desc := "()V" } : Jvm.MethodName)) ∈ lw_all := lw_g (lw_at lw_m10 135 rfl) rfl
theorem q2394 : (Jvm.Cond.code ({ cls := "PrinterClaimsModel", name := "readsNumber", desc := "()V" } : Jvm.MethodName) prog_33_method_50_code (1 : Nat) (Option.none : Option Jvm.ClassFile.FieldType)) ∈ lw_all := lw_g (lw_at lw_m10 136 rfl) rfl
theorem q2395 : (Jvm.Cond.constant "PrinterClaimsModel" (186 : Nat) (9999999 : Int32)) ∈ lw_all := lw_g (lw_at lw_m10 137 rfl) rfl
theorem q2396 : (Jvm.Cond.methodLink "PrinterClaimsModel" (252 : Nat) ({ cls := "PrinterClaimsModel", name := "readsText", desc := "()V" } : Jvm.MethodName)) ∈ lw_all := lw_g (lw_at lw_m10 138 rfl) rfl
theorem q2397 : (Jvm.Cond.privateMethod ({ cls := "PrinterClaimsModel", name := "readsText", desc := "()V" } : Jvm.MethodName)) ∈ lw_tbl := lw_at lw_m10 139 rfl
theorem q2398 : (Jvm.Cond.instanceMethod ({ cls := "PrinterClaimsModel", name := "readsText", desc := "()V" } : Jvm.MethodName)) ∈ lw_all := lw_g (lw_at lw_m10 140 rfl) rfl
theorem q2399 : (Jvm.Cond.code ({ cls := "PrinterClaimsModel", name := "readsText", desc := "()V" } : Jvm.MethodName) prog_33_method_59_code (2 : Nat) (Option.none : Option Jvm.ClassFile.FieldType)) ∈ lw_all := lw_g (lw_at lw_m10 141 rfl) rfl
theorem q2400 : (Jvm.Cond.stringRef "PrinterClaimsModel" (212 : Nat) "printers") ∈ lw_tbl := lw_at lw_m10 142 rfl
theorem q2401 : (Jvm.Cond.methodLink "PrinterClaimsModel" (214 : Nat) ({ cls := "PrinterClaimsModel", name := "mustWord", desc := "(Ljava/lang/String;)V" } : Jvm.MethodName)) ∈ lw_all := lw_g (lw_at lw_m10 143 rfl) rfl
theorem q2402 : (Jvm.Cond.privateMethod ({ cls := "PrinterClaimsModel", name := "mustWord", desc := "(Ljava/lang/String;)V" } : Jvm.MethodName)) ∈ lw_tbl := lw_at lw_m10 144 rfl
theorem q2403 : (Jvm.Cond.instanceMethod ({ cls := "PrinterClaimsModel", name := "mustWord", desc := "(Ljava/lang/String;)V" } : Jvm.MethodName)) ∈ lw_all := lw_g (lw_at lw_m10 145 rfl) rfl
theorem q2404 : (Jvm.Cond.code ({ cls := "PrinterClaimsModel", name := "mustWord", desc := "(Ljava/lang/String;)V" } : Jvm.MethodName) prog_33_method_55_code (2 : Nat) (Option.none : Option Jvm.ClassFile.FieldType)) ∈ lw_all := lw_g (lw_at lw_m10 146 rfl) rfl
theorem q2405 : (Jvm.Cond.methodLink "PrinterClaimsModel" (202 : Nat) ({ cls := "PrinterClaimsModel", name := "isWord", desc := "(Ljava/lang/String;)Z" } : Jvm.MethodName)) ∈ lw_all := lw_g (lw_at lw_m10 147 rfl) rfl
theorem q2406 : (Jvm.Cond.privateMethod ({ cls := "PrinterClaimsModel", name := "isWord", desc := "(Ljava/lang/String;)Z" } : Jvm.MethodName)) ∈ lw_tbl := lw_at lw_m10 148 rfl
theorem q2407 : (Jvm.Cond.instanceMethod ({ cls := "PrinterClaimsModel", name := "isWord", desc := "(Ljava/lang/String;)Z" } : Jvm.MethodName)) ∈ lw_all := lw_g (lw_at lw_m10 149 rfl) rfl
theorem q2408 : (Jvm.Cond.code ({ cls := "PrinterClaimsModel", name := "isWord", desc := "(Ljava/lang/String;)Z" } : Jvm.MethodName) prog_33_method_54_code (3 : Nat) (Option.some Jvm.ClassFile.FieldType.boolean)) ∈ lw_all := lw_g (lw_at lw_m10 150 rfl) rfl
theorem q2409 : (Jvm.Cond.methodLink "PrinterClaimsModel" (206 : Nat) ({ cls := "PrinterClaimsModel", name := "errs", desc := "(I)V" } : Jvm.MethodName)) ∈ lw_all := lw_g (lw_at lw_m10 151 rfl) rfl
theorem q2410 : (Jvm.Cond.privateMethod ({ cls := "PrinterClaimsModel", name := "errs", desc := "(I)V" } : Jvm.MethodName)) ∈ lw_tbl := lw_at lw_m10 152 rfl
theorem q2411 : (Jvm.Cond.instanceMethod ({ cls := "PrinterClaimsModel", name := "errs", desc := "(I)V" } : Jvm.MethodName)) ∈ lw_all := lw_g (lw_at lw_m10 153 rfl) rfl
theorem q2412 : (Jvm.Cond.code ({ cls := "PrinterClaimsModel", name := "errs", desc := "(I)V" } : Jvm.MethodName) prog_33_method_53_code (2 : Nat) (Option.none : Option Jvm.ClassFile.FieldType)) ∈ lw_all := lw_g (lw_at lw_m10 154 rfl) rfl
theorem q2413 : (Jvm.Cond.methodLink "PrinterClaimsModel" (218 : Nat) ({ cls := "PrinterClaimsModel", name := "readsTotal", desc := "()V" } : Jvm.MethodName)) ∈ lw_all := lw_g (lw_at lw_m10 155 rfl) rfl
theorem q2414 : (Jvm.Cond.privateMethod ({ cls := "PrinterClaimsModel", name := "readsTotal", desc := "()V" } : Jvm.MethodName)) ∈ lw_tbl := lw_at lw_m10 156 rfl
theorem q2415 : (Jvm.Cond.instanceMethod ({ cls := "PrinterClaimsModel", name := "readsTotal", desc := "()V" } : Jvm.MethodName)) ∈ lw_all := lw_g (lw_at lw_m10 157 rfl) rfl
theorem q2416 : (Jvm.Cond.code ({ cls := "PrinterClaimsModel", name := "readsTotal", desc := "()V" } : Jvm.MethodName) prog_33_method_60_code (2 : Nat) (Option.none : Option Jvm.ClassFile.FieldType)) ∈ lw_all := lw_g (lw_at lw_m10 158 rfl) rfl
theorem q2417 : (Jvm.Cond.methodLink "PrinterClaimsModel" (227 : Nat) ({ cls := "PrinterClaimsModel", name := "number0", desc := "(II)I" } : Jvm.MethodName)) ∈ lw_all := lw_g (lw_at lw_m10 159 rfl) rfl
theorem q2418 : (Jvm.Cond.privateMethod ({ cls := "PrinterClaimsModel", name := "number0", desc := "(II)I" } : Jvm.MethodName)) ∈ lw_tbl := lw_at lw_m10 160 rfl
theorem q2419 : (Jvm.Cond.instanceMethod ({ cls := "PrinterClaimsModel", name := "number0", desc := "(II)I" } : Jvm.MethodName)) ∈ lw_all := lw_g (lw_at lw_m10 161 rfl) rfl
theorem q2420 : (Jvm.Cond.code ({ cls := "PrinterClaimsModel", name := "number0", desc := "(II)I" } : Jvm.MethodName) prog_33_method_57_code (4 : Nat) (Option.some Jvm.ClassFile.FieldType.int)) ∈ lw_all := lw_g (lw_at lw_m10 162 rfl) rfl
theorem q2421 : (Jvm.Cond.methodLink "PrinterClaimsModel" (221 : Nat) ({ cls := "PrinterClaimsModel", name := "semicolon", desc := "()V" } : Jvm.MethodName)) ∈ lw_all := lw_g (lw_at lw_m10 163 rfl) rfl
theorem q2422 : (Jvm.Cond.privateMethod ({ cls := "PrinterClaimsModel", name := "semicolon", desc := "()V" } : Jvm.MethodName)) ∈ lw_tbl := lw_at lw_m10 164 rfl
theorem q2423 : (Jvm.Cond.instanceMethod ({ cls := "PrinterClaimsModel", name := "semicolon", desc := "()V" } : Jvm.MethodName)) ∈ lw_all := lw_g (lw_at lw_m10 165 rfl) rfl
theorem q2424 : (Jvm.Cond.code ({ cls := "PrinterClaimsModel", name := "semicolon", desc := "()V" } : Jvm.MethodName) prog_33_method_56_code (1 : Nat) (Option.none : Option Jvm.ClassFile.FieldType)) ∈ lw_all := lw_g (lw_at lw_m10 166 rfl) rfl
theorem q2425 : (Jvm.Cond.methodLink "PrinterClaimsModel" (224 : Nat) ({ cls := "PrinterClaimsModel", name := "readsOffice", desc := "()V" } : Jvm.MethodName)) ∈ lw_all := lw_g (lw_at lw_m10 167 rfl) rfl
theorem q2426 : (Jvm.Cond.privateMethod ({ cls := "PrinterClaimsModel", name := "readsOffice", desc := "()V" } : Jvm.MethodName)) ∈ lw_tbl := lw_at lw_m10 168 rfl
theorem q2427 : (Jvm.Cond.instanceMethod ({ cls := "PrinterClaimsModel", name := "readsOffice", desc := "()V" } : Jvm.MethodName)) ∈ lw_all := lw_g (lw_at lw_m10 169 rfl) rfl
theorem q2428 : (Jvm.Cond.code ({ cls := "PrinterClaimsModel", name := "readsOffice", desc := "()V" } : Jvm.MethodName) prog_33_method_61_code (4 : Nat) (Option.none : Option Jvm.ClassFile.FieldType)) ∈ lw_all := lw_g (lw_at lw_m10 170 rfl) rfl
theorem q2429 : (Jvm.Cond.stringRef "PrinterClaimsModel" (230 : Nat) "office") ∈ lw_tbl := lw_at lw_m10 171 rfl
theorem q2430 : (Jvm.Cond.methodLink "PrinterClaimsModel" (92 : Nat) ({ cls := "PrinterClaimsModel", name := "lays", desc := "(III)V" } : Jvm.MethodName)) ∈ lw_all := lw_g (lw_at lw_m10 172 rfl) rfl
theorem q2431 : (Jvm.Cond.privateMethod ({ cls := "PrinterClaimsModel", name := "lays", desc := "(III)V" } : Jvm.MethodName)) ∈ lw_tbl := lw_at lw_m10 173 rfl
theorem q2432 : (Jvm.Cond.instanceMethod ({ cls := "PrinterClaimsModel", name := "lays", desc := "(III)V" } : Jvm.MethodName)) ∈ lw_all := lw_g (lw_at lw_m10 174 rfl) rfl
theorem q2433 : (Jvm.Cond.code ({ cls := "PrinterClaimsModel", name := "lays", desc := "(III)V" } : Jvm.MethodName) prog_33_method_9_code (4 : Nat) (Option.none : Option Jvm.ClassFile.FieldType)) ∈ lw_all := lw_g (lw_at lw_m10 175 rfl) rfl
theorem q2434 : (Jvm.Cond.stringRef "PrinterClaimsModel" (232 : Nat) "holds") ∈ lw_tbl := lw_at lw_m10 176 rfl
theorem q2435 : (Jvm.Cond.methodLink "PrinterClaimsModel" (234 : Nat) ({ cls := "PrinterClaimsModel", name := "takesWord", desc := "(Ljava/lang/String;)Z" } : Jvm.MethodName)) ∈ lw_all := lw_g (lw_at lw_m10 177 rfl) rfl
theorem q2436 : (Jvm.Cond.privateMethod ({ cls := "PrinterClaimsModel", name := "takesWord", desc := "(Ljava/lang/String;)Z" } : Jvm.MethodName)) ∈ lw_tbl := lw_at lw_m10 178 rfl
theorem q2437 : (Jvm.Cond.instanceMethod ({ cls := "PrinterClaimsModel", name := "takesWord", desc := "(Ljava/lang/String;)Z" } : Jvm.MethodName)) ∈ lw_all := lw_g (lw_at lw_m10 179 rfl) rfl
theorem q2438 : (Jvm.Cond.code ({ cls := "PrinterClaimsModel", name := "takesWord", desc := "(Ljava/lang/String;)Z" } : Jvm.MethodName) prog_33_method_58_code (3 : Nat) (Option.some Jvm.ClassFile.FieldType.boolean)) ∈ lw_all := lw_g (lw_at lw_m10 180 rfl) rfl
theorem q2439 : (Jvm.Cond.methodLink "PrinterClaimsModel" (237 : Nat) ({ cls := "PrinterClaimsModel", name := "readsHeld", desc := "(II)V" } : Jvm.MethodName)) ∈ lw_all := lw_g (lw_at lw_m10 181 rfl) rfl
theorem q2440 : (Jvm.Cond.privateMethod ({ cls := "PrinterClaimsModel", name := "readsHeld", desc := "(II)V" } : Jvm.MethodName)) ∈ lw_tbl := lw_at lw_m10 182 rfl
theorem q2441 : (Jvm.Cond.instanceMethod ({ cls := "PrinterClaimsModel", name := "readsHeld", desc := "(II)V" } : Jvm.MethodName)) ∈ lw_all := lw_g (lw_at lw_m10 183 rfl) rfl
theorem q2442 : (Jvm.Cond.code ({ cls := "PrinterClaimsModel", name := "readsHeld", desc := "(II)V" } : Jvm.MethodName) prog_33_method_62_code (4 : Nat) (Option.none : Option Jvm.ClassFile.FieldType)) ∈ lw_all := lw_g (lw_at lw_m10 184 rfl) rfl
theorem q2443 : (Jvm.Cond.methodLink "PrinterClaimsModel" (63 : Nat) ({ cls := "PrinterClaimsModel", name := "of", desc := "(II)I" } : Jvm.MethodName)) ∈ lw_all := lw_g (lw_at lw_m10 185 rfl) rfl
theorem q2444 : (Jvm.Cond.privateMethod ({ cls := "PrinterClaimsModel", name := "of", desc := "(II)I" } : Jvm.MethodName)) ∈ lw_tbl := lw_at lw_m10 186 rfl
theorem q2445 : (Jvm.Cond.instanceMethod ({ cls := "PrinterClaimsModel", name := "of", desc := "(II)I" } : Jvm.MethodName)) ∈ lw_all := lw_g (lw_at lw_m10 187 rfl) rfl
theorem q2446 : (Jvm.Cond.code ({ cls := "PrinterClaimsModel", name := "of", desc := "(II)I" } : Jvm.MethodName) prog_33_method_8_code (3 : Nat) (Option.some Jvm.ClassFile.FieldType.int)) ∈ lw_all := lw_g (lw_at lw_m10 188 rfl) rfl
theorem q2447 : (Jvm.Cond.methodLink "PrinterClaimsModel" (70 : Nat) ({ cls := "PrinterClaimsModel", name := "free", desc := "(I)I" } : Jvm.MethodName)) ∈ lw_all := lw_g (lw_at lw_m10 189 rfl) rfl
theorem q2448 : (Jvm.Cond.privateMethod ({ cls := "PrinterClaimsModel", name := "free", desc := "(I)I" } : Jvm.MethodName)) ∈ lw_tbl := lw_at lw_m10 190 rfl
theorem q2449 : (Jvm.Cond.instanceMethod ({ cls := "PrinterClaimsModel", name := "free", desc := "(I)I" } : Jvm.MethodName)) ∈ lw_all := lw_g (lw_at lw_m10 191 rfl) rfl
theorem q2450 : (Jvm.Cond.code ({ cls := "PrinterClaimsModel", name := "free", desc := "(I)I" } : Jvm.MethodName) prog_33_method_13_code (2 : Nat) (Option.some Jvm.ClassFile.FieldType.int)) ∈ lw_all := lw_g (lw_at lw_m10 192 rfl) rfl
theorem q2451 : (Jvm.Cond.methodLink "PrinterClaimsModel" (67 : Nat) ({ cls := "PrinterClaimsModel", name := "heldInAll", desc := "(I)I" } : Jvm.MethodName)) ∈ lw_all := lw_g (lw_at lw_m10 193 rfl) rfl
theorem q2452 : (Jvm.Cond.privateMethod ({ cls := "PrinterClaimsModel", name := "heldInAll", desc := "(I)I" } : Jvm.MethodName)) ∈ lw_tbl := lw_at lw_m10 194 rfl
theorem q2453 : (Jvm.Cond.instanceMethod ({ cls := "PrinterClaimsModel", name := "heldInAll", desc := "(I)I" } : Jvm.MethodName)) ∈ lw_all := lw_g (lw_at lw_m10 195 rfl) rfl
theorem q2454 : (Jvm.Cond.code ({ cls := "PrinterClaimsModel", name := "heldInAll", desc := "(I)I" } : Jvm.MethodName) prog_33_method_12_code (4 : Nat) (Option.some Jvm.ClassFile.FieldType.int)) ∈ lw_all := lw_g (lw_at lw_m10 196 rfl) rfl
theorem q2455 : (Jvm.Cond.methodLink "PrinterClaimsModel" (99 : Nat) ({ cls := "PrinterClaimsModel", name := "isSafe", desc := "()Z" } : Jvm.MethodName)) ∈ lw_all := lw_g (lw_at lw_m10 197 rfl) rfl
theorem q2456 : (Jvm.Cond.privateMethod ({ cls := "PrinterClaimsModel", name := "isSafe", desc := "()Z" } : Jvm.MethodName)) ∈ lw_tbl := lw_at lw_m10 198 rfl
theorem q2457 : (Jvm.Cond.instanceMethod ({ cls := "PrinterClaimsModel", name := "isSafe", desc := "()Z" } : Jvm.MethodName)) ∈ lw_all := lw_g (lw_at lw_m10 199 rfl) rfl
theorem q2458 : (Jvm.Cond.code ({ cls := "PrinterClaimsModel", name := "isSafe", desc := "()Z" } : Jvm.MethodName) prog_33_method_19_code (1 : Nat) (Option.some Jvm.ClassFile.FieldType.boolean)) ∈ lw_all := lw_g (lw_at lw_m10 200 rfl) rfl
theorem q2459 : (Jvm.Cond.methodLink "PrinterClaimsModel" (89 : Nat) ({ cls := "PrinterClaimsModel", name := "firstOnes", desc := "(I)I" } : Jvm.MethodName)) ∈ lw_all := lw_g (lw_at lw_m10 201 rfl) rfl
theorem q2460 : (Jvm.Cond.privateMethod ({ cls := "PrinterClaimsModel", name := "firstOnes", desc := "(I)I" } : Jvm.MethodName)) ∈ lw_tbl := lw_at lw_m10 202 rfl
theorem q2461 : (Jvm.Cond.instanceMethod ({ cls := "PrinterClaimsModel", name := "firstOnes", desc := "(I)I" } : Jvm.MethodName)) ∈ lw_all := lw_g (lw_at lw_m10 203 rfl) rfl
theorem q2462 : (Jvm.Cond.code ({ cls := "PrinterClaimsModel", name := "firstOnes", desc := "(I)I" } : Jvm.MethodName) prog_33_method_18_code (5 : Nat) (Option.some Jvm.ClassFile.FieldType.int)) ∈ lw_all := lw_g (lw_at lw_m10 204 rfl) rfl
theorem q2463 : (Jvm.Cond.methodLink "PrinterClaimsModel" (86 : Nat) ({ cls := "PrinterClaimsModel", name := "nextIn", desc := "(I)I" } : Jvm.MethodName)) ∈ lw_all := lw_g (lw_at lw_m10 205 rfl) rfl
theorem q2464 : (Jvm.Cond.privateMethod ({ cls := "PrinterClaimsModel", name := "nextIn", desc := "(I)I" } : Jvm.MethodName)) ∈ lw_tbl := lw_at lw_m10 206 rfl
theorem q2465 : (Jvm.Cond.instanceMethod ({ cls := "PrinterClaimsModel", name := "nextIn", desc := "(I)I" } : Jvm.MethodName)) ∈ lw_all := lw_g (lw_at lw_m10 207 rfl) rfl
theorem q2466 : (Jvm.Cond.code ({ cls := "PrinterClaimsModel", name := "nextIn", desc := "(I)I" } : Jvm.MethodName) prog_33_method_17_code (3 : Nat) (Option.some Jvm.ClassFile.FieldType.int)) ∈ lw_all := lw_g (lw_at lw_m10 208 rfl) rfl
theorem q2467 : (Jvm.Cond.methodLink "PrinterClaimsModel" (73 : Nat) ({ cls := "PrinterClaimsModel", name := "has", desc := "(II)Z" } : Jvm.MethodName)) ∈ lw_all := lw_g (lw_at lw_m10 209 rfl) rfl
theorem q2468 : (Jvm.Cond.static ({ cls := "PrinterClaimsModel", name := "has", desc := "(II)Z" } : Jvm.MethodName)) ∈ lw_all := lw_g (lw_at lw_m10 210 rfl) rfl
theorem q2469 : (Jvm.Cond.code ({ cls := "PrinterClaimsModel", name := "has", desc := "(II)Z" } : Jvm.MethodName) prog_33_method_14_code (2 : Nat) (Option.some Jvm.ClassFile.FieldType.boolean)) ∈ lw_all := lw_g (lw_at lw_m10 211 rfl) rfl
theorem q2470 : (Jvm.Cond.methodLink "PrinterClaimsModel" (83 : Nat) ({ cls := "PrinterClaimsModel", name := "fits", desc := "(II)Z" } : Jvm.MethodName)) ∈ lw_all := lw_g (lw_at lw_m10 212 rfl) rfl
theorem q2471 : (Jvm.Cond.privateMethod ({ cls := "PrinterClaimsModel", name := "fits", desc := "(II)Z" } : Jvm.MethodName)) ∈ lw_tbl := lw_at lw_m10 213 rfl
theorem q2472 : (Jvm.Cond.instanceMethod ({ cls := "PrinterClaimsModel", name := "fits", desc := "(II)Z" } : Jvm.MethodName)) ∈ lw_all := lw_g (lw_at lw_m10 214 rfl) rfl
theorem q2473 : (Jvm.Cond.code ({ cls := "PrinterClaimsModel", name := "fits", desc := "(II)Z" } : Jvm.MethodName) prog_33_method_16_code (4 : Nat) (Option.some Jvm.ClassFile.FieldType.boolean)) ∈ lw_all := lw_g (lw_at lw_m10 215 rfl) rfl
theorem q2474 : (Jvm.Cond.methodLink "PrinterClaimsModel" (77 : Nat) ({ cls := "PrinterClaimsModel", name := "needOf", desc := "(II)I" } : Jvm.MethodName)) ∈ lw_all := lw_g (lw_at lw_m10 216 rfl) rfl
theorem q2475 : (Jvm.Cond.privateMethod ({ cls := "PrinterClaimsModel", name := "needOf", desc := "(II)I" } : Jvm.MethodName)) ∈ lw_tbl := lw_at lw_m10 217 rfl
theorem q2476 : (Jvm.Cond.instanceMethod ({ cls := "PrinterClaimsModel", name := "needOf", desc := "(II)I" } : Jvm.MethodName)) ∈ lw_all := lw_g (lw_at lw_m10 218 rfl) rfl
theorem q2477 : (Jvm.Cond.code ({ cls := "PrinterClaimsModel", name := "needOf", desc := "(II)I" } : Jvm.MethodName) prog_33_method_10_code (3 : Nat) (Option.some Jvm.ClassFile.FieldType.int)) ∈ lw_all := lw_g (lw_at lw_m10 219 rfl) rfl
theorem q2478 : (Jvm.Cond.methodLink "PrinterClaimsModel" (80 : Nat) ({ cls := "PrinterClaimsModel", name := "freeAfter", desc := "(II)I" } : Jvm.MethodName)) ∈ lw_all := lw_g (lw_at lw_m10 220 rfl) rfl
theorem q2479 : (Jvm.Cond.privateMethod ({ cls := "PrinterClaimsModel", name := "freeAfter", desc := "(II)I" } : Jvm.MethodName)) ∈ lw_tbl := lw_at lw_m10 221 rfl
theorem q2480 : (Jvm.Cond.instanceMethod ({ cls := "PrinterClaimsModel", name := "freeAfter", desc := "(II)I" } : Jvm.MethodName)) ∈ lw_all := lw_g (lw_at lw_m10 222 rfl) rfl
theorem q2481 : (Jvm.Cond.code ({ cls := "PrinterClaimsModel", name := "freeAfter", desc := "(II)I" } : Jvm.MethodName) prog_33_method_15_code (5 : Nat) (Option.some Jvm.ClassFile.FieldType.int)) ∈ lw_all := lw_g (lw_at lw_m10 223 rfl) rfl
theorem q2482 : (Jvm.Cond.fieldLink "PrinterClaimsModel" (1 : Nat) "PrinterClaimsModel" "thrown" "I") ∈ lw_all := lw_g (lw_at lw_m10 224 rfl) rfl
theorem q2483 : (Jvm.Cond.fieldLink "PrinterClaimsModel" (13 : Nat) "PrinterClaimsModel" "now" "[I") ∈ lw_all := lw_g (lw_at lw_m10 225 rfl) rfl
theorem q2484 : (Jvm.Cond.fieldLink "PrinterClaimsModel" (17 : Nat) "PrinterClaimsModel" "loading" "[I") ∈ lw_all := lw_g (lw_at lw_m10 226 rfl) rfl
theorem q2485 : (Jvm.Cond.fieldLink "PrinterClaimsModel" (20 : Nat) "PrinterClaimsModel" "saved" "[I") ∈ lw_all := lw_g (lw_at lw_m10 227 rfl) rfl
theorem q2486 : (Jvm.Cond.fieldLink "PrinterClaimsModel" (23 : Nat) "PrinterClaimsModel" "aside" "[I") ∈ lw_all := lw_g (lw_at lw_m10 228 rfl) rfl
theorem q2487 : (Jvm.Cond.fieldLink "PrinterClaimsModel" (26 : Nat) "PrinterClaimsModel" "before" "[I") ∈ lw_all := lw_g (lw_at lw_m10 229 rfl) rfl
theorem q2488 : (Jvm.Cond.fieldLink "PrinterClaimsModel" (255 : Nat) "PrinterClaimsModel" "undoable" "I") ∈ lw_all := lw_g (lw_at lw_m10 230 rfl) rfl
theorem q2489 : (Jvm.Cond.fieldLink "PrinterClaimsModel" (258 : Nat) "PrinterClaimsModel" "isSaved" "Z") ∈ lw_all := lw_g (lw_at lw_m10 231 rfl) rfl
theorem q2490 : (Jvm.Cond.fieldLink "PrinterClaimsModel" (29 : Nat) "PrinterClaimsModel" "orders0" "[I") ∈ lw_all := lw_g (lw_at lw_m10 232 rfl) rfl
theorem q2491 : (Jvm.Cond.fieldLink "PrinterClaimsModel" (32 : Nat) "PrinterClaimsModel" "buffer" "[I") ∈ lw_all := lw_g (lw_at lw_m10 233 rfl) rfl
theorem q2492 : (Jvm.Cond.fieldLink "PrinterClaimsModel" (56 : Nat) "PrinterClaimsModel" "buffered" "I") ∈ lw_all := lw_g (lw_at lw_m10 234 rfl) rfl
theorem q2493 : (Jvm.Cond.fieldLink "PrinterClaimsModel" (171 : Nat) "PrinterClaimsModel" "textEnd" "I") ∈ lw_all := lw_g (lw_at lw_m10 235 rfl) rfl
theorem q2494 : (Jvm.Cond.fieldLink "PrinterClaimsModel" (177 : Nat) "PrinterClaimsModel" "at" "I") ∈ lw_all := lw_g (lw_at lw_m10 236 rfl) rfl
theorem q2495 : (Jvm.Cond.fieldLink "PrinterClaimsModel" (190 : Nat) "PrinterClaimsModel" "begin" "I") ∈ lw_all := lw_g (lw_at lw_m10 237 rfl) rfl
theorem q2496 : (Jvm.Cond.fieldLink "PrinterClaimsModel" (187 : Nat) "PrinterClaimsModel" "kind" "I") ∈ lw_all := lw_g (lw_at lw_m10 238 rfl) rfl
theorem q2497 : (Jvm.Cond.fieldLink "PrinterClaimsModel" (174 : Nat) "PrinterClaimsModel" "value0" "I") ∈ lw_all := lw_g (lw_at lw_m10 239 rfl) rfl
theorem q2498 : (Jvm.Cond.fieldLink "PrinterClaimsModel" (168 : Nat) "PrinterClaimsModel" "wrong" "I") ∈ lw_all := lw_g (lw_at lw_m11 0 rfl) rfl
theorem q2499 : (Jvm.Cond.fieldLink "PrinterClaimsModel" (35 : Nat) "PrinterClaimsModel" "wrongAt" "I") ∈ lw_all := lw_g (lw_at lw_m11 1 rfl) rfl
theorem q2500 : (Jvm.Cond.fieldLink "PrinterClaimsModel" (38 : Nat) "PrinterClaimsModel" "orderRow" "[I") ∈ lw_all := lw_g (lw_at lw_m11 2 rfl) rfl
theorem q2501 : (Jvm.Cond.fieldLink "PrinterClaimsModel" (330 : Nat) "PrinterClaimsModel" "orders" "I") ∈ lw_all := lw_g (lw_at lw_m11 3 rfl) rfl
theorem q2502 : (Jvm.Cond.fieldLink "PrinterClaimsModel" (41 : Nat) "PrinterClaimsModel" "line" "[I") ∈ lw_all := lw_g (lw_at lw_m11 4 rfl) rfl
theorem q2503 : (Jvm.Cond.fieldLink "PrinterClaimsModel" (345 : Nat) "PrinterClaimsModel" "lineSize" "I") ∈ lw_all := lw_g (lw_at lw_m11 5 rfl) rfl
theorem q2504 : (Jvm.Cond.lays "PrinterClaimsModel" "PrinterClaimsModel" "thrown" "I") ∈ lw_all := lw_g (lw_at lw_m11 6 rfl) rfl
theorem q2505 : (Jvm.Cond.soleField "PrinterClaimsModel" "thrown") ∈ lw_all := lw_g (lw_at lw_m11 7 rfl) rfl
theorem q2506 : (Jvm.Cond.laysFinal "PrinterClaimsModel" "PrinterClaimsModel" "now" "[I") ∈ lw_all := lw_g (lw_at lw_m11 8 rfl) rfl
theorem q2507 : (Jvm.Cond.soleField "PrinterClaimsModel" "now") ∈ lw_all := lw_g (lw_at lw_m11 9 rfl) rfl
theorem q2508 : (Jvm.Cond.laysFinal "PrinterClaimsModel" "PrinterClaimsModel" "loading" "[I") ∈ lw_all := lw_g (lw_at lw_m11 10 rfl) rfl
theorem q2509 : (Jvm.Cond.soleField "PrinterClaimsModel" "loading") ∈ lw_all := lw_g (lw_at lw_m11 11 rfl) rfl
theorem q2510 : (Jvm.Cond.laysFinal "PrinterClaimsModel" "PrinterClaimsModel" "saved" "[I") ∈ lw_all := lw_g (lw_at lw_m11 12 rfl) rfl
theorem q2511 : (Jvm.Cond.soleField "PrinterClaimsModel" "saved") ∈ lw_all := lw_g (lw_at lw_m11 13 rfl) rfl
theorem q2512 : (Jvm.Cond.laysFinal "PrinterClaimsModel" "PrinterClaimsModel" "aside" "[I") ∈ lw_all := lw_g (lw_at lw_m11 14 rfl) rfl
theorem q2513 : (Jvm.Cond.soleField "PrinterClaimsModel" "aside") ∈ lw_all := lw_g (lw_at lw_m11 15 rfl) rfl
theorem q2514 : (Jvm.Cond.laysFinal "PrinterClaimsModel" "PrinterClaimsModel" "before" "[I") ∈ lw_all := lw_g (lw_at lw_m11 16 rfl) rfl
theorem q2515 : (Jvm.Cond.soleField "PrinterClaimsModel" "before") ∈ lw_all := lw_g (lw_at lw_m11 17 rfl) rfl
theorem q2516 : (Jvm.Cond.lays "PrinterClaimsModel" "PrinterClaimsModel" "undoable" "I") ∈ lw_all := lw_g (lw_at lw_m11 18 rfl) rfl
theorem q2517 : (Jvm.Cond.soleField "PrinterClaimsModel" "undoable") ∈ lw_all := lw_g (lw_at lw_m11 19 rfl) rfl
theorem q2518 : (Jvm.Cond.lays "PrinterClaimsModel" "PrinterClaimsModel" "isSaved" "Z") ∈ lw_all := lw_g (lw_at lw_m11 20 rfl) rfl
theorem q2519 : (Jvm.Cond.soleField "PrinterClaimsModel" "isSaved") ∈ lw_all := lw_g (lw_at lw_m11 21 rfl) rfl
theorem q2520 : (Jvm.Cond.laysFinal "PrinterClaimsModel" "PrinterClaimsModel" "orders0" "[I") ∈ lw_all := lw_g (lw_at lw_m11 22 rfl) rfl
theorem q2521 : (Jvm.Cond.soleField "PrinterClaimsModel" "orders0") ∈ lw_all := lw_g (lw_at lw_m11 23 rfl) rfl
theorem q2522 : (Jvm.Cond.laysFinal "PrinterClaimsModel" "PrinterClaimsModel" "buffer" "[I") ∈ lw_all := lw_g (lw_at lw_m11 24 rfl) rfl
theorem q2523 : (Jvm.Cond.soleField "PrinterClaimsModel" "buffer") ∈ lw_all := lw_g (lw_at lw_m11 25 rfl) rfl
theorem q2524 : (Jvm.Cond.lays "PrinterClaimsModel" "PrinterClaimsModel" "buffered" "I") ∈ lw_all := lw_g (lw_at lw_m11 26 rfl) rfl
theorem q2525 : (Jvm.Cond.soleField "PrinterClaimsModel" "buffered") ∈ lw_all := lw_g (lw_at lw_m11 27 rfl) rfl
theorem q2526 : (Jvm.Cond.lays "PrinterClaimsModel" "PrinterClaimsModel" "textEnd" "I") ∈ lw_all := lw_g (lw_at lw_m11 28 rfl) rfl
theorem q2527 : (Jvm.Cond.soleField "PrinterClaimsModel" "textEnd") ∈ lw_all := lw_g (lw_at lw_m11 29 rfl) rfl
theorem q2528 : (Jvm.Cond.lays "PrinterClaimsModel" "PrinterClaimsModel" "at" "I") ∈ lw_all := lw_g (lw_at lw_m11 30 rfl) rfl
theorem q2529 : (Jvm.Cond.soleField "PrinterClaimsModel" "at") ∈ lw_all := lw_g (lw_at lw_m11 31 rfl) rfl
theorem q2530 : (Jvm.Cond.lays "PrinterClaimsModel" "PrinterClaimsModel" "begin" "I") ∈ lw_all := lw_g (lw_at lw_m11 32 rfl) rfl
theorem q2531 : (Jvm.Cond.soleField "PrinterClaimsModel" "begin") ∈ lw_all := lw_g (lw_at lw_m11 33 rfl) rfl
theorem q2532 : (Jvm.Cond.lays "PrinterClaimsModel" "PrinterClaimsModel" "kind" "I") ∈ lw_all := lw_g (lw_at lw_m11 34 rfl) rfl
theorem q2533 : (Jvm.Cond.soleField "PrinterClaimsModel" "kind") ∈ lw_all := lw_g (lw_at lw_m11 35 rfl) rfl
theorem q2534 : (Jvm.Cond.lays "PrinterClaimsModel" "PrinterClaimsModel" "value0" "I") ∈ lw_all := lw_g (lw_at lw_m11 36 rfl) rfl
theorem q2535 : (Jvm.Cond.soleField "PrinterClaimsModel" "value0") ∈ lw_all := lw_g (lw_at lw_m11 37 rfl) rfl
theorem q2536 : (Jvm.Cond.lays "PrinterClaimsModel" "PrinterClaimsModel" "wrong" "I") ∈ lw_all := lw_g (lw_at lw_m11 38 rfl) rfl
theorem q2537 : (Jvm.Cond.soleField "PrinterClaimsModel" "wrong") ∈ lw_all := lw_g (lw_at lw_m11 39 rfl) rfl
theorem q2538 : (Jvm.Cond.lays "PrinterClaimsModel" "PrinterClaimsModel" "wrongAt" "I") ∈ lw_all := lw_g (lw_at lw_m11 40 rfl) rfl
theorem q2539 : (Jvm.Cond.soleField "PrinterClaimsModel" "wrongAt") ∈ lw_all := lw_g (lw_at lw_m11 41 rfl) rfl
theorem q2540 : (Jvm.Cond.laysFinal "PrinterClaimsModel" "PrinterClaimsModel" "orderRow" "[I") ∈ lw_all := lw_g (lw_at lw_m11 42 rfl) rfl
theorem q2541 : (Jvm.Cond.soleField "PrinterClaimsModel" "orderRow") ∈ lw_all := lw_g (lw_at lw_m11 43 rfl) rfl
theorem q2542 : (Jvm.Cond.lays "PrinterClaimsModel" "PrinterClaimsModel" "orders" "I") ∈ lw_all := lw_g (lw_at lw_m11 44 rfl) rfl
theorem q2543 : (Jvm.Cond.soleField "PrinterClaimsModel" "orders") ∈ lw_all := lw_g (lw_at lw_m11 45 rfl) rfl
theorem q2544 : (Jvm.Cond.laysFinal "PrinterClaimsModel" "PrinterClaimsModel" "line" "[I") ∈ lw_all := lw_g (lw_at lw_m11 46 rfl) rfl
theorem q2545 : (Jvm.Cond.soleField "PrinterClaimsModel" "line") ∈ lw_all := lw_g (lw_at lw_m11 47 rfl) rfl
theorem q2546 : (Jvm.Cond.lays "PrinterClaimsModel" "PrinterClaimsModel" "lineSize" "I") ∈ lw_all := lw_g (lw_at lw_m11 48 rfl) rfl
theorem q2547 : (Jvm.Cond.soleField "PrinterClaimsModel" "lineSize") ∈ lw_all := lw_g (lw_at lw_m11 49 rfl) rfl
theorem q2548 : (Jvm.Cond.superclass "PrinterClaimsModel" "java/lang/Object") ∈ lw_all := lw_g (lw_at lw_m11 50 rfl) rfl
theorem q2550 : (Jvm.Cond.instanceMethod ({ cls := "PrinterClaimsModel", name := "appendText", desc := "(IIIII)I" } : Jvm.MethodName)) ∈ lw_all := lw_g (lw_at lw_m11 52 rfl) rfl
theorem q2551 : (Jvm.Cond.selects "PrinterClaimsModel" ({ cls := "PrinterClaimsModel", name := "appendText", desc := "(IIIII)I" } : Jvm.MethodName) ({ cls := "PrinterClaimsModel", name := "appendText", desc := "(IIIII)I" } : Jvm.MethodName)) ∈ lw_all := lw_g (lw_at lw_m11 53 rfl) rfl
theorem q2552 : (Jvm.Cond.code ({ cls := "PrinterClaimsModel", name := "appendText", desc := "(IIIII)I" } : Jvm.MethodName) prog_33_method_44_code (6 : Nat) (Option.some Jvm.ClassFile.FieldType.int)) ∈ lw_all := lw_g (lw_at lw_m11 54 rfl) rfl
theorem q2553 : (Jvm.Cond.methodLink "PrinterClaimsModel" (165 : Nat) ({ cls := "PrinterClaimsModel", name := "bytes", desc := "(I)V" } : Jvm.MethodName)) ∈ lw_all := lw_g (lw_at lw_m11 55 rfl) rfl
theorem q2554 : (Jvm.Cond.privateMethod ({ cls := "PrinterClaimsModel", name := "bytes", desc := "(I)V" } : Jvm.MethodName)) ∈ lw_tbl := lw_at lw_m11 56 rfl
theorem q2555 : (Jvm.Cond.instanceMethod ({ cls := "PrinterClaimsModel", name := "bytes", desc := "(I)V" } : Jvm.MethodName)) ∈ lw_all := lw_g (lw_at lw_m11 57 rfl) rfl
theorem q2556 : (Jvm.Cond.code ({ cls := "PrinterClaimsModel", name := "bytes", desc := "(I)V" } : Jvm.MethodName) prog_33_method_43_code (3 : Nat) (Option.none : Option Jvm.ClassFile.FieldType)) ∈ lw_all := lw_g (lw_at lw_m11 58 rfl) rfl
theorem q2558 : (Jvm.Cond.instanceMethod ({ cls := "PrinterClaimsModel", name := "errorCode", desc := "()I" } : Jvm.MethodName)) ∈ lw_all := lw_g (lw_at lw_m11 60 rfl) rfl
theorem q2559 : (Jvm.Cond.selects "PrinterClaimsModel" ({ cls := "PrinterClaimsModel", name := "errorCode", desc := "()I" } : Jvm.MethodName) ({ cls := "PrinterClaimsModel", name := "errorCode", desc := "()I" } : Jvm.MethodName)) ∈ lw_all := lw_g (lw_at lw_m11 61 rfl) rfl
theorem q2560 : (Jvm.Cond.code ({ cls := "PrinterClaimsModel", name := "errorCode", desc := "()I" } : Jvm.MethodName) prog_33_method_45_code (1 : Nat) (Option.some Jvm.ClassFile.FieldType.int)) ∈ lw_all := lw_g (lw_at lw_m11 62 rfl) rfl
theorem q2562 : (Jvm.Cond.instanceMethod ({ cls := "PrinterClaimsModel", name := "errorOffset", desc := "()I" } : Jvm.MethodName)) ∈ lw_all := lw_g (lw_at lw_m11 64 rfl) rfl
theorem q2563 : (Jvm.Cond.selects "PrinterClaimsModel" ({ cls := "PrinterClaimsModel", name := "errorOffset", desc := "()I" } : Jvm.MethodName) ({ cls := "PrinterClaimsModel", name := "errorOffset", desc := "()I" } : Jvm.MethodName)) ∈ lw_all := lw_g (lw_at lw_m11 65 rfl) rfl
theorem q2564 : (Jvm.Cond.code ({ cls := "PrinterClaimsModel", name := "errorOffset", desc := "()I" } : Jvm.MethodName) prog_33_method_46_code (1 : Nat) (Option.some Jvm.ClassFile.FieldType.int)) ∈ lw_all := lw_g (lw_at lw_m11 66 rfl) rfl
theorem q2567 : (Jvm.Cond.instanceMethod ({ cls := "PrinterClaimsModel", name := "kindCount", desc := "()I" } : Jvm.MethodName)) ∈ lw_all := lw_g (lw_at lw_m11 69 rfl) rfl
theorem q2568 : (Jvm.Cond.selects "PrinterClaimsModel" ({ cls := "PrinterClaimsModel", name := "kindCount", desc := "()I" } : Jvm.MethodName) ({ cls := "PrinterClaimsModel", name := "kindCount", desc := "()I" } : Jvm.MethodName)) ∈ lw_all := lw_g (lw_at lw_m11 70 rfl) rfl
theorem q2569 : (Jvm.Cond.code ({ cls := "PrinterClaimsModel", name := "kindCount", desc := "()I" } : Jvm.MethodName) prog_33_method_65_code (1 : Nat) (Option.some Jvm.ClassFile.FieldType.int)) ∈ lw_all := lw_g (lw_at lw_m11 71 rfl) rfl
theorem q2571 : (Jvm.Cond.instanceMethod ({ cls := "PrinterClaimsModel", name := "total", desc := "(I)I" } : Jvm.MethodName)) ∈ lw_all := lw_g (lw_at lw_m11 73 rfl) rfl
theorem q2572 : (Jvm.Cond.selects "PrinterClaimsModel" ({ cls := "PrinterClaimsModel", name := "total", desc := "(I)I" } : Jvm.MethodName) ({ cls := "PrinterClaimsModel", name := "total", desc := "(I)I" } : Jvm.MethodName)) ∈ lw_all := lw_g (lw_at lw_m11 74 rfl) rfl
theorem q2573 : (Jvm.Cond.code ({ cls := "PrinterClaimsModel", name := "total", desc := "(I)I" } : Jvm.MethodName) prog_33_method_66_code (2 : Nat) (Option.some Jvm.ClassFile.FieldType.int)) ∈ lw_all := lw_g (lw_at lw_m11 75 rfl) rfl
theorem q2574 : (Jvm.Cond.methodLink "PrinterClaimsModel" (262 : Nat) ({ cls := "PrinterClaimsModel", name := "noKind", desc := "(I)Z" } : Jvm.MethodName)) ∈ lw_all := lw_g (lw_at lw_m11 76 rfl) rfl
theorem q2575 : (Jvm.Cond.privateMethod ({ cls := "PrinterClaimsModel", name := "noKind", desc := "(I)Z" } : Jvm.MethodName)) ∈ lw_tbl := lw_at lw_m11 77 rfl
theorem q2576 : (Jvm.Cond.instanceMethod ({ cls := "PrinterClaimsModel", name := "noKind", desc := "(I)Z" } : Jvm.MethodName)) ∈ lw_all := lw_g (lw_at lw_m11 78 rfl) rfl
theorem q2577 : (Jvm.Cond.code ({ cls := "PrinterClaimsModel", name := "noKind", desc := "(I)Z" } : Jvm.MethodName) prog_33_method_64_code (2 : Nat) (Option.some Jvm.ClassFile.FieldType.boolean)) ∈ lw_all := lw_g (lw_at lw_m11 79 rfl) rfl
theorem q2579 : (Jvm.Cond.instanceMethod ({ cls := "PrinterClaimsModel", name := "available", desc := "(I)I" } : Jvm.MethodName)) ∈ lw_all := lw_g (lw_at lw_m11 81 rfl) rfl
theorem q2580 : (Jvm.Cond.selects "PrinterClaimsModel" ({ cls := "PrinterClaimsModel", name := "available", desc := "(I)I" } : Jvm.MethodName) ({ cls := "PrinterClaimsModel", name := "available", desc := "(I)I" } : Jvm.MethodName)) ∈ lw_all := lw_g (lw_at lw_m11 82 rfl) rfl
theorem q2581 : (Jvm.Cond.code ({ cls := "PrinterClaimsModel", name := "available", desc := "(I)I" } : Jvm.MethodName) prog_33_method_67_code (2 : Nat) (Option.some Jvm.ClassFile.FieldType.int)) ∈ lw_all := lw_g (lw_at lw_m11 83 rfl) rfl
theorem q2583 : (Jvm.Cond.instanceMethod ({ cls := "PrinterClaimsModel", name := "claimedInAll", desc := "(I)I" } : Jvm.MethodName)) ∈ lw_all := lw_g (lw_at lw_m11 85 rfl) rfl
theorem q2584 : (Jvm.Cond.selects "PrinterClaimsModel" ({ cls := "PrinterClaimsModel", name := "claimedInAll", desc := "(I)I" } : Jvm.MethodName) ({ cls := "PrinterClaimsModel", name := "claimedInAll", desc := "(I)I" } : Jvm.MethodName)) ∈ lw_all := lw_g (lw_at lw_m11 86 rfl) rfl
theorem q2585 : (Jvm.Cond.code ({ cls := "PrinterClaimsModel", name := "claimedInAll", desc := "(I)I" } : Jvm.MethodName) prog_33_method_68_code (4 : Nat) (Option.some Jvm.ClassFile.FieldType.int)) ∈ lw_all := lw_g (lw_at lw_m11 87 rfl) rfl
theorem q2587 : (Jvm.Cond.instanceMethod ({ cls := "PrinterClaimsModel", name := "scarcestKind", desc := "()I" } : Jvm.MethodName)) ∈ lw_all := lw_g (lw_at lw_m11 89 rfl) rfl
theorem q2588 : (Jvm.Cond.selects "PrinterClaimsModel" ({ cls := "PrinterClaimsModel", name := "scarcestKind", desc := "()I" } : Jvm.MethodName) ({ cls := "PrinterClaimsModel", name := "scarcestKind", desc := "()I" } : Jvm.MethodName)) ∈ lw_all := lw_g (lw_at lw_m11 90 rfl) rfl
theorem q2589 : (Jvm.Cond.code ({ cls := "PrinterClaimsModel", name := "scarcestKind", desc := "()I" } : Jvm.MethodName) prog_33_method_69_code (3 : Nat) (Option.some Jvm.ClassFile.FieldType.int)) ∈ lw_all := lw_g (lw_at lw_m11 91 rfl) rfl
theorem q2591 : (Jvm.Cond.instanceMethod ({ cls := "PrinterClaimsModel", name := "utilization", desc := "()F" } : Jvm.MethodName)) ∈ lw_all := lw_g (lw_at lw_m11 93 rfl) rfl
theorem q2592 : (Jvm.Cond.selects "PrinterClaimsModel" ({ cls := "PrinterClaimsModel", name := "utilization", desc := "()F" } : Jvm.MethodName) ({ cls := "PrinterClaimsModel", name := "utilization", desc := "()F" } : Jvm.MethodName)) ∈ lw_all := lw_g (lw_at lw_m11 94 rfl) rfl
theorem q2593 : (Jvm.Cond.code ({ cls := "PrinterClaimsModel", name := "utilization", desc := "()F" } : Jvm.MethodName) prog_33_method_71_code (3 : Nat) (Option.some Jvm.ClassFile.FieldType.float)) ∈ lw_all := lw_g (lw_at lw_m11 95 rfl) rfl
theorem q2594 : (Jvm.Cond.methodLink "PrinterClaimsModel" (265 : Nat) ({ cls := "PrinterClaimsModel", name := "held", desc := "()I" } : Jvm.MethodName)) ∈ lw_all := lw_g (lw_at lw_m11 96 rfl) rfl
theorem q2595 : (Jvm.Cond.privateMethod ({ cls := "PrinterClaimsModel", name := "held", desc := "()I" } : Jvm.MethodName)) ∈ lw_tbl := lw_at lw_m11 97 rfl
theorem q2596 : (Jvm.Cond.instanceMethod ({ cls := "PrinterClaimsModel", name := "held", desc := "()I" } : Jvm.MethodName)) ∈ lw_all := lw_g (lw_at lw_m11 98 rfl) rfl
theorem q2597 : (Jvm.Cond.code ({ cls := "PrinterClaimsModel", name := "held", desc := "()I" } : Jvm.MethodName) prog_33_method_70_code (3 : Nat) (Option.some Jvm.ClassFile.FieldType.int)) ∈ lw_all := lw_g (lw_at lw_m11 99 rfl) rfl
theorem q2599 : (Jvm.Cond.instanceMethod ({ cls := "PrinterClaimsModel", name := "officeCount", desc := "()I" } : Jvm.MethodName)) ∈ lw_all := lw_g (lw_at lw_m11 101 rfl) rfl
theorem q2600 : (Jvm.Cond.selects "PrinterClaimsModel" ({ cls := "PrinterClaimsModel", name := "officeCount", desc := "()I" } : Jvm.MethodName) ({ cls := "PrinterClaimsModel", name := "officeCount", desc := "()I" } : Jvm.MethodName)) ∈ lw_all := lw_g (lw_at lw_m11 102 rfl) rfl
theorem q2601 : (Jvm.Cond.code ({ cls := "PrinterClaimsModel", name := "officeCount", desc := "()I" } : Jvm.MethodName) prog_33_method_74_code (1 : Nat) (Option.some Jvm.ClassFile.FieldType.int)) ∈ lw_all := lw_g (lw_at lw_m11 103 rfl) rfl
theorem q2603 : (Jvm.Cond.instanceMethod ({ cls := "PrinterClaimsModel", name := "claim", desc := "(II)I" } : Jvm.MethodName)) ∈ lw_all := lw_g (lw_at lw_m11 105 rfl) rfl
theorem q2604 : (Jvm.Cond.selects "PrinterClaimsModel" ({ cls := "PrinterClaimsModel", name := "claim", desc := "(II)I" } : Jvm.MethodName) ({ cls := "PrinterClaimsModel", name := "claim", desc := "(II)I" } : Jvm.MethodName)) ∈ lw_all := lw_g (lw_at lw_m11 106 rfl) rfl
theorem q2605 : (Jvm.Cond.code ({ cls := "PrinterClaimsModel", name := "claim", desc := "(II)I" } : Jvm.MethodName) prog_33_method_75_code (3 : Nat) (Option.some Jvm.ClassFile.FieldType.int)) ∈ lw_all := lw_g (lw_at lw_m11 107 rfl) rfl
theorem q2606 : (Jvm.Cond.methodLink "PrinterClaimsModel" (271 : Nat) ({ cls := "PrinterClaimsModel", name := "noPair", desc := "(II)Z" } : Jvm.MethodName)) ∈ lw_all := lw_g (lw_at lw_m11 108 rfl) rfl
theorem q2607 : (Jvm.Cond.privateMethod ({ cls := "PrinterClaimsModel", name := "noPair", desc := "(II)Z" } : Jvm.MethodName)) ∈ lw_tbl := lw_at lw_m11 109 rfl
theorem q2608 : (Jvm.Cond.instanceMethod ({ cls := "PrinterClaimsModel", name := "noPair", desc := "(II)Z" } : Jvm.MethodName)) ∈ lw_all := lw_g (lw_at lw_m11 110 rfl) rfl
theorem q2609 : (Jvm.Cond.code ({ cls := "PrinterClaimsModel", name := "noPair", desc := "(II)Z" } : Jvm.MethodName) prog_33_method_73_code (3 : Nat) (Option.some Jvm.ClassFile.FieldType.boolean)) ∈ lw_all := lw_g (lw_at lw_m11 111 rfl) rfl
theorem q2610 : (Jvm.Cond.methodLink "PrinterClaimsModel" (268 : Nat) ({ cls := "PrinterClaimsModel", name := "noOffice", desc := "(I)Z" } : Jvm.MethodName)) ∈ lw_all := lw_g (lw_at lw_m11 112 rfl) rfl
theorem q2611 : (Jvm.Cond.privateMethod ({ cls := "PrinterClaimsModel", name := "noOffice", desc := "(I)Z" } : Jvm.MethodName)) ∈ lw_tbl := lw_at lw_m11 113 rfl
theorem q2612 : (Jvm.Cond.instanceMethod ({ cls := "PrinterClaimsModel", name := "noOffice", desc := "(I)Z" } : Jvm.MethodName)) ∈ lw_all := lw_g (lw_at lw_m11 114 rfl) rfl
theorem q2613 : (Jvm.Cond.code ({ cls := "PrinterClaimsModel", name := "noOffice", desc := "(I)Z" } : Jvm.MethodName) prog_33_method_72_code (2 : Nat) (Option.some Jvm.ClassFile.FieldType.boolean)) ∈ lw_all := lw_g (lw_at lw_m11 115 rfl) rfl
theorem q2615 : (Jvm.Cond.instanceMethod ({ cls := "PrinterClaimsModel", name := "allocated", desc := "(II)I" } : Jvm.MethodName)) ∈ lw_all := lw_g (lw_at lw_m11 117 rfl) rfl
theorem q2616 : (Jvm.Cond.selects "PrinterClaimsModel" ({ cls := "PrinterClaimsModel", name := "allocated", desc := "(II)I" } : Jvm.MethodName) ({ cls := "PrinterClaimsModel", name := "allocated", desc := "(II)I" } : Jvm.MethodName)) ∈ lw_all := lw_g (lw_at lw_m11 118 rfl) rfl
theorem q2617 : (Jvm.Cond.code ({ cls := "PrinterClaimsModel", name := "allocated", desc := "(II)I" } : Jvm.MethodName) prog_33_method_76_code (3 : Nat) (Option.some Jvm.ClassFile.FieldType.int)) ∈ lw_all := lw_g (lw_at lw_m11 119 rfl) rfl
theorem q2619 : (Jvm.Cond.instanceMethod ({ cls := "PrinterClaimsModel", name := "need", desc := "(II)I" } : Jvm.MethodName)) ∈ lw_all := lw_g (lw_at lw_m11 121 rfl) rfl
theorem q2620 : (Jvm.Cond.selects "PrinterClaimsModel" ({ cls := "PrinterClaimsModel", name := "need", desc := "(II)I" } : Jvm.MethodName) ({ cls := "PrinterClaimsModel", name := "need", desc := "(II)I" } : Jvm.MethodName)) ∈ lw_all := lw_g (lw_at lw_m11 122 rfl) rfl
theorem q2621 : (Jvm.Cond.code ({ cls := "PrinterClaimsModel", name := "need", desc := "(II)I" } : Jvm.MethodName) prog_33_method_77_code (3 : Nat) (Option.some Jvm.ClassFile.FieldType.int)) ∈ lw_all := lw_g (lw_at lw_m11 123 rfl) rfl
theorem q2623 : (Jvm.Cond.instanceMethod ({ cls := "PrinterClaimsModel", name := "canFinish", desc := "(I)Z" } : Jvm.MethodName)) ∈ lw_all := lw_g (lw_at lw_m11 125 rfl) rfl
theorem q2624 : (Jvm.Cond.selects "PrinterClaimsModel" ({ cls := "PrinterClaimsModel", name := "canFinish", desc := "(I)Z" } : Jvm.MethodName) ({ cls := "PrinterClaimsModel", name := "canFinish", desc := "(I)Z" } : Jvm.MethodName)) ∈ lw_all := lw_g (lw_at lw_m11 126 rfl) rfl
theorem q2625 : (Jvm.Cond.code ({ cls := "PrinterClaimsModel", name := "canFinish", desc := "(I)Z" } : Jvm.MethodName) prog_33_method_78_code (2 : Nat) (Option.some Jvm.ClassFile.FieldType.boolean)) ∈ lw_all := lw_g (lw_at lw_m11 127 rfl) rfl
theorem q2627 : (Jvm.Cond.instanceMethod ({ cls := "PrinterClaimsModel", name := "finisherCount", desc := "()I" } : Jvm.MethodName)) ∈ lw_all := lw_g (lw_at lw_m11 129 rfl) rfl
theorem q2628 : (Jvm.Cond.selects "PrinterClaimsModel" ({ cls := "PrinterClaimsModel", name := "finisherCount", desc := "()I" } : Jvm.MethodName) ({ cls := "PrinterClaimsModel", name := "finisherCount", desc := "()I" } : Jvm.MethodName)) ∈ lw_all := lw_g (lw_at lw_m11 130 rfl) rfl
theorem q2629 : (Jvm.Cond.code ({ cls := "PrinterClaimsModel", name := "finisherCount", desc := "()I" } : Jvm.MethodName) prog_33_method_79_code (3 : Nat) (Option.some Jvm.ClassFile.FieldType.int)) ∈ lw_all := lw_g (lw_at lw_m11 131 rfl) rfl
theorem q2630 : (Jvm.Cond.methodLink "PrinterClaimsModel" (111 : Nat) ({ cls := "PrinterClaimsModel", name := "truth", desc := "(Z)I" } : Jvm.MethodName)) ∈ lw_all := lw_g (lw_at lw_m11 132 rfl) rfl
theorem q2631 : (Jvm.Cond.static ({ cls := "PrinterClaimsModel", name := "truth", desc := "(Z)I" } : Jvm.MethodName)) ∈ lw_all := lw_g (lw_at lw_m11 133 rfl) rfl
theorem q2632 : (Jvm.Cond.code ({ cls := "PrinterClaimsModel", name := "truth", desc := "(Z)I" } : Jvm.MethodName) prog_33_method_4_code (1 : Nat) (Option.some Jvm.ClassFile.FieldType.int)) ∈ lw_all := lw_g (lw_at lw_m11 134 rfl) rfl
theorem q2634 : (Jvm.Cond.instanceMethod ({ cls := "PrinterClaimsModel", name := "greatestHolder", desc := "()I" } : Jvm.MethodName)) ∈ lw_all := lw_g (lw_at lw_m11 136 rfl) rfl
theorem q2635 : (Jvm.Cond.selects "PrinterClaimsModel" ({ cls := "PrinterClaimsModel", name := "greatestHolder", desc := "()I" } : Jvm.MethodName) ({ cls := "PrinterClaimsModel", name := "greatestHolder", desc := "()I" } : Jvm.MethodName)) ∈ lw_all := lw_g (lw_at lw_m11 137 rfl) rfl
theorem q2636 : (Jvm.Cond.code ({ cls := "PrinterClaimsModel", name := "greatestHolder", desc := "()I" } : Jvm.MethodName) prog_33_method_80_code (3 : Nat) (Option.some Jvm.ClassFile.FieldType.int)) ∈ lw_all := lw_g (lw_at lw_m11 138 rfl) rfl
theorem q2637 : (Jvm.Cond.methodLink "PrinterClaimsModel" (274 : Nat) ({ cls := "PrinterClaimsModel", name := "heldOf", desc := "(I)I" } : Jvm.MethodName)) ∈ lw_all := lw_g (lw_at lw_m11 139 rfl) rfl
theorem q2638 : (Jvm.Cond.privateMethod ({ cls := "PrinterClaimsModel", name := "heldOf", desc := "(I)I" } : Jvm.MethodName)) ∈ lw_tbl := lw_at lw_m11 140 rfl
theorem q2639 : (Jvm.Cond.instanceMethod ({ cls := "PrinterClaimsModel", name := "heldOf", desc := "(I)I" } : Jvm.MethodName)) ∈ lw_all := lw_g (lw_at lw_m11 141 rfl) rfl
theorem q2640 : (Jvm.Cond.code ({ cls := "PrinterClaimsModel", name := "heldOf", desc := "(I)I" } : Jvm.MethodName) prog_33_method_11_code (4 : Nat) (Option.some Jvm.ClassFile.FieldType.int)) ∈ lw_all := lw_g (lw_at lw_m11 142 rfl) rfl
theorem q2642 : (Jvm.Cond.instanceMethod ({ cls := "PrinterClaimsModel", name := "meanNeed", desc := "()D" } : Jvm.MethodName)) ∈ lw_all := lw_g (lw_at lw_m11 144 rfl) rfl
theorem q2643 : (Jvm.Cond.selects "PrinterClaimsModel" ({ cls := "PrinterClaimsModel", name := "meanNeed", desc := "()D" } : Jvm.MethodName) ({ cls := "PrinterClaimsModel", name := "meanNeed", desc := "()D" } : Jvm.MethodName)) ∈ lw_all := lw_g (lw_at lw_m11 145 rfl) rfl
theorem q2644 : (Jvm.Cond.code ({ cls := "PrinterClaimsModel", name := "meanNeed", desc := "()D" } : Jvm.MethodName) prog_33_method_81_code (4 : Nat) (Option.some Jvm.ClassFile.FieldType.double)) ∈ lw_all := lw_g (lw_at lw_m11 146 rfl) rfl
theorem q2646 : (Jvm.Cond.instanceMethod ({ cls := "PrinterClaimsModel", name := "waitingCount", desc := "()I" } : Jvm.MethodName)) ∈ lw_all := lw_g (lw_at lw_m11 148 rfl) rfl
theorem q2647 : (Jvm.Cond.selects "PrinterClaimsModel" ({ cls := "PrinterClaimsModel", name := "waitingCount", desc := "()I" } : Jvm.MethodName) ({ cls := "PrinterClaimsModel", name := "waitingCount", desc := "()I" } : Jvm.MethodName)) ∈ lw_all := lw_g (lw_at lw_m11 149 rfl) rfl
theorem q2648 : (Jvm.Cond.code ({ cls := "PrinterClaimsModel", name := "waitingCount", desc := "()I" } : Jvm.MethodName) prog_33_method_82_code (1 : Nat) (Option.some Jvm.ClassFile.FieldType.int)) ∈ lw_all := lw_g (lw_at lw_m11 150 rfl) rfl
theorem q2649 : (Jvm.Cond.methodLink "PrinterClaimsModel" (118 : Nat) ({ cls := "PrinterClaimsModel", name := "waiting", desc := "()I" } : Jvm.MethodName)) ∈ lw_all := lw_g (lw_at lw_m11 151 rfl) rfl
theorem q2650 : (Jvm.Cond.privateMethod ({ cls := "PrinterClaimsModel", name := "waiting", desc := "()I" } : Jvm.MethodName)) ∈ lw_tbl := lw_at lw_m11 152 rfl
theorem q2651 : (Jvm.Cond.instanceMethod ({ cls := "PrinterClaimsModel", name := "waiting", desc := "()I" } : Jvm.MethodName)) ∈ lw_all := lw_g (lw_at lw_m11 153 rfl) rfl
theorem q2652 : (Jvm.Cond.code ({ cls := "PrinterClaimsModel", name := "waiting", desc := "()I" } : Jvm.MethodName) prog_33_method_28_code (3 : Nat) (Option.some Jvm.ClassFile.FieldType.int)) ∈ lw_all := lw_g (lw_at lw_m11 154 rfl) rfl
theorem q2653 : (Jvm.Cond.methodLink "PrinterClaimsModel" (107 : Nat) ({ cls := "PrinterClaimsModel", name := "isWaiting", desc := "(I)Z" } : Jvm.MethodName)) ∈ lw_all := lw_g (lw_at lw_m11 155 rfl) rfl
theorem q2654 : (Jvm.Cond.privateMethod ({ cls := "PrinterClaimsModel", name := "isWaiting", desc := "(I)Z" } : Jvm.MethodName)) ∈ lw_tbl := lw_at lw_m11 156 rfl
theorem q2655 : (Jvm.Cond.instanceMethod ({ cls := "PrinterClaimsModel", name := "isWaiting", desc := "(I)Z" } : Jvm.MethodName)) ∈ lw_all := lw_g (lw_at lw_m11 157 rfl) rfl
theorem q2656 : (Jvm.Cond.code ({ cls := "PrinterClaimsModel", name := "isWaiting", desc := "(I)Z" } : Jvm.MethodName) prog_33_method_22_code (2 : Nat) (Option.some Jvm.ClassFile.FieldType.boolean)) ∈ lw_all := lw_g (lw_at lw_m11 158 rfl) rfl
theorem q2658 : (Jvm.Cond.instanceMethod ({ cls := "PrinterClaimsModel", name := "waitingOffice", desc := "(I)I" } : Jvm.MethodName)) ∈ lw_all := lw_g (lw_at lw_m11 160 rfl) rfl
theorem q2659 : (Jvm.Cond.selects "PrinterClaimsModel" ({ cls := "PrinterClaimsModel", name := "waitingOffice", desc := "(I)I" } : Jvm.MethodName) ({ cls := "PrinterClaimsModel", name := "waitingOffice", desc := "(I)I" } : Jvm.MethodName)) ∈ lw_all := lw_g (lw_at lw_m11 161 rfl) rfl
theorem q2660 : (Jvm.Cond.code ({ cls := "PrinterClaimsModel", name := "waitingOffice", desc := "(I)I" } : Jvm.MethodName) prog_33_method_83_code (2 : Nat) (Option.some Jvm.ClassFile.FieldType.int)) ∈ lw_all := lw_g (lw_at lw_m11 162 rfl) rfl
theorem q2661 : (Jvm.Cond.methodLink "PrinterClaimsModel" (121 : Nat) ({ cls := "PrinterClaimsModel", name := "waitingAt", desc := "(I)I" } : Jvm.MethodName)) ∈ lw_all := lw_g (lw_at lw_m11 163 rfl) rfl
theorem q2662 : (Jvm.Cond.privateMethod ({ cls := "PrinterClaimsModel", name := "waitingAt", desc := "(I)I" } : Jvm.MethodName)) ∈ lw_tbl := lw_at lw_m11 164 rfl
theorem q2663 : (Jvm.Cond.instanceMethod ({ cls := "PrinterClaimsModel", name := "waitingAt", desc := "(I)I" } : Jvm.MethodName)) ∈ lw_all := lw_g (lw_at lw_m11 165 rfl) rfl
theorem q2664 : (Jvm.Cond.code ({ cls := "PrinterClaimsModel", name := "waitingAt", desc := "(I)I" } : Jvm.MethodName) prog_33_method_30_code (3 : Nat) (Option.some Jvm.ClassFile.FieldType.int)) ∈ lw_all := lw_g (lw_at lw_m11 166 rfl) rfl
theorem q2665 : (Jvm.Cond.methodLink "PrinterClaimsModel" (115 : Nat) ({ cls := "PrinterClaimsModel", name := "placeOf", desc := "(I)I" } : Jvm.MethodName)) ∈ lw_all := lw_g (lw_at lw_m11 167 rfl) rfl
theorem q2666 : (Jvm.Cond.privateMethod ({ cls := "PrinterClaimsModel", name := "placeOf", desc := "(I)I" } : Jvm.MethodName)) ∈ lw_tbl := lw_at lw_m11 168 rfl
theorem q2667 : (Jvm.Cond.instanceMethod ({ cls := "PrinterClaimsModel", name := "placeOf", desc := "(I)I" } : Jvm.MethodName)) ∈ lw_all := lw_g (lw_at lw_m11 169 rfl) rfl
theorem q2668 : (Jvm.Cond.code ({ cls := "PrinterClaimsModel", name := "placeOf", desc := "(I)I" } : Jvm.MethodName) prog_33_method_29_code (4 : Nat) (Option.some Jvm.ClassFile.FieldType.int)) ∈ lw_all := lw_g (lw_at lw_m11 170 rfl) rfl
theorem q2670 : (Jvm.Cond.instanceMethod ({ cls := "PrinterClaimsModel", name := "waitsForKind", desc := "(I)I" } : Jvm.MethodName)) ∈ lw_all := lw_g (lw_at lw_m11 172 rfl) rfl
theorem q2671 : (Jvm.Cond.selects "PrinterClaimsModel" ({ cls := "PrinterClaimsModel", name := "waitsForKind", desc := "(I)I" } : Jvm.MethodName) ({ cls := "PrinterClaimsModel", name := "waitsForKind", desc := "(I)I" } : Jvm.MethodName)) ∈ lw_all := lw_g (lw_at lw_m11 173 rfl) rfl
theorem q2672 : (Jvm.Cond.code ({ cls := "PrinterClaimsModel", name := "waitsForKind", desc := "(I)I" } : Jvm.MethodName) prog_33_method_84_code (2 : Nat) (Option.some Jvm.ClassFile.FieldType.int)) ∈ lw_all := lw_g (lw_at lw_m11 174 rfl) rfl
theorem q2674 : (Jvm.Cond.instanceMethod ({ cls := "PrinterClaimsModel", name := "waitsForCount", desc := "(I)I" } : Jvm.MethodName)) ∈ lw_all := lw_g (lw_at lw_m11 176 rfl) rfl
theorem q2675 : (Jvm.Cond.selects "PrinterClaimsModel" ({ cls := "PrinterClaimsModel", name := "waitsForCount", desc := "(I)I" } : Jvm.MethodName) ({ cls := "PrinterClaimsModel", name := "waitsForCount", desc := "(I)I" } : Jvm.MethodName)) ∈ lw_all := lw_g (lw_at lw_m11 177 rfl) rfl
theorem q2676 : (Jvm.Cond.code ({ cls := "PrinterClaimsModel", name := "waitsForCount", desc := "(I)I" } : Jvm.MethodName) prog_33_method_85_code (2 : Nat) (Option.some Jvm.ClassFile.FieldType.int)) ∈ lw_all := lw_g (lw_at lw_m11 178 rfl) rfl
theorem q2678 : (Jvm.Cond.instanceMethod ({ cls := "PrinterClaimsModel", name := "waitedPrinters", desc := "(I)I" } : Jvm.MethodName)) ∈ lw_all := lw_g (lw_at lw_m11 180 rfl) rfl
theorem q2679 : (Jvm.Cond.selects "PrinterClaimsModel" ({ cls := "PrinterClaimsModel", name := "waitedPrinters", desc := "(I)I" } : Jvm.MethodName) ({ cls := "PrinterClaimsModel", name := "waitedPrinters", desc := "(I)I" } : Jvm.MethodName)) ∈ lw_all := lw_g (lw_at lw_m11 181 rfl) rfl
theorem q2680 : (Jvm.Cond.code ({ cls := "PrinterClaimsModel", name := "waitedPrinters", desc := "(I)I" } : Jvm.MethodName) prog_33_method_86_code (4 : Nat) (Option.some Jvm.ClassFile.FieldType.int)) ∈ lw_all := lw_g (lw_at lw_m11 182 rfl) rfl
theorem q2682 : (Jvm.Cond.instanceMethod ({ cls := "PrinterClaimsModel", name := "waitReason", desc := "(I)I" } : Jvm.MethodName)) ∈ lw_all := lw_g (lw_at lw_m11 184 rfl) rfl
theorem q2683 : (Jvm.Cond.selects "PrinterClaimsModel" ({ cls := "PrinterClaimsModel", name := "waitReason", desc := "(I)I" } : Jvm.MethodName) ({ cls := "PrinterClaimsModel", name := "waitReason", desc := "(I)I" } : Jvm.MethodName)) ∈ lw_all := lw_g (lw_at lw_m11 185 rfl) rfl
theorem q2684 : (Jvm.Cond.code ({ cls := "PrinterClaimsModel", name := "waitReason", desc := "(I)I" } : Jvm.MethodName) prog_33_method_87_code (2 : Nat) (Option.some Jvm.ClassFile.FieldType.int)) ∈ lw_all := lw_g (lw_at lw_m11 186 rfl) rfl
theorem q2686 : (Jvm.Cond.instanceMethod ({ cls := "PrinterClaimsModel", name := "sequenceOffice", desc := "(I)I" } : Jvm.MethodName)) ∈ lw_all := lw_g (lw_at lw_m11 188 rfl) rfl
theorem q2687 : (Jvm.Cond.selects "PrinterClaimsModel" ({ cls := "PrinterClaimsModel", name := "sequenceOffice", desc := "(I)I" } : Jvm.MethodName) ({ cls := "PrinterClaimsModel", name := "sequenceOffice", desc := "(I)I" } : Jvm.MethodName)) ∈ lw_all := lw_g (lw_at lw_m11 189 rfl) rfl
theorem q2688 : (Jvm.Cond.code ({ cls := "PrinterClaimsModel", name := "sequenceOffice", desc := "(I)I" } : Jvm.MethodName) prog_33_method_88_code (2 : Nat) (Option.some Jvm.ClassFile.FieldType.int)) ∈ lw_all := lw_g (lw_at lw_m11 190 rfl) rfl
theorem q2690 : (Jvm.Cond.instanceMethod ({ cls := "PrinterClaimsModel", name := "sequenceAvailable", desc := "(II)I" } : Jvm.MethodName)) ∈ lw_all := lw_g (lw_at lw_m11 192 rfl) rfl
theorem q2691 : (Jvm.Cond.selects "PrinterClaimsModel" ({ cls := "PrinterClaimsModel", name := "sequenceAvailable", desc := "(II)I" } : Jvm.MethodName) ({ cls := "PrinterClaimsModel", name := "sequenceAvailable", desc := "(II)I" } : Jvm.MethodName)) ∈ lw_all := lw_g (lw_at lw_m11 193 rfl) rfl
theorem q2692 : (Jvm.Cond.code ({ cls := "PrinterClaimsModel", name := "sequenceAvailable", desc := "(II)I" } : Jvm.MethodName) prog_33_method_89_code (3 : Nat) (Option.some Jvm.ClassFile.FieldType.int)) ∈ lw_all := lw_g (lw_at lw_m11 194 rfl) rfl
theorem q2694 : (Jvm.Cond.instanceMethod ({ cls := "PrinterClaimsModel", name := "sequenceCount", desc := "()I" } : Jvm.MethodName)) ∈ lw_all := lw_g (lw_at lw_m11 196 rfl) rfl
theorem q2695 : (Jvm.Cond.selects "PrinterClaimsModel" ({ cls := "PrinterClaimsModel", name := "sequenceCount", desc := "()I" } : Jvm.MethodName) ({ cls := "PrinterClaimsModel", name := "sequenceCount", desc := "()I" } : Jvm.MethodName)) ∈ lw_all := lw_g (lw_at lw_m11 197 rfl) rfl
theorem q2696 : (Jvm.Cond.code ({ cls := "PrinterClaimsModel", name := "sequenceCount", desc := "()I" } : Jvm.MethodName) prog_33_method_90_code (1 : Nat) (Option.some Jvm.ClassFile.FieldType.int)) ∈ lw_all := lw_g (lw_at lw_m11 198 rfl) rfl
theorem q2697 : (Jvm.Cond.methodLink "PrinterClaimsModel" (277 : Nat) ({ cls := "PrinterClaimsModel", name := "countsOrders", desc := "()V" } : Jvm.MethodName)) ∈ lw_all := lw_g (lw_at lw_m11 199 rfl) rfl
theorem q2698 : (Jvm.Cond.privateMethod ({ cls := "PrinterClaimsModel", name := "countsOrders", desc := "()V" } : Jvm.MethodName)) ∈ lw_tbl := lw_at lw_m11 200 rfl
theorem q2699 : (Jvm.Cond.instanceMethod ({ cls := "PrinterClaimsModel", name := "countsOrders", desc := "()V" } : Jvm.MethodName)) ∈ lw_all := lw_g (lw_at lw_m11 201 rfl) rfl
theorem q2700 : (Jvm.Cond.code ({ cls := "PrinterClaimsModel", name := "countsOrders", desc := "()V" } : Jvm.MethodName) prog_33_method_20_code (4 : Nat) (Option.none : Option Jvm.ClassFile.FieldType)) ∈ lw_all := lw_g (lw_at lw_m11 202 rfl) rfl
theorem q2702 : (Jvm.Cond.instanceMethod ({ cls := "PrinterClaimsModel", name := "earliestPlace", desc := "(I)I" } : Jvm.MethodName)) ∈ lw_all := lw_g (lw_at lw_m11 204 rfl) rfl
theorem q2703 : (Jvm.Cond.selects "PrinterClaimsModel" ({ cls := "PrinterClaimsModel", name := "earliestPlace", desc := "(I)I" } : Jvm.MethodName) ({ cls := "PrinterClaimsModel", name := "earliestPlace", desc := "(I)I" } : Jvm.MethodName)) ∈ lw_all := lw_g (lw_at lw_m11 205 rfl) rfl
theorem q2704 : (Jvm.Cond.code ({ cls := "PrinterClaimsModel", name := "earliestPlace", desc := "(I)I" } : Jvm.MethodName) prog_33_method_91_code (4 : Nat) (Option.some Jvm.ClassFile.FieldType.int)) ∈ lw_all := lw_g (lw_at lw_m11 206 rfl) rfl
theorem q2705 : (Jvm.Cond.methodLink "PrinterClaimsModel" (280 : Nat) ({ cls := "PrinterClaimsModel", name := "sizeOf", desc := "(I)I" } : Jvm.MethodName)) ∈ lw_all := lw_g (lw_at lw_m11 207 rfl) rfl
theorem q2706 : (Jvm.Cond.static ({ cls := "PrinterClaimsModel", name := "sizeOf", desc := "(I)I" } : Jvm.MethodName)) ∈ lw_all := lw_g (lw_at lw_m11 208 rfl) rfl
theorem q2707 : (Jvm.Cond.code ({ cls := "PrinterClaimsModel", name := "sizeOf", desc := "(I)I" } : Jvm.MethodName) prog_33_method_21_code (3 : Nat) (Option.some Jvm.ClassFile.FieldType.int)) ∈ lw_all := lw_g (lw_at lw_m11 209 rfl) rfl
theorem q2709 : (Jvm.Cond.instanceMethod ({ cls := "PrinterClaimsModel", name := "requestObstacle", desc := "(III)I" } : Jvm.MethodName)) ∈ lw_all := lw_g (lw_at lw_m11 211 rfl) rfl
theorem q2710 : (Jvm.Cond.selects "PrinterClaimsModel" ({ cls := "PrinterClaimsModel", name := "requestObstacle", desc := "(III)I" } : Jvm.MethodName) ({ cls := "PrinterClaimsModel", name := "requestObstacle", desc := "(III)I" } : Jvm.MethodName)) ∈ lw_all := lw_g (lw_at lw_m11 212 rfl) rfl
theorem q2711 : (Jvm.Cond.code ({ cls := "PrinterClaimsModel", name := "requestObstacle", desc := "(III)I" } : Jvm.MethodName) prog_33_method_95_code (4 : Nat) (Option.some Jvm.ClassFile.FieldType.int)) ∈ lw_all := lw_g (lw_at lw_m11 213 rfl) rfl
theorem q2712 : (Jvm.Cond.methodLink "PrinterClaimsModel" (283 : Nat) ({ cls := "PrinterClaimsModel", name := "obstacle", desc := "(III)I" } : Jvm.MethodName)) ∈ lw_all := lw_g (lw_at lw_m11 214 rfl) rfl
theorem q2713 : (Jvm.Cond.privateMethod ({ cls := "PrinterClaimsModel", name := "obstacle", desc := "(III)I" } : Jvm.MethodName)) ∈ lw_tbl := lw_at lw_m11 215 rfl
theorem q2714 : (Jvm.Cond.instanceMethod ({ cls := "PrinterClaimsModel", name := "obstacle", desc := "(III)I" } : Jvm.MethodName)) ∈ lw_all := lw_g (lw_at lw_m11 216 rfl) rfl
theorem q2715 : (Jvm.Cond.code ({ cls := "PrinterClaimsModel", name := "obstacle", desc := "(III)I" } : Jvm.MethodName) prog_33_method_94_code (4 : Nat) (Option.some Jvm.ClassFile.FieldType.int)) ∈ lw_all := lw_g (lw_at lw_m11 217 rfl) rfl
theorem q2716 : (Jvm.Cond.methodLink "PrinterClaimsModel" (103 : Nat) ({ cls := "PrinterClaimsModel", name := "isSafeWith", desc := "(III)Z" } : Jvm.MethodName)) ∈ lw_all := lw_g (lw_at lw_m11 218 rfl) rfl
theorem q2717 : (Jvm.Cond.privateMethod ({ cls := "PrinterClaimsModel", name := "isSafeWith", desc := "(III)Z" } : Jvm.MethodName)) ∈ lw_tbl := lw_at lw_m11 219 rfl
theorem q2718 : (Jvm.Cond.instanceMethod ({ cls := "PrinterClaimsModel", name := "isSafeWith", desc := "(III)Z" } : Jvm.MethodName)) ∈ lw_all := lw_g (lw_at lw_m11 220 rfl) rfl
theorem q2719 : (Jvm.Cond.code ({ cls := "PrinterClaimsModel", name := "isSafeWith", desc := "(III)Z" } : Jvm.MethodName) prog_33_method_24_code (5 : Nat) (Option.some Jvm.ClassFile.FieldType.boolean)) ∈ lw_all := lw_g (lw_at lw_m11 221 rfl) rfl
theorem q2720 : (Jvm.Cond.methodLink "PrinterClaimsModel" (96 : Nat) ({ cls := "PrinterClaimsModel", name := "gives", desc := "(III)V" } : Jvm.MethodName)) ∈ lw_all := lw_g (lw_at lw_m11 222 rfl) rfl
theorem q2721 : (Jvm.Cond.privateMethod ({ cls := "PrinterClaimsModel", name := "gives", desc := "(III)V" } : Jvm.MethodName)) ∈ lw_tbl := lw_at lw_m11 223 rfl
theorem q2722 : (Jvm.Cond.instanceMethod ({ cls := "PrinterClaimsModel", name := "gives", desc := "(III)V" } : Jvm.MethodName)) ∈ lw_all := lw_g (lw_at lw_m11 224 rfl) rfl
theorem q2723 : (Jvm.Cond.code ({ cls := "PrinterClaimsModel", name := "gives", desc := "(III)V" } : Jvm.MethodName) prog_33_method_23_code (4 : Nat) (Option.none : Option Jvm.ClassFile.FieldType)) ∈ lw_all := lw_g (lw_at lw_m11 225 rfl) rfl
theorem q2725 : (Jvm.Cond.instanceMethod ({ cls := "PrinterClaimsModel", name := "greatestGrant", desc := "(II)I" } : Jvm.MethodName)) ∈ lw_all := lw_g (lw_at lw_m11 227 rfl) rfl
theorem q2726 : (Jvm.Cond.selects "PrinterClaimsModel" ({ cls := "PrinterClaimsModel", name := "greatestGrant", desc := "(II)I" } : Jvm.MethodName) ({ cls := "PrinterClaimsModel", name := "greatestGrant", desc := "(II)I" } : Jvm.MethodName)) ∈ lw_all := lw_g (lw_at lw_m11 228 rfl) rfl
theorem q2727 : (Jvm.Cond.code ({ cls := "PrinterClaimsModel", name := "greatestGrant", desc := "(II)I" } : Jvm.MethodName) prog_33_method_96_code (4 : Nat) (Option.some Jvm.ClassFile.FieldType.int)) ∈ lw_all := lw_g (lw_at lw_m11 229 rfl) rfl
theorem q2728 : (Jvm.Cond.methodLink "PrinterClaimsModel" (124 : Nat) ({ cls := "PrinterClaimsModel", name := "canGrant", desc := "(III)Z" } : Jvm.MethodName)) ∈ lw_all := lw_g (lw_at lw_m11 230 rfl) rfl
theorem q2729 : (Jvm.Cond.privateMethod ({ cls := "PrinterClaimsModel", name := "canGrant", desc := "(III)Z" } : Jvm.MethodName)) ∈ lw_tbl := lw_at lw_m11 231 rfl
theorem q2730 : (Jvm.Cond.instanceMethod ({ cls := "PrinterClaimsModel", name := "canGrant", desc := "(III)Z" } : Jvm.MethodName)) ∈ lw_all := lw_g (lw_at lw_m11 232 rfl) rfl
theorem q2731 : (Jvm.Cond.code ({ cls := "PrinterClaimsModel", name := "canGrant", desc := "(III)Z" } : Jvm.MethodName) prog_33_method_25_code (4 : Nat) (Option.some Jvm.ClassFile.FieldType.boolean)) ∈ lw_all := lw_g (lw_at lw_m11 233 rfl) rfl
theorem q2733 : (Jvm.Cond.instanceMethod ({ cls := "PrinterClaimsModel", name := "spare", desc := "(I)I" } : Jvm.MethodName)) ∈ lw_all := lw_g (lw_at lw_m11 235 rfl) rfl
theorem q2734 : (Jvm.Cond.selects "PrinterClaimsModel" ({ cls := "PrinterClaimsModel", name := "spare", desc := "(I)I" } : Jvm.MethodName) ({ cls := "PrinterClaimsModel", name := "spare", desc := "(I)I" } : Jvm.MethodName)) ∈ lw_all := lw_g (lw_at lw_m11 236 rfl) rfl
theorem q2735 : (Jvm.Cond.code ({ cls := "PrinterClaimsModel", name := "spare", desc := "(I)I" } : Jvm.MethodName) prog_33_method_97_code (3 : Nat) (Option.some Jvm.ClassFile.FieldType.int)) ∈ lw_all := lw_g (lw_at lw_m11 237 rfl) rfl
theorem q2736 : (Jvm.Cond.methodLink "PrinterClaimsModel" (143 : Nat) ({ cls := "PrinterClaimsModel", name := "canRetire", desc := "(II)Z" } : Jvm.MethodName)) ∈ lw_all := lw_g (lw_at lw_m11 238 rfl) rfl
theorem q2737 : (Jvm.Cond.privateMethod ({ cls := "PrinterClaimsModel", name := "canRetire", desc := "(II)Z" } : Jvm.MethodName)) ∈ lw_tbl := lw_at lw_m11 239 rfl
theorem q2738 : (Jvm.Cond.instanceMethod ({ cls := "PrinterClaimsModel", name := "canRetire", desc := "(II)Z" } : Jvm.MethodName)) ∈ lw_all := lw_g (lw_at lw_m12 0 rfl) rfl
theorem q2739 : (Jvm.Cond.code ({ cls := "PrinterClaimsModel", name := "canRetire", desc := "(II)Z" } : Jvm.MethodName) prog_33_method_35_code (4 : Nat) (Option.some Jvm.ClassFile.FieldType.boolean)) ∈ lw_all := lw_g (lw_at lw_m12 1 rfl) rfl
theorem q2741 : (Jvm.Cond.instanceMethod ({ cls := "PrinterClaimsModel", name := "wouldWake", desc := "(I)I" } : Jvm.MethodName)) ∈ lw_all := lw_g (lw_at lw_m12 3 rfl) rfl
theorem q2742 : (Jvm.Cond.selects "PrinterClaimsModel" ({ cls := "PrinterClaimsModel", name := "wouldWake", desc := "(I)I" } : Jvm.MethodName) ({ cls := "PrinterClaimsModel", name := "wouldWake", desc := "(I)I" } : Jvm.MethodName)) ∈ lw_all := lw_g (lw_at lw_m12 4 rfl) rfl
theorem q2743 : (Jvm.Cond.code ({ cls := "PrinterClaimsModel", name := "wouldWake", desc := "(I)I" } : Jvm.MethodName) prog_33_method_98_code (2 : Nat) (Option.some Jvm.ClassFile.FieldType.int)) ∈ lw_all := lw_g (lw_at lw_m12 5 rfl) rfl
theorem q2744 : (Jvm.Cond.methodLink "PrinterClaimsModel" (286 : Nat) ({ cls := "PrinterClaimsModel", name := "tries", desc := "()V" } : Jvm.MethodName)) ∈ lw_all := lw_g (lw_at lw_m12 6 rfl) rfl
theorem q2745 : (Jvm.Cond.privateMethod ({ cls := "PrinterClaimsModel", name := "tries", desc := "()V" } : Jvm.MethodName)) ∈ lw_tbl := lw_at lw_m12 7 rfl
theorem q2746 : (Jvm.Cond.instanceMethod ({ cls := "PrinterClaimsModel", name := "tries", desc := "()V" } : Jvm.MethodName)) ∈ lw_all := lw_g (lw_at lw_m12 8 rfl) rfl
theorem q2747 : (Jvm.Cond.code ({ cls := "PrinterClaimsModel", name := "tries", desc := "()V" } : Jvm.MethodName) prog_33_method_92_code (1 : Nat) (Option.none : Option Jvm.ClassFile.FieldType)) ∈ lw_all := lw_g (lw_at lw_m12 9 rfl) rfl
theorem q2748 : (Jvm.Cond.methodLink "PrinterClaimsModel" (156 : Nat) ({ cls := "PrinterClaimsModel", name := "finishes", desc := "(I)I" } : Jvm.MethodName)) ∈ lw_all := lw_g (lw_at lw_m12 10 rfl) rfl
theorem q2749 : (Jvm.Cond.privateMethod ({ cls := "PrinterClaimsModel", name := "finishes", desc := "(I)I" } : Jvm.MethodName)) ∈ lw_tbl := lw_at lw_m12 11 rfl
theorem q2750 : (Jvm.Cond.instanceMethod ({ cls := "PrinterClaimsModel", name := "finishes", desc := "(I)I" } : Jvm.MethodName)) ∈ lw_all := lw_g (lw_at lw_m12 12 rfl) rfl
theorem q2751 : (Jvm.Cond.code ({ cls := "PrinterClaimsModel", name := "finishes", desc := "(I)I" } : Jvm.MethodName) prog_33_method_39_code (3 : Nat) (Option.some Jvm.ClassFile.FieldType.int)) ∈ lw_all := lw_g (lw_at lw_m12 13 rfl) rfl
theorem q2752 : (Jvm.Cond.methodLink "PrinterClaimsModel" (130 : Nat) ({ cls := "PrinterClaimsModel", name := "forgets", desc := "(I)V" } : Jvm.MethodName)) ∈ lw_all := lw_g (lw_at lw_m12 14 rfl) rfl
theorem q2753 : (Jvm.Cond.privateMethod ({ cls := "PrinterClaimsModel", name := "forgets", desc := "(I)V" } : Jvm.MethodName)) ∈ lw_tbl := lw_at lw_m12 15 rfl
theorem q2754 : (Jvm.Cond.instanceMethod ({ cls := "PrinterClaimsModel", name := "forgets", desc := "(I)V" } : Jvm.MethodName)) ∈ lw_all := lw_g (lw_at lw_m12 16 rfl) rfl
theorem q2755 : (Jvm.Cond.code ({ cls := "PrinterClaimsModel", name := "forgets", desc := "(I)V" } : Jvm.MethodName) prog_33_method_27_code (2 : Nat) (Option.none : Option Jvm.ClassFile.FieldType)) ∈ lw_all := lw_g (lw_at lw_m12 17 rfl) rfl
theorem q2756 : (Jvm.Cond.methodLink "PrinterClaimsModel" (146 : Nat) ({ cls := "PrinterClaimsModel", name := "serves", desc := "()I" } : Jvm.MethodName)) ∈ lw_all := lw_g (lw_at lw_m12 18 rfl) rfl
theorem q2757 : (Jvm.Cond.privateMethod ({ cls := "PrinterClaimsModel", name := "serves", desc := "()I" } : Jvm.MethodName)) ∈ lw_tbl := lw_at lw_m12 19 rfl
theorem q2758 : (Jvm.Cond.instanceMethod ({ cls := "PrinterClaimsModel", name := "serves", desc := "()I" } : Jvm.MethodName)) ∈ lw_all := lw_g (lw_at lw_m12 20 rfl) rfl
theorem q2759 : (Jvm.Cond.code ({ cls := "PrinterClaimsModel", name := "serves", desc := "()I" } : Jvm.MethodName) prog_33_method_32_code (5 : Nat) (Option.some Jvm.ClassFile.FieldType.int)) ∈ lw_all := lw_g (lw_at lw_m12 21 rfl) rfl
theorem q2760 : (Jvm.Cond.methodLink "PrinterClaimsModel" (127 : Nat) ({ cls := "PrinterClaimsModel", name := "firstToGrant", desc := "()I" } : Jvm.MethodName)) ∈ lw_all := lw_g (lw_at lw_m12 22 rfl) rfl
theorem q2761 : (Jvm.Cond.privateMethod ({ cls := "PrinterClaimsModel", name := "firstToGrant", desc := "()I" } : Jvm.MethodName)) ∈ lw_tbl := lw_at lw_m12 23 rfl
theorem q2762 : (Jvm.Cond.instanceMethod ({ cls := "PrinterClaimsModel", name := "firstToGrant", desc := "()I" } : Jvm.MethodName)) ∈ lw_all := lw_g (lw_at lw_m12 24 rfl) rfl
theorem q2763 : (Jvm.Cond.code ({ cls := "PrinterClaimsModel", name := "firstToGrant", desc := "()I" } : Jvm.MethodName) prog_33_method_31_code (3 : Nat) (Option.some Jvm.ClassFile.FieldType.int)) ∈ lw_all := lw_g (lw_at lw_m12 25 rfl) rfl
theorem q2764 : (Jvm.Cond.methodLink "PrinterClaimsModel" (134 : Nat) ({ cls := "PrinterClaimsModel", name := "grants", desc := "(III)V" } : Jvm.MethodName)) ∈ lw_all := lw_g (lw_at lw_m12 26 rfl) rfl
theorem q2765 : (Jvm.Cond.privateMethod ({ cls := "PrinterClaimsModel", name := "grants", desc := "(III)V" } : Jvm.MethodName)) ∈ lw_tbl := lw_at lw_m12 27 rfl
theorem q2766 : (Jvm.Cond.instanceMethod ({ cls := "PrinterClaimsModel", name := "grants", desc := "(III)V" } : Jvm.MethodName)) ∈ lw_all := lw_g (lw_at lw_m12 28 rfl) rfl
theorem q2767 : (Jvm.Cond.code ({ cls := "PrinterClaimsModel", name := "grants", desc := "(III)V" } : Jvm.MethodName) prog_33_method_26_code (4 : Nat) (Option.none : Option Jvm.ClassFile.FieldType)) ∈ lw_all := lw_g (lw_at lw_m12 29 rfl) rfl
theorem q2768 : (Jvm.Cond.methodLink "PrinterClaimsModel" (289 : Nat) ({ cls := "PrinterClaimsModel", name := "back", desc := "(I)I" } : Jvm.MethodName)) ∈ lw_all := lw_g (lw_at lw_m12 30 rfl) rfl
theorem q2769 : (Jvm.Cond.privateMethod ({ cls := "PrinterClaimsModel", name := "back", desc := "(I)I" } : Jvm.MethodName)) ∈ lw_tbl := lw_at lw_m12 31 rfl
theorem q2770 : (Jvm.Cond.instanceMethod ({ cls := "PrinterClaimsModel", name := "back", desc := "(I)I" } : Jvm.MethodName)) ∈ lw_all := lw_g (lw_at lw_m12 32 rfl) rfl
theorem q2771 : (Jvm.Cond.code ({ cls := "PrinterClaimsModel", name := "back", desc := "(I)I" } : Jvm.MethodName) prog_33_method_93_code (2 : Nat) (Option.some Jvm.ClassFile.FieldType.int)) ∈ lw_all := lw_g (lw_at lw_m12 33 rfl) rfl
theorem q2773 : (Jvm.Cond.instanceMethod ({ cls := "PrinterClaimsModel", name := "grantedRequests", desc := "()I" } : Jvm.MethodName)) ∈ lw_all := lw_g (lw_at lw_m12 35 rfl) rfl
theorem q2774 : (Jvm.Cond.selects "PrinterClaimsModel" ({ cls := "PrinterClaimsModel", name := "grantedRequests", desc := "()I" } : Jvm.MethodName) ({ cls := "PrinterClaimsModel", name := "grantedRequests", desc := "()I" } : Jvm.MethodName)) ∈ lw_all := lw_g (lw_at lw_m12 36 rfl) rfl
theorem q2775 : (Jvm.Cond.code ({ cls := "PrinterClaimsModel", name := "grantedRequests", desc := "()I" } : Jvm.MethodName) prog_33_method_100_code (1 : Nat) (Option.some Jvm.ClassFile.FieldType.int)) ∈ lw_all := lw_g (lw_at lw_m12 37 rfl) rfl
theorem q2776 : (Jvm.Cond.methodLink "PrinterClaimsModel" (292 : Nat) ({ cls := "PrinterClaimsModel", name := "counter", desc := "(I)I" } : Jvm.MethodName)) ∈ lw_all := lw_g (lw_at lw_m12 38 rfl) rfl
theorem q2777 : (Jvm.Cond.privateMethod ({ cls := "PrinterClaimsModel", name := "counter", desc := "(I)I" } : Jvm.MethodName)) ∈ lw_tbl := lw_at lw_m12 39 rfl
theorem q2778 : (Jvm.Cond.instanceMethod ({ cls := "PrinterClaimsModel", name := "counter", desc := "(I)I" } : Jvm.MethodName)) ∈ lw_all := lw_g (lw_at lw_m12 40 rfl) rfl
theorem q2779 : (Jvm.Cond.code ({ cls := "PrinterClaimsModel", name := "counter", desc := "(I)I" } : Jvm.MethodName) prog_33_method_99_code (2 : Nat) (Option.some Jvm.ClassFile.FieldType.int)) ∈ lw_all := lw_g (lw_at lw_m12 41 rfl) rfl
theorem q2781 : (Jvm.Cond.instanceMethod ({ cls := "PrinterClaimsModel", name := "delayedRequests", desc := "()I" } : Jvm.MethodName)) ∈ lw_all := lw_g (lw_at lw_m12 43 rfl) rfl
theorem q2782 : (Jvm.Cond.selects "PrinterClaimsModel" ({ cls := "PrinterClaimsModel", name := "delayedRequests", desc := "()I" } : Jvm.MethodName) ({ cls := "PrinterClaimsModel", name := "delayedRequests", desc := "()I" } : Jvm.MethodName)) ∈ lw_all := lw_g (lw_at lw_m12 44 rfl) rfl
theorem q2783 : (Jvm.Cond.code ({ cls := "PrinterClaimsModel", name := "delayedRequests", desc := "()I" } : Jvm.MethodName) prog_33_method_101_code (1 : Nat) (Option.some Jvm.ClassFile.FieldType.int)) ∈ lw_all := lw_g (lw_at lw_m12 45 rfl) rfl
theorem q2785 : (Jvm.Cond.instanceMethod ({ cls := "PrinterClaimsModel", name := "unsafeRequests", desc := "()I" } : Jvm.MethodName)) ∈ lw_all := lw_g (lw_at lw_m12 47 rfl) rfl
theorem q2786 : (Jvm.Cond.selects "PrinterClaimsModel" ({ cls := "PrinterClaimsModel", name := "unsafeRequests", desc := "()I" } : Jvm.MethodName) ({ cls := "PrinterClaimsModel", name := "unsafeRequests", desc := "()I" } : Jvm.MethodName)) ∈ lw_all := lw_g (lw_at lw_m12 48 rfl) rfl
theorem q2787 : (Jvm.Cond.code ({ cls := "PrinterClaimsModel", name := "unsafeRequests", desc := "()I" } : Jvm.MethodName) prog_33_method_102_code (1 : Nat) (Option.some Jvm.ClassFile.FieldType.int)) ∈ lw_all := lw_g (lw_at lw_m12 49 rfl) rfl
theorem q2789 : (Jvm.Cond.instanceMethod ({ cls := "PrinterClaimsModel", name := "grantedPrinters", desc := "()I" } : Jvm.MethodName)) ∈ lw_all := lw_g (lw_at lw_m12 51 rfl) rfl
theorem q2790 : (Jvm.Cond.selects "PrinterClaimsModel" ({ cls := "PrinterClaimsModel", name := "grantedPrinters", desc := "()I" } : Jvm.MethodName) ({ cls := "PrinterClaimsModel", name := "grantedPrinters", desc := "()I" } : Jvm.MethodName)) ∈ lw_all := lw_g (lw_at lw_m12 52 rfl) rfl
theorem q2791 : (Jvm.Cond.code ({ cls := "PrinterClaimsModel", name := "grantedPrinters", desc := "()I" } : Jvm.MethodName) prog_33_method_103_code (1 : Nat) (Option.some Jvm.ClassFile.FieldType.int)) ∈ lw_all := lw_g (lw_at lw_m12 53 rfl) rfl
theorem q2793 : (Jvm.Cond.instanceMethod ({ cls := "PrinterClaimsModel", name := "returnedPrinters", desc := "()I" } : Jvm.MethodName)) ∈ lw_all := lw_g (lw_at lw_m12 55 rfl) rfl
theorem q2794 : (Jvm.Cond.selects "PrinterClaimsModel" ({ cls := "PrinterClaimsModel", name := "returnedPrinters", desc := "()I" } : Jvm.MethodName) ({ cls := "PrinterClaimsModel", name := "returnedPrinters", desc := "()I" } : Jvm.MethodName)) ∈ lw_all := lw_g (lw_at lw_m12 56 rfl) rfl
theorem q2795 : (Jvm.Cond.code ({ cls := "PrinterClaimsModel", name := "returnedPrinters", desc := "()I" } : Jvm.MethodName) prog_33_method_104_code (1 : Nat) (Option.some Jvm.ClassFile.FieldType.int)) ∈ lw_all := lw_g (lw_at lw_m12 57 rfl) rfl
theorem q2797 : (Jvm.Cond.instanceMethod ({ cls := "PrinterClaimsModel", name := "ledgerGap", desc := "()I" } : Jvm.MethodName)) ∈ lw_all := lw_g (lw_at lw_m12 59 rfl) rfl
theorem q2798 : (Jvm.Cond.selects "PrinterClaimsModel" ({ cls := "PrinterClaimsModel", name := "ledgerGap", desc := "()I" } : Jvm.MethodName) ({ cls := "PrinterClaimsModel", name := "ledgerGap", desc := "()I" } : Jvm.MethodName)) ∈ lw_all := lw_g (lw_at lw_m12 60 rfl) rfl
theorem q2799 : (Jvm.Cond.code ({ cls := "PrinterClaimsModel", name := "ledgerGap", desc := "()I" } : Jvm.MethodName) prog_33_method_105_code (1 : Nat) (Option.some Jvm.ClassFile.FieldType.int)) ∈ lw_all := lw_g (lw_at lw_m12 61 rfl) rfl
theorem q2800 : (Jvm.Cond.methodLink "PrinterClaimsModel" (295 : Nat) ({ cls := "PrinterClaimsModel", name := "plain", desc := "(I)I" } : Jvm.MethodName)) ∈ lw_all := lw_g (lw_at lw_m12 62 rfl) rfl
theorem q2801 : (Jvm.Cond.static ({ cls := "PrinterClaimsModel", name := "plain", desc := "(I)I" } : Jvm.MethodName)) ∈ lw_all := lw_g (lw_at lw_m12 63 rfl) rfl
theorem q2802 : (Jvm.Cond.code ({ cls := "PrinterClaimsModel", name := "plain", desc := "(I)I" } : Jvm.MethodName) prog_33_method_5_code (1 : Nat) (Option.some Jvm.ClassFile.FieldType.int)) ∈ lw_all := lw_g (lw_at lw_m12 64 rfl) rfl
theorem q2804 : (Jvm.Cond.instanceMethod ({ cls := "PrinterClaimsModel", name := "request", desc := "(III)I" } : Jvm.MethodName)) ∈ lw_all := lw_g (lw_at lw_m12 66 rfl) rfl
theorem q2805 : (Jvm.Cond.selects "PrinterClaimsModel" ({ cls := "PrinterClaimsModel", name := "request", desc := "(III)I" } : Jvm.MethodName) ({ cls := "PrinterClaimsModel", name := "request", desc := "(III)I" } : Jvm.MethodName)) ∈ lw_all := lw_g (lw_at lw_m12 67 rfl) rfl
theorem q2806 : (Jvm.Cond.code ({ cls := "PrinterClaimsModel", name := "request", desc := "(III)I" } : Jvm.MethodName) prog_33_method_108_code (4 : Nat) (Option.some Jvm.ClassFile.FieldType.int)) ∈ lw_all := lw_g (lw_at lw_m12 68 rfl) rfl
theorem q2807 : (Jvm.Cond.methodLink "PrinterClaimsModel" (309 : Nat) ({ cls := "PrinterClaimsModel", name := "operates", desc := "(IIIII)I" } : Jvm.MethodName)) ∈ lw_all := lw_g (lw_at lw_m12 69 rfl) rfl
theorem q2808 : (Jvm.Cond.privateMethod ({ cls := "PrinterClaimsModel", name := "operates", desc := "(IIIII)I" } : Jvm.MethodName)) ∈ lw_tbl := lw_at lw_m12 70 rfl
theorem q2809 : (Jvm.Cond.instanceMethod ({ cls := "PrinterClaimsModel", name := "operates", desc := "(IIIII)I" } : Jvm.MethodName)) ∈ lw_all := lw_g (lw_at lw_m12 71 rfl) rfl
theorem q2810 : (Jvm.Cond.code ({ cls := "PrinterClaimsModel", name := "operates", desc := "(IIIII)I" } : Jvm.MethodName) prog_33_method_107_code (6 : Nat) (Option.some Jvm.ClassFile.FieldType.int)) ∈ lw_all := lw_g (lw_at lw_m12 72 rfl) rfl
theorem q2811 : (Jvm.Cond.methodLink "PrinterClaimsModel" (298 : Nat) ({ cls := "PrinterClaimsModel", name := "can", desc := "(IIII)Z" } : Jvm.MethodName)) ∈ lw_all := lw_g (lw_at lw_m12 73 rfl) rfl
theorem q2812 : (Jvm.Cond.privateMethod ({ cls := "PrinterClaimsModel", name := "can", desc := "(IIII)Z" } : Jvm.MethodName)) ∈ lw_tbl := lw_at lw_m12 74 rfl
theorem q2813 : (Jvm.Cond.instanceMethod ({ cls := "PrinterClaimsModel", name := "can", desc := "(IIII)Z" } : Jvm.MethodName)) ∈ lw_all := lw_g (lw_at lw_m12 75 rfl) rfl
theorem q2814 : (Jvm.Cond.code ({ cls := "PrinterClaimsModel", name := "can", desc := "(IIII)Z" } : Jvm.MethodName) prog_33_method_36_code (5 : Nat) (Option.some Jvm.ClassFile.FieldType.boolean)) ∈ lw_all := lw_g (lw_at lw_m12 76 rfl) rfl
theorem q2815 : (Jvm.Cond.methodLink "PrinterClaimsModel" (140 : Nat) ({ cls := "PrinterClaimsModel", name := "canClaim", desc := "(III)Z" } : Jvm.MethodName)) ∈ lw_all := lw_g (lw_at lw_m12 77 rfl) rfl
theorem q2816 : (Jvm.Cond.privateMethod ({ cls := "PrinterClaimsModel", name := "canClaim", desc := "(III)Z" } : Jvm.MethodName)) ∈ lw_tbl := lw_at lw_m12 78 rfl
theorem q2817 : (Jvm.Cond.instanceMethod ({ cls := "PrinterClaimsModel", name := "canClaim", desc := "(III)Z" } : Jvm.MethodName)) ∈ lw_all := lw_g (lw_at lw_m12 79 rfl) rfl
theorem q2818 : (Jvm.Cond.code ({ cls := "PrinterClaimsModel", name := "canClaim", desc := "(III)Z" } : Jvm.MethodName) prog_33_method_34_code (5 : Nat) (Option.some Jvm.ClassFile.FieldType.boolean)) ∈ lw_all := lw_g (lw_at lw_m12 80 rfl) rfl
theorem q2819 : (Jvm.Cond.methodLink "PrinterClaimsModel" (137 : Nat) ({ cls := "PrinterClaimsModel", name := "isSafeClaim", desc := "(III)Z" } : Jvm.MethodName)) ∈ lw_all := lw_g (lw_at lw_m12 81 rfl) rfl
theorem q2820 : (Jvm.Cond.privateMethod ({ cls := "PrinterClaimsModel", name := "isSafeClaim", desc := "(III)Z" } : Jvm.MethodName)) ∈ lw_tbl := lw_at lw_m12 82 rfl
theorem q2821 : (Jvm.Cond.instanceMethod ({ cls := "PrinterClaimsModel", name := "isSafeClaim", desc := "(III)Z" } : Jvm.MethodName)) ∈ lw_all := lw_g (lw_at lw_m12 83 rfl) rfl
theorem q2822 : (Jvm.Cond.code ({ cls := "PrinterClaimsModel", name := "isSafeClaim", desc := "(III)Z" } : Jvm.MethodName) prog_33_method_33_code (6 : Nat) (Option.some Jvm.ClassFile.FieldType.boolean)) ∈ lw_all := lw_g (lw_at lw_m12 84 rfl) rfl
theorem q2823 : (Jvm.Cond.methodLink "PrinterClaimsModel" (302 : Nat) ({ cls := "PrinterClaimsModel", name := "keeps", desc := "()V" } : Jvm.MethodName)) ∈ lw_all := lw_g (lw_at lw_m12 85 rfl) rfl
theorem q2824 : (Jvm.Cond.privateMethod ({ cls := "PrinterClaimsModel", name := "keeps", desc := "()V" } : Jvm.MethodName)) ∈ lw_tbl := lw_at lw_m12 86 rfl
theorem q2825 : (Jvm.Cond.instanceMethod ({ cls := "PrinterClaimsModel", name := "keeps", desc := "()V" } : Jvm.MethodName)) ∈ lw_all := lw_g (lw_at lw_m12 87 rfl) rfl
theorem q2826 : (Jvm.Cond.code ({ cls := "PrinterClaimsModel", name := "keeps", desc := "()V" } : Jvm.MethodName) prog_33_method_106_code (1 : Nat) (Option.none : Option Jvm.ClassFile.FieldType)) ∈ lw_all := lw_g (lw_at lw_m12 88 rfl) rfl
theorem q2827 : (Jvm.Cond.methodLink "PrinterClaimsModel" (305 : Nat) ({ cls := "PrinterClaimsModel", name := "does", desc := "(IIII)I" } : Jvm.MethodName)) ∈ lw_all := lw_g (lw_at lw_m12 89 rfl) rfl
theorem q2828 : (Jvm.Cond.privateMethod ({ cls := "PrinterClaimsModel", name := "does", desc := "(IIII)I" } : Jvm.MethodName)) ∈ lw_tbl := lw_at lw_m12 90 rfl
theorem q2829 : (Jvm.Cond.instanceMethod ({ cls := "PrinterClaimsModel", name := "does", desc := "(IIII)I" } : Jvm.MethodName)) ∈ lw_all := lw_g (lw_at lw_m12 91 rfl) rfl
theorem q2830 : (Jvm.Cond.code ({ cls := "PrinterClaimsModel", name := "does", desc := "(IIII)I" } : Jvm.MethodName) prog_33_method_42_code (5 : Nat) (Option.some Jvm.ClassFile.FieldType.int)) ∈ lw_all := lw_g (lw_at lw_m12 92 rfl) rfl
theorem q2831 : (Jvm.Cond.methodLink "PrinterClaimsModel" (149 : Nat) ({ cls := "PrinterClaimsModel", name := "requests", desc := "(III)I" } : Jvm.MethodName)) ∈ lw_all := lw_g (lw_at lw_m12 93 rfl) rfl
theorem q2832 : (Jvm.Cond.privateMethod ({ cls := "PrinterClaimsModel", name := "requests", desc := "(III)I" } : Jvm.MethodName)) ∈ lw_tbl := lw_at lw_m12 94 rfl
theorem q2833 : (Jvm.Cond.instanceMethod ({ cls := "PrinterClaimsModel", name := "requests", desc := "(III)I" } : Jvm.MethodName)) ∈ lw_all := lw_g (lw_at lw_m12 95 rfl) rfl
theorem q2834 : (Jvm.Cond.code ({ cls := "PrinterClaimsModel", name := "requests", desc := "(III)I" } : Jvm.MethodName) prog_33_method_37_code (4 : Nat) (Option.some Jvm.ClassFile.FieldType.int)) ∈ lw_all := lw_g (lw_at lw_m12 96 rfl) rfl
theorem q2835 : (Jvm.Cond.methodLink "PrinterClaimsModel" (153 : Nat) ({ cls := "PrinterClaimsModel", name := "releases", desc := "(III)I" } : Jvm.MethodName)) ∈ lw_all := lw_g (lw_at lw_m12 97 rfl) rfl
theorem q2836 : (Jvm.Cond.privateMethod ({ cls := "PrinterClaimsModel", name := "releases", desc := "(III)I" } : Jvm.MethodName)) ∈ lw_tbl := lw_at lw_m12 98 rfl
theorem q2837 : (Jvm.Cond.instanceMethod ({ cls := "PrinterClaimsModel", name := "releases", desc := "(III)I" } : Jvm.MethodName)) ∈ lw_all := lw_g (lw_at lw_m12 99 rfl) rfl
theorem q2838 : (Jvm.Cond.code ({ cls := "PrinterClaimsModel", name := "releases", desc := "(III)I" } : Jvm.MethodName) prog_33_method_38_code (4 : Nat) (Option.some Jvm.ClassFile.FieldType.int)) ∈ lw_all := lw_g (lw_at lw_m12 100 rfl) rfl
theorem q2839 : (Jvm.Cond.methodLink "PrinterClaimsModel" (159 : Nat) ({ cls := "PrinterClaimsModel", name := "withdraws", desc := "(I)I" } : Jvm.MethodName)) ∈ lw_all := lw_g (lw_at lw_m12 101 rfl) rfl
theorem q2840 : (Jvm.Cond.privateMethod ({ cls := "PrinterClaimsModel", name := "withdraws", desc := "(I)I" } : Jvm.MethodName)) ∈ lw_tbl := lw_at lw_m12 102 rfl
theorem q2841 : (Jvm.Cond.instanceMethod ({ cls := "PrinterClaimsModel", name := "withdraws", desc := "(I)I" } : Jvm.MethodName)) ∈ lw_all := lw_g (lw_at lw_m12 103 rfl) rfl
theorem q2842 : (Jvm.Cond.code ({ cls := "PrinterClaimsModel", name := "withdraws", desc := "(I)I" } : Jvm.MethodName) prog_33_method_40_code (3 : Nat) (Option.some Jvm.ClassFile.FieldType.int)) ∈ lw_all := lw_g (lw_at lw_m12 104 rfl) rfl
theorem q2843 : (Jvm.Cond.methodLink "PrinterClaimsModel" (162 : Nat) ({ cls := "PrinterClaimsModel", name := "changes", desc := "(III)I" } : Jvm.MethodName)) ∈ lw_all := lw_g (lw_at lw_m12 105 rfl) rfl
theorem q2844 : (Jvm.Cond.privateMethod ({ cls := "PrinterClaimsModel", name := "changes", desc := "(III)I" } : Jvm.MethodName)) ∈ lw_tbl := lw_at lw_m12 106 rfl
theorem q2845 : (Jvm.Cond.instanceMethod ({ cls := "PrinterClaimsModel", name := "changes", desc := "(III)I" } : Jvm.MethodName)) ∈ lw_all := lw_g (lw_at lw_m12 107 rfl) rfl
theorem q2846 : (Jvm.Cond.code ({ cls := "PrinterClaimsModel", name := "changes", desc := "(III)I" } : Jvm.MethodName) prog_33_method_41_code (6 : Nat) (Option.some Jvm.ClassFile.FieldType.int)) ∈ lw_all := lw_g (lw_at lw_m12 108 rfl) rfl
theorem q2848 : (Jvm.Cond.instanceMethod ({ cls := "PrinterClaimsModel", name := "release", desc := "(III)I" } : Jvm.MethodName)) ∈ lw_all := lw_g (lw_at lw_m12 110 rfl) rfl
theorem q2849 : (Jvm.Cond.selects "PrinterClaimsModel" ({ cls := "PrinterClaimsModel", name := "release", desc := "(III)I" } : Jvm.MethodName) ({ cls := "PrinterClaimsModel", name := "release", desc := "(III)I" } : Jvm.MethodName)) ∈ lw_all := lw_g (lw_at lw_m12 111 rfl) rfl
theorem q2850 : (Jvm.Cond.code ({ cls := "PrinterClaimsModel", name := "release", desc := "(III)I" } : Jvm.MethodName) prog_33_method_109_code (4 : Nat) (Option.some Jvm.ClassFile.FieldType.int)) ∈ lw_all := lw_g (lw_at lw_m12 112 rfl) rfl
theorem q2852 : (Jvm.Cond.instanceMethod ({ cls := "PrinterClaimsModel", name := "finish", desc := "(I)I" } : Jvm.MethodName)) ∈ lw_all := lw_g (lw_at lw_m12 114 rfl) rfl
theorem q2853 : (Jvm.Cond.selects "PrinterClaimsModel" ({ cls := "PrinterClaimsModel", name := "finish", desc := "(I)I" } : Jvm.MethodName) ({ cls := "PrinterClaimsModel", name := "finish", desc := "(I)I" } : Jvm.MethodName)) ∈ lw_all := lw_g (lw_at lw_m12 115 rfl) rfl
theorem q2854 : (Jvm.Cond.code ({ cls := "PrinterClaimsModel", name := "finish", desc := "(I)I" } : Jvm.MethodName) prog_33_method_110_code (2 : Nat) (Option.some Jvm.ClassFile.FieldType.int)) ∈ lw_all := lw_g (lw_at lw_m12 116 rfl) rfl
theorem q2856 : (Jvm.Cond.instanceMethod ({ cls := "PrinterClaimsModel", name := "withdraw", desc := "(I)I" } : Jvm.MethodName)) ∈ lw_all := lw_g (lw_at lw_m12 118 rfl) rfl
theorem q2857 : (Jvm.Cond.selects "PrinterClaimsModel" ({ cls := "PrinterClaimsModel", name := "withdraw", desc := "(I)I" } : Jvm.MethodName) ({ cls := "PrinterClaimsModel", name := "withdraw", desc := "(I)I" } : Jvm.MethodName)) ∈ lw_all := lw_g (lw_at lw_m12 119 rfl) rfl
theorem q2858 : (Jvm.Cond.code ({ cls := "PrinterClaimsModel", name := "withdraw", desc := "(I)I" } : Jvm.MethodName) prog_33_method_111_code (2 : Nat) (Option.some Jvm.ClassFile.FieldType.int)) ∈ lw_all := lw_g (lw_at lw_m12 120 rfl) rfl
theorem q2860 : (Jvm.Cond.instanceMethod ({ cls := "PrinterClaimsModel", name := "changeClaim", desc := "(III)I" } : Jvm.MethodName)) ∈ lw_all := lw_g (lw_at lw_m12 122 rfl) rfl
theorem q2861 : (Jvm.Cond.selects "PrinterClaimsModel" ({ cls := "PrinterClaimsModel", name := "changeClaim", desc := "(III)I" } : Jvm.MethodName) ({ cls := "PrinterClaimsModel", name := "changeClaim", desc := "(III)I" } : Jvm.MethodName)) ∈ lw_all := lw_g (lw_at lw_m12 123 rfl) rfl
theorem q2862 : (Jvm.Cond.code ({ cls := "PrinterClaimsModel", name := "changeClaim", desc := "(III)I" } : Jvm.MethodName) prog_33_method_112_code (4 : Nat) (Option.some Jvm.ClassFile.FieldType.int)) ∈ lw_all := lw_g (lw_at lw_m12 124 rfl) rfl
theorem q2864 : (Jvm.Cond.instanceMethod ({ cls := "PrinterClaimsModel", name := "addPrinters", desc := "(II)I" } : Jvm.MethodName)) ∈ lw_all := lw_g (lw_at lw_m12 126 rfl) rfl
theorem q2865 : (Jvm.Cond.selects "PrinterClaimsModel" ({ cls := "PrinterClaimsModel", name := "addPrinters", desc := "(II)I" } : Jvm.MethodName) ({ cls := "PrinterClaimsModel", name := "addPrinters", desc := "(II)I" } : Jvm.MethodName)) ∈ lw_all := lw_g (lw_at lw_m12 127 rfl) rfl
theorem q2866 : (Jvm.Cond.code ({ cls := "PrinterClaimsModel", name := "addPrinters", desc := "(II)I" } : Jvm.MethodName) prog_33_method_113_code (3 : Nat) (Option.some Jvm.ClassFile.FieldType.int)) ∈ lw_all := lw_g (lw_at lw_m12 128 rfl) rfl
theorem q2868 : (Jvm.Cond.instanceMethod ({ cls := "PrinterClaimsModel", name := "retirePrinters", desc := "(II)I" } : Jvm.MethodName)) ∈ lw_all := lw_g (lw_at lw_m12 130 rfl) rfl
theorem q2869 : (Jvm.Cond.selects "PrinterClaimsModel" ({ cls := "PrinterClaimsModel", name := "retirePrinters", desc := "(II)I" } : Jvm.MethodName) ({ cls := "PrinterClaimsModel", name := "retirePrinters", desc := "(II)I" } : Jvm.MethodName)) ∈ lw_all := lw_g (lw_at lw_m12 131 rfl) rfl
theorem q2870 : (Jvm.Cond.code ({ cls := "PrinterClaimsModel", name := "retirePrinters", desc := "(II)I" } : Jvm.MethodName) prog_33_method_114_code (3 : Nat) (Option.some Jvm.ClassFile.FieldType.int)) ∈ lw_all := lw_g (lw_at lw_m12 132 rfl) rfl
theorem q2872 : (Jvm.Cond.instanceMethod ({ cls := "PrinterClaimsModel", name := "runScript", desc := "(I)I" } : Jvm.MethodName)) ∈ lw_all := lw_g (lw_at lw_m12 134 rfl) rfl
theorem q2873 : (Jvm.Cond.selects "PrinterClaimsModel" ({ cls := "PrinterClaimsModel", name := "runScript", desc := "(I)I" } : Jvm.MethodName) ({ cls := "PrinterClaimsModel", name := "runScript", desc := "(I)I" } : Jvm.MethodName)) ∈ lw_all := lw_g (lw_at lw_m12 135 rfl) rfl
theorem q2874 : (Jvm.Cond.code ({ cls := "PrinterClaimsModel", name := "runScript", desc := "(I)I" } : Jvm.MethodName) prog_33_method_120_code (3 : Nat) (Option.some Jvm.ClassFile.FieldType.int)) ∈ lw_all := lw_g (lw_at lw_m12 136 rfl) rfl
theorem q2875 : (Jvm.Cond.methodLink "PrinterClaimsModel" (339 : Nat) ({ cls := "PrinterClaimsModel", name := "readsOrder", desc := "()V" } : Jvm.MethodName)) ∈ lw_all := lw_g (lw_at lw_m12 137 rfl) rfl
theorem q2876 : (Jvm.Cond.privateMethod ({ cls := "PrinterClaimsModel", name := "readsOrder", desc := "()V" } : Jvm.MethodName)) ∈ lw_tbl := lw_at lw_m12 138 rfl
theorem q2877 : (Jvm.Cond.instanceMethod ({ cls := "PrinterClaimsModel", name := "readsOrder", desc := "()V" } : Jvm.MethodName)) ∈ lw_all := lw_g (lw_at lw_m12 139 rfl) rfl
theorem q2878 : (Jvm.Cond.code ({ cls := "PrinterClaimsModel", name := "readsOrder", desc := "()V" } : Jvm.MethodName) prog_33_method_117_code (3 : Nat) (Option.none : Option Jvm.ClassFile.FieldType)) ∈ lw_all := lw_g (lw_at lw_m12 140 rfl) rfl
theorem q2879 : (Jvm.Cond.methodLink "PrinterClaimsModel" (327 : Nat) ({ cls := "PrinterClaimsModel", name := "orderHere", desc := "()I" } : Jvm.MethodName)) ∈ lw_all := lw_g (lw_at lw_m12 141 rfl) rfl
theorem q2880 : (Jvm.Cond.privateMethod ({ cls := "PrinterClaimsModel", name := "orderHere", desc := "()I" } : Jvm.MethodName)) ∈ lw_tbl := lw_at lw_m12 142 rfl
theorem q2881 : (Jvm.Cond.instanceMethod ({ cls := "PrinterClaimsModel", name := "orderHere", desc := "()I" } : Jvm.MethodName)) ∈ lw_all := lw_g (lw_at lw_m12 143 rfl) rfl
theorem q2882 : (Jvm.Cond.code ({ cls := "PrinterClaimsModel", name := "orderHere", desc := "()I" } : Jvm.MethodName) prog_33_method_115_code (1 : Nat) (Option.some Jvm.ClassFile.FieldType.int)) ∈ lw_all := lw_g (lw_at lw_m12 144 rfl) rfl
theorem q2883 : (Jvm.Cond.stringRef "PrinterClaimsModel" (313 : Nat) "request") ∈ lw_tbl := lw_at lw_m12 145 rfl
theorem q2884 : (Jvm.Cond.stringRef "PrinterClaimsModel" (315 : Nat) "release") ∈ lw_tbl := lw_at lw_m12 146 rfl
theorem q2885 : (Jvm.Cond.stringRef "PrinterClaimsModel" (317 : Nat) "finish") ∈ lw_tbl := lw_at lw_m12 147 rfl
theorem q2886 : (Jvm.Cond.stringRef "PrinterClaimsModel" (319 : Nat) "withdraw") ∈ lw_tbl := lw_at lw_m12 148 rfl
theorem q2887 : (Jvm.Cond.stringRef "PrinterClaimsModel" (321 : Nat) "claim") ∈ lw_tbl := lw_at lw_m12 149 rfl
theorem q2888 : (Jvm.Cond.stringRef "PrinterClaimsModel" (323 : Nat) "add") ∈ lw_tbl := lw_at lw_m12 150 rfl
theorem q2889 : (Jvm.Cond.stringRef "PrinterClaimsModel" (325 : Nat) "retire") ∈ lw_tbl := lw_at lw_m12 151 rfl
theorem q2890 : (Jvm.Cond.methodLink "PrinterClaimsModel" (333 : Nat) ({ cls := "PrinterClaimsModel", name := "readsRest", desc := "(II)V" } : Jvm.MethodName)) ∈ lw_all := lw_g (lw_at lw_m12 152 rfl) rfl
theorem q2891 : (Jvm.Cond.privateMethod ({ cls := "PrinterClaimsModel", name := "readsRest", desc := "(II)V" } : Jvm.MethodName)) ∈ lw_tbl := lw_at lw_m12 153 rfl
theorem q2892 : (Jvm.Cond.instanceMethod ({ cls := "PrinterClaimsModel", name := "readsRest", desc := "(II)V" } : Jvm.MethodName)) ∈ lw_all := lw_g (lw_at lw_m12 154 rfl) rfl
theorem q2893 : (Jvm.Cond.code ({ cls := "PrinterClaimsModel", name := "readsRest", desc := "(II)V" } : Jvm.MethodName) prog_33_method_116_code (4 : Nat) (Option.none : Option Jvm.ClassFile.FieldType)) ∈ lw_all := lw_g (lw_at lw_m12 155 rfl) rfl
theorem q2894 : (Jvm.Cond.methodLink "PrinterClaimsModel" (342 : Nat) ({ cls := "PrinterClaimsModel", name := "isDoneNow", desc := "(I)Z" } : Jvm.MethodName)) ∈ lw_all := lw_g (lw_at lw_m12 156 rfl) rfl
theorem q2895 : (Jvm.Cond.privateMethod ({ cls := "PrinterClaimsModel", name := "isDoneNow", desc := "(I)Z" } : Jvm.MethodName)) ∈ lw_tbl := lw_at lw_m12 157 rfl
theorem q2896 : (Jvm.Cond.instanceMethod ({ cls := "PrinterClaimsModel", name := "isDoneNow", desc := "(I)Z" } : Jvm.MethodName)) ∈ lw_all := lw_g (lw_at lw_m12 158 rfl) rfl
theorem q2897 : (Jvm.Cond.code ({ cls := "PrinterClaimsModel", name := "isDoneNow", desc := "(I)Z" } : Jvm.MethodName) prog_33_method_119_code (7 : Nat) (Option.some Jvm.ClassFile.FieldType.boolean)) ∈ lw_all := lw_g (lw_at lw_m12 159 rfl) rfl
theorem q2898 : (Jvm.Cond.methodLink "PrinterClaimsModel" (336 : Nat) ({ cls := "PrinterClaimsModel", name := "areThere", desc := "(IIII)Z" } : Jvm.MethodName)) ∈ lw_all := lw_g (lw_at lw_m12 160 rfl) rfl
theorem q2899 : (Jvm.Cond.privateMethod ({ cls := "PrinterClaimsModel", name := "areThere", desc := "(IIII)Z" } : Jvm.MethodName)) ∈ lw_tbl := lw_at lw_m12 161 rfl
theorem q2900 : (Jvm.Cond.instanceMethod ({ cls := "PrinterClaimsModel", name := "areThere", desc := "(IIII)Z" } : Jvm.MethodName)) ∈ lw_all := lw_g (lw_at lw_m12 162 rfl) rfl
theorem q2901 : (Jvm.Cond.code ({ cls := "PrinterClaimsModel", name := "areThere", desc := "(IIII)Z" } : Jvm.MethodName) prog_33_method_118_code (5 : Nat) (Option.some Jvm.ClassFile.FieldType.boolean)) ∈ lw_all := lw_g (lw_at lw_m12 163 rfl) rfl
theorem q2903 : (Jvm.Cond.instanceMethod ({ cls := "PrinterClaimsModel", name := "writeOffice", desc := "(I)I" } : Jvm.MethodName)) ∈ lw_all := lw_g (lw_at lw_m12 165 rfl) rfl
theorem q2904 : (Jvm.Cond.selects "PrinterClaimsModel" ({ cls := "PrinterClaimsModel", name := "writeOffice", desc := "(I)I" } : Jvm.MethodName) ({ cls := "PrinterClaimsModel", name := "writeOffice", desc := "(I)I" } : Jvm.MethodName)) ∈ lw_all := lw_g (lw_at lw_m12 166 rfl) rfl
theorem q2905 : (Jvm.Cond.code ({ cls := "PrinterClaimsModel", name := "writeOffice", desc := "(I)I" } : Jvm.MethodName) prog_33_method_123_code (3 : Nat) (Option.some Jvm.ClassFile.FieldType.int)) ∈ lw_all := lw_g (lw_at lw_m12 167 rfl) rfl
theorem q2906 : (Jvm.Cond.methodLink "PrinterClaimsModel" (348 : Nat) ({ cls := "PrinterClaimsModel", name := "writes", desc := "(I)V" } : Jvm.MethodName)) ∈ lw_all := lw_g (lw_at lw_m12 168 rfl) rfl
theorem q2907 : (Jvm.Cond.privateMethod ({ cls := "PrinterClaimsModel", name := "writes", desc := "(I)V" } : Jvm.MethodName)) ∈ lw_tbl := lw_at lw_m12 169 rfl
theorem q2908 : (Jvm.Cond.instanceMethod ({ cls := "PrinterClaimsModel", name := "writes", desc := "(I)V" } : Jvm.MethodName)) ∈ lw_all := lw_g (lw_at lw_m12 170 rfl) rfl
theorem q2909 : (Jvm.Cond.code ({ cls := "PrinterClaimsModel", name := "writes", desc := "(I)V" } : Jvm.MethodName) prog_33_method_121_code (2 : Nat) (Option.none : Option Jvm.ClassFile.FieldType)) ∈ lw_all := lw_g (lw_at lw_m12 171 rfl) rfl
theorem q2910 : (Jvm.Cond.methodLink "PrinterClaimsModel" (351 : Nat) ({ cls := "PrinterClaimsModel", name := "writesNumber", desc := "(I)V" } : Jvm.MethodName)) ∈ lw_all := lw_g (lw_at lw_m12 172 rfl) rfl
theorem q2911 : (Jvm.Cond.privateMethod ({ cls := "PrinterClaimsModel", name := "writesNumber", desc := "(I)V" } : Jvm.MethodName)) ∈ lw_tbl := lw_at lw_m12 173 rfl
theorem q2912 : (Jvm.Cond.instanceMethod ({ cls := "PrinterClaimsModel", name := "writesNumber", desc := "(I)V" } : Jvm.MethodName)) ∈ lw_all := lw_g (lw_at lw_m12 174 rfl) rfl
theorem q2913 : (Jvm.Cond.code ({ cls := "PrinterClaimsModel", name := "writesNumber", desc := "(I)V" } : Jvm.MethodName) prog_33_method_122_code (2 : Nat) (Option.none : Option Jvm.ClassFile.FieldType)) ∈ lw_all := lw_g (lw_at lw_m12 175 rfl) rfl
theorem q2915 : (Jvm.Cond.instanceMethod ({ cls := "PrinterClaimsModel", name := "outputByte", desc := "(I)I" } : Jvm.MethodName)) ∈ lw_all := lw_g (lw_at lw_m12 177 rfl) rfl
theorem q2916 : (Jvm.Cond.selects "PrinterClaimsModel" ({ cls := "PrinterClaimsModel", name := "outputByte", desc := "(I)I" } : Jvm.MethodName) ({ cls := "PrinterClaimsModel", name := "outputByte", desc := "(I)I" } : Jvm.MethodName)) ∈ lw_all := lw_g (lw_at lw_m12 178 rfl) rfl
theorem q2917 : (Jvm.Cond.code ({ cls := "PrinterClaimsModel", name := "outputByte", desc := "(I)I" } : Jvm.MethodName) prog_33_method_124_code (2 : Nat) (Option.some Jvm.ClassFile.FieldType.int)) ∈ lw_all := lw_g (lw_at lw_m12 179 rfl) rfl
theorem q2919 : (Jvm.Cond.instanceMethod ({ cls := "PrinterClaimsModel", name := "undoableCount", desc := "()I" } : Jvm.MethodName)) ∈ lw_all := lw_g (lw_at lw_m12 181 rfl) rfl
theorem q2920 : (Jvm.Cond.selects "PrinterClaimsModel" ({ cls := "PrinterClaimsModel", name := "undoableCount", desc := "()I" } : Jvm.MethodName) ({ cls := "PrinterClaimsModel", name := "undoableCount", desc := "()I" } : Jvm.MethodName)) ∈ lw_all := lw_g (lw_at lw_m12 182 rfl) rfl
theorem q2921 : (Jvm.Cond.code ({ cls := "PrinterClaimsModel", name := "undoableCount", desc := "()I" } : Jvm.MethodName) prog_33_method_125_code (1 : Nat) (Option.some Jvm.ClassFile.FieldType.int)) ∈ lw_all := lw_g (lw_at lw_m12 183 rfl) rfl
theorem q2923 : (Jvm.Cond.instanceMethod ({ cls := "PrinterClaimsModel", name := "undo", desc := "()I" } : Jvm.MethodName)) ∈ lw_all := lw_g (lw_at lw_m12 185 rfl) rfl
theorem q2924 : (Jvm.Cond.selects "PrinterClaimsModel" ({ cls := "PrinterClaimsModel", name := "undo", desc := "()I" } : Jvm.MethodName) ({ cls := "PrinterClaimsModel", name := "undo", desc := "()I" } : Jvm.MethodName)) ∈ lw_all := lw_g (lw_at lw_m12 186 rfl) rfl
theorem q2925 : (Jvm.Cond.code ({ cls := "PrinterClaimsModel", name := "undo", desc := "()I" } : Jvm.MethodName) prog_33_method_126_code (1 : Nat) (Option.some Jvm.ClassFile.FieldType.int)) ∈ lw_all := lw_g (lw_at lw_m12 187 rfl) rfl
theorem q2927 : (Jvm.Cond.instanceMethod ({ cls := "PrinterClaimsModel", name := "saveSnapshot", desc := "()V" } : Jvm.MethodName)) ∈ lw_all := lw_g (lw_at lw_m12 189 rfl) rfl
theorem q2928 : (Jvm.Cond.selects "PrinterClaimsModel" ({ cls := "PrinterClaimsModel", name := "saveSnapshot", desc := "()V" } : Jvm.MethodName) ({ cls := "PrinterClaimsModel", name := "saveSnapshot", desc := "()V" } : Jvm.MethodName)) ∈ lw_all := lw_g (lw_at lw_m12 190 rfl) rfl
theorem q2929 : (Jvm.Cond.code ({ cls := "PrinterClaimsModel", name := "saveSnapshot", desc := "()V" } : Jvm.MethodName) prog_33_method_127_code (1 : Nat) (Option.none : Option Jvm.ClassFile.FieldType)) ∈ lw_all := lw_g (lw_at lw_m12 191 rfl) rfl
theorem q2931 : (Jvm.Cond.instanceMethod ({ cls := "PrinterClaimsModel", name := "restoreSnapshot", desc := "()I" } : Jvm.MethodName)) ∈ lw_all := lw_g (lw_at lw_m12 193 rfl) rfl
theorem q2932 : (Jvm.Cond.selects "PrinterClaimsModel" ({ cls := "PrinterClaimsModel", name := "restoreSnapshot", desc := "()I" } : Jvm.MethodName) ({ cls := "PrinterClaimsModel", name := "restoreSnapshot", desc := "()I" } : Jvm.MethodName)) ∈ lw_all := lw_g (lw_at lw_m12 194 rfl) rfl
theorem q2933 : (Jvm.Cond.code ({ cls := "PrinterClaimsModel", name := "restoreSnapshot", desc := "()I" } : Jvm.MethodName) prog_33_method_128_code (1 : Nat) (Option.some Jvm.ClassFile.FieldType.int)) ∈ lw_all := lw_g (lw_at lw_m12 195 rfl) rfl
theorem q2967 : (Jvm.Cond.castable "PrinterClaimsModel" "java/lang/Object") ∈ lw_tbl := lw_at lw_m12 229 rfl
theorem in_X4 : ∀ w ∈ wsX40, w ∈ lw_all := lw_in wsX40 [2504, 2506, 2508, 2510, 2512, 2514, 2516, 2518, 2520, 2522, 2524, 2526, 2528, 2530, 2532, 2534, 2536, 2538, 2540, 2542, 2544, 2546] (by decide +kernel) (by decide +kernel)
