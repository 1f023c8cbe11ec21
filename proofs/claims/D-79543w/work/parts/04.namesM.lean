/-! StaffRailwayModel -/
set_option maxRecDepth 100000
def RX5 : String := "StaffRailwayModel"
def TX5 : u_T := fun k => match k with
  | 0 => ("StaffRailwayModel", "thrown", "I", false)
  | 1 => ("StaffRailwayModel", "now", "[I", true)
  | 2 => ("StaffRailwayModel", "saved", "[I", true)
  | 3 => ("StaffRailwayModel", "ahead", "[I", true)
  | 4 => ("StaffRailwayModel", "history", "[[I", true)
  | 5 => ("StaffRailwayModel", "kept", "I", false)
  | 6 => ("StaffRailwayModel", "isSaved", "Z", false)
  | 7 => ("StaffRailwayModel", "isInText", "Z", false)
  | 8 => ("StaffRailwayModel", "reasons", "[I", true)
  | 9 => ("StaffRailwayModel", "details", "[I", true)
  | 10 => ("StaffRailwayModel", "keptReasons", "[I", true)
  | 11 => ("StaffRailwayModel", "keptDetails", "[I", true)
  | 12 => ("StaffRailwayModel", "depth", "I", false)
  | 13 => ("StaffRailwayModel", "keptDepth", "I", false)
  | 14 => ("StaffRailwayModel", "minutesLaid", "I", false)
  | 15 => ("StaffRailwayModel", "text", "[C", true)
  | 16 => ("StaffRailwayModel", "length", "I", false)
  | 17 => ("StaffRailwayModel", "at", "I", false)
  | 18 => ("StaffRailwayModel", "fault", "I", false)
  | 19 => ("StaffRailwayModel", "isWrong", "Z", false)
  | 20 => ("StaffRailwayModel", "told", "C", false)
  | 21 => ("StaffRailwayModel", "toldOne", "I", false)
  | _ => ("StaffRailwayModel", "toldTwo", "I", false)
def tyX5 : Nat → FieldType := fun k => match k with
  | 0 => .int
  | 1 => .array .int
  | 2 => .array .int
  | 3 => .array .int
  | 4 => .array (.array .int)
  | 5 => .int
  | 6 => .boolean
  | 7 => .boolean
  | 8 => .array .int
  | 9 => .array .int
  | 10 => .array .int
  | 11 => .array .int
  | 12 => .int
  | 13 => .int
  | 14 => .int
  | 15 => .array .char
  | 16 => .int
  | 17 => .int
  | 18 => .int
  | 19 => .boolean
  | 20 => .char
  | 21 => .int
  | _ => .int
abbrev wsX50 : List Cond := u_ws RX5 TX5 23
set_option maxRecDepth 100000 in
theorem nmX5 : ∀ a, a < 23 → ∀ b, b < 23 → a ≠ b → (TX5 a).2.1 ≠ (TX5 b).2.1 := by decide +kernel
set_option maxRecDepth 100000 in
theorem tyX5_ok : ∀ k, k < 23 → parseFieldDescriptor (TX5 k).2.2.1 = some (tyX5 k) := by decide +kernel
abbrev cX5_init : ByteArray := prog_20_method_1_code
def yX5_init : MethodName := ⟨RX5, "<init>", "()V"⟩
def dkwX5_init_5 : List UInt8 := [42, 27, 3, 8, 16, 10, 182, 0, 48, 132, 1, 1, 167, 255, 239, 177]
abbrev dktX5_init_5 : List UInt8 := dkwX5_init_5 ++ []
def dkwX5_init_4 : List UInt8 := [42, 180, 0, 9, 27, 3, 184, 0, 44, 5, 79, 132, 1, 1, 167, 255, 236, 3, 60, 27, 8, 162, 0, 18]
abbrev dktX5_init_4 : List UInt8 := dkwX5_init_4 ++ dktX5_init_5
def dkwX5_init_3 : List UInt8 := [181, 0, 33, 42, 16, 60, 188, 5, 181, 0, 36, 42, 2, 181, 0, 40, 3, 60, 27, 16, 6, 162, 0, 20]
abbrev dktX5_init_3 : List UInt8 := dkwX5_init_3 ++ dktX5_init_4
def dkwX5_init_2 : List UInt8 := [188, 10, 181, 0, 24, 42, 8, 188, 10, 181, 0, 27, 42, 8, 188, 10, 181, 0, 30, 42, 8, 188, 10]
abbrev dktX5_init_2 : List UInt8 := dkwX5_init_2 ++ dktX5_init_3
def dkwX5_init_1 : List UInt8 := [17, 0, 186, 188, 10, 181, 0, 16, 42, 16, 8, 17, 0, 186, 197, 0, 19, 2, 181, 0, 21, 42, 8]
abbrev dktX5_init_1 : List UInt8 := dkwX5_init_1 ++ dktX5_init_2
def dkwX5_init_0 : List UInt8 := [42, 183, 0, 3, 42, 17, 0, 186, 188, 10, 181, 0, 9, 42, 17, 0, 186, 188, 10, 181, 0, 13, 42]
abbrev dktX5_init_0 : List UInt8 := dkwX5_init_0 ++ dktX5_init_1
theorem dksX5_init_0 : cX5_init.data.toList.drop 0 = dktX5_init_0 := by decide +kernel
theorem dksX5_init_1 : cX5_init.data.toList.drop 23 = dktX5_init_1 := dk_seg dksX5_init_0 23 rfl rfl
theorem dksX5_init_2 : cX5_init.data.toList.drop 46 = dktX5_init_2 := dk_seg dksX5_init_1 23 rfl rfl
theorem dksX5_init_3 : cX5_init.data.toList.drop 69 = dktX5_init_3 := dk_seg dksX5_init_2 23 rfl rfl
theorem dksX5_init_4 : cX5_init.data.toList.drop 93 = dktX5_init_4 := dk_seg dksX5_init_3 24 rfl rfl
theorem dksX5_init_5 : cX5_init.data.toList.drop 117 = dktX5_init_5 := dk_seg dksX5_init_4 24 rfl rfl
theorem dX5_init_0 : decode cX5_init 0 = .ok (.aload_n 0, 1) := dk_42 (dk_at dksX5_init_0 0 rfl rfl)
theorem dX5_init_1 : decode cX5_init 1 = .ok (.invokespecial 3, 3) := dk_183 0 3 (dk_at dksX5_init_0 1 rfl rfl)
theorem dX5_init_4 : decode cX5_init 4 = .ok (.aload_n 0, 1) := dk_42 (dk_at dksX5_init_0 4 rfl rfl)
theorem dX5_init_5 : decode cX5_init 5 = .ok (.sipush 186, 3) := dk_17 0 186 (dk_at dksX5_init_0 5 rfl rfl)
theorem dX5_init_8 : decode cX5_init 8 = .ok (.newarray .int, 2) := dk_188_10 (dk_at dksX5_init_0 8 rfl rfl)
theorem dX5_init_10 : decode cX5_init 10 = .ok (.putfield 9, 3) := dk_181 0 9 (dk_at dksX5_init_0 10 rfl rfl)
theorem dX5_init_13 : decode cX5_init 13 = .ok (.aload_n 0, 1) := dk_42 (dk_at dksX5_init_0 13 rfl rfl)
theorem dX5_init_14 : decode cX5_init 14 = .ok (.sipush 186, 3) := dk_17 0 186 (dk_at dksX5_init_0 14 rfl rfl)
theorem dX5_init_17 : decode cX5_init 17 = .ok (.newarray .int, 2) := dk_188_10 (dk_at dksX5_init_0 17 rfl rfl)
theorem dX5_init_19 : decode cX5_init 19 = .ok (.putfield 13, 3) := dk_181 0 13 (dk_at dksX5_init_0 19 rfl rfl)
theorem dX5_init_22 : decode cX5_init 22 = .ok (.aload_n 0, 1) := dk_42 (dk_at dksX5_init_0 22 rfl rfl)
theorem dX5_init_23 : decode cX5_init 23 = .ok (.sipush 186, 3) := dk_17 0 186 (dk_at dksX5_init_1 0 rfl rfl)
theorem dX5_init_26 : decode cX5_init 26 = .ok (.newarray .int, 2) := dk_188_10 (dk_at dksX5_init_1 3 rfl rfl)
theorem dX5_init_28 : decode cX5_init 28 = .ok (.putfield 16, 3) := dk_181 0 16 (dk_at dksX5_init_1 5 rfl rfl)
theorem dX5_init_31 : decode cX5_init 31 = .ok (.aload_n 0, 1) := dk_42 (dk_at dksX5_init_1 8 rfl rfl)
theorem dX5_init_32 : decode cX5_init 32 = .ok (.bipush 8, 2) := dk_16 8 (dk_at dksX5_init_1 9 rfl rfl)
theorem dX5_init_34 : decode cX5_init 34 = .ok (.sipush 186, 3) := dk_17 0 186 (dk_at dksX5_init_1 11 rfl rfl)
theorem dX5_init_37 : decode cX5_init 37 = .ok (.multianewarray 19 2, 4) := by decide +kernel
theorem dX5_init_41 : decode cX5_init 41 = .ok (.putfield 21, 3) := dk_181 0 21 (dk_at dksX5_init_1 18 rfl rfl)
theorem dX5_init_44 : decode cX5_init 44 = .ok (.aload_n 0, 1) := dk_42 (dk_at dksX5_init_1 21 rfl rfl)
theorem dX5_init_45 : decode cX5_init 45 = .ok (.iconst 5, 1) := dk_8 (dk_at dksX5_init_1 22 rfl rfl)
theorem dX5_init_46 : decode cX5_init 46 = .ok (.newarray .int, 2) := dk_188_10 (dk_at dksX5_init_2 0 rfl rfl)
theorem dX5_init_48 : decode cX5_init 48 = .ok (.putfield 24, 3) := dk_181 0 24 (dk_at dksX5_init_2 2 rfl rfl)
theorem dX5_init_51 : decode cX5_init 51 = .ok (.aload_n 0, 1) := dk_42 (dk_at dksX5_init_2 5 rfl rfl)
theorem dX5_init_52 : decode cX5_init 52 = .ok (.iconst 5, 1) := dk_8 (dk_at dksX5_init_2 6 rfl rfl)
theorem dX5_init_53 : decode cX5_init 53 = .ok (.newarray .int, 2) := dk_188_10 (dk_at dksX5_init_2 7 rfl rfl)
theorem dX5_init_55 : decode cX5_init 55 = .ok (.putfield 27, 3) := dk_181 0 27 (dk_at dksX5_init_2 9 rfl rfl)
theorem dX5_init_58 : decode cX5_init 58 = .ok (.aload_n 0, 1) := dk_42 (dk_at dksX5_init_2 12 rfl rfl)
theorem dX5_init_59 : decode cX5_init 59 = .ok (.iconst 5, 1) := dk_8 (dk_at dksX5_init_2 13 rfl rfl)
theorem dX5_init_60 : decode cX5_init 60 = .ok (.newarray .int, 2) := dk_188_10 (dk_at dksX5_init_2 14 rfl rfl)
theorem dX5_init_62 : decode cX5_init 62 = .ok (.putfield 30, 3) := dk_181 0 30 (dk_at dksX5_init_2 16 rfl rfl)
theorem dX5_init_65 : decode cX5_init 65 = .ok (.aload_n 0, 1) := dk_42 (dk_at dksX5_init_2 19 rfl rfl)
theorem dX5_init_66 : decode cX5_init 66 = .ok (.iconst 5, 1) := dk_8 (dk_at dksX5_init_2 20 rfl rfl)
theorem dX5_init_67 : decode cX5_init 67 = .ok (.newarray .int, 2) := dk_188_10 (dk_at dksX5_init_2 21 rfl rfl)
theorem dX5_init_69 : decode cX5_init 69 = .ok (.putfield 33, 3) := dk_181 0 33 (dk_at dksX5_init_3 0 rfl rfl)
theorem dX5_init_72 : decode cX5_init 72 = .ok (.aload_n 0, 1) := dk_42 (dk_at dksX5_init_3 3 rfl rfl)
theorem dX5_init_73 : decode cX5_init 73 = .ok (.bipush 60, 2) := dk_16 60 (dk_at dksX5_init_3 4 rfl rfl)
theorem dX5_init_75 : decode cX5_init 75 = .ok (.newarray .char, 2) := dk_188_5 (dk_at dksX5_init_3 6 rfl rfl)
theorem dX5_init_77 : decode cX5_init 77 = .ok (.putfield 36, 3) := dk_181 0 36 (dk_at dksX5_init_3 8 rfl rfl)
theorem dX5_init_80 : decode cX5_init 80 = .ok (.aload_n 0, 1) := dk_42 (dk_at dksX5_init_3 11 rfl rfl)
theorem dX5_init_81 : decode cX5_init 81 = .ok (.iconst (-1), 1) := dk_2 (dk_at dksX5_init_3 12 rfl rfl)
theorem dX5_init_82 : decode cX5_init 82 = .ok (.putfield 40, 3) := dk_181 0 40 (dk_at dksX5_init_3 13 rfl rfl)
theorem dX5_init_85 : decode cX5_init 85 = .ok (.iconst 0, 1) := dk_3 (dk_at dksX5_init_3 16 rfl rfl)
theorem dX5_init_86 : decode cX5_init 86 = .ok (.istore_n 1, 1) := dk_60 (dk_at dksX5_init_3 17 rfl rfl)
theorem dX5_init_87 : decode cX5_init 87 = .ok (.iload_n 1, 1) := dk_27 (dk_at dksX5_init_3 18 rfl rfl)
theorem dX5_init_88 : decode cX5_init 88 = .ok (.bipush 6, 2) := dk_16 6 (dk_at dksX5_init_3 19 rfl rfl)
theorem dX5_init_90 : decode cX5_init 90 = .ok (.if_icmp .ge 20, 3) := dk_162 0 20 (dk_at dksX5_init_3 21 rfl rfl)
theorem dX5_init_93 : decode cX5_init 93 = .ok (.aload_n 0, 1) := dk_42 (dk_at dksX5_init_4 0 rfl rfl)
theorem dX5_init_94 : decode cX5_init 94 = .ok (.getfield 9, 3) := dk_180 0 9 (dk_at dksX5_init_4 1 rfl rfl)
theorem dX5_init_97 : decode cX5_init 97 = .ok (.iload_n 1, 1) := dk_27 (dk_at dksX5_init_4 4 rfl rfl)
theorem dX5_init_98 : decode cX5_init 98 = .ok (.iconst 0, 1) := dk_3 (dk_at dksX5_init_4 5 rfl rfl)
theorem dX5_init_99 : decode cX5_init 99 = .ok (.invokestatic 44, 3) := dk_184 0 44 (dk_at dksX5_init_4 6 rfl rfl)
theorem dX5_init_102 : decode cX5_init 102 = .ok (.iconst 2, 1) := dk_5 (dk_at dksX5_init_4 9 rfl rfl)
theorem dX5_init_103 : decode cX5_init 103 = .ok (.iastore, 1) := dk_79 (dk_at dksX5_init_4 10 rfl rfl)
theorem dX5_init_104 : decode cX5_init 104 = .ok (.iinc 1 1, 3) := dk_132 1 1 (dk_at dksX5_init_4 11 rfl rfl)
theorem dX5_init_107 : decode cX5_init 107 = .ok (.goto (-20), 3) := dk_167 255 236 (dk_at dksX5_init_4 14 rfl rfl)
theorem dX5_init_110 : decode cX5_init 110 = .ok (.iconst 0, 1) := dk_3 (dk_at dksX5_init_4 17 rfl rfl)
theorem dX5_init_111 : decode cX5_init 111 = .ok (.istore_n 1, 1) := dk_60 (dk_at dksX5_init_4 18 rfl rfl)
theorem dX5_init_112 : decode cX5_init 112 = .ok (.iload_n 1, 1) := dk_27 (dk_at dksX5_init_4 19 rfl rfl)
theorem dX5_init_113 : decode cX5_init 113 = .ok (.iconst 5, 1) := dk_8 (dk_at dksX5_init_4 20 rfl rfl)
theorem dX5_init_114 : decode cX5_init 114 = .ok (.if_icmp .ge 18, 3) := dk_162 0 18 (dk_at dksX5_init_4 21 rfl rfl)
theorem dX5_init_117 : decode cX5_init 117 = .ok (.aload_n 0, 1) := dk_42 (dk_at dksX5_init_5 0 rfl rfl)
theorem dX5_init_118 : decode cX5_init 118 = .ok (.iload_n 1, 1) := dk_27 (dk_at dksX5_init_5 1 rfl rfl)
theorem dX5_init_119 : decode cX5_init 119 = .ok (.iconst 0, 1) := dk_3 (dk_at dksX5_init_5 2 rfl rfl)
theorem dX5_init_120 : decode cX5_init 120 = .ok (.iconst 5, 1) := dk_8 (dk_at dksX5_init_5 3 rfl rfl)
theorem dX5_init_121 : decode cX5_init 121 = .ok (.bipush 10, 2) := dk_16 10 (dk_at dksX5_init_5 4 rfl rfl)
theorem dX5_init_123 : decode cX5_init 123 = .ok (.invokevirtual 48, 3) := dk_182 0 48 (dk_at dksX5_init_5 6 rfl rfl)
theorem dX5_init_126 : decode cX5_init 126 = .ok (.iinc 1 1, 3) := dk_132 1 1 (dk_at dksX5_init_5 9 rfl rfl)
theorem dX5_init_129 : decode cX5_init 129 = .ok (.goto (-17), 3) := dk_167 255 239 (dk_at dksX5_init_5 12 rfl rfl)
theorem dX5_init_132 : decode cX5_init 132 = .ok (.return_, 1) := dk_177 (dk_at dksX5_init_5 15 rfl rfl)
abbrev cX5_ofStation : ByteArray := prog_20_method_12_code
def yX5_ofStation : MethodName := ⟨RX5, "ofStation", "(II)I"⟩
def dkwX5_ofStation_0 : List UInt8 := [16, 17, 26, 104, 27, 96, 172]
abbrev dktX5_ofStation_0 : List UInt8 := dkwX5_ofStation_0 ++ []
theorem dksX5_ofStation_0 : cX5_ofStation.data.toList.drop 0 = dktX5_ofStation_0 := by decide +kernel
theorem dX5_ofStation_0 : decode cX5_ofStation 0 = .ok (.bipush 17, 2) := dk_16 17 (dk_at dksX5_ofStation_0 0 rfl rfl)
theorem dX5_ofStation_2 : decode cX5_ofStation 2 = .ok (.iload_n 0, 1) := dk_26 (dk_at dksX5_ofStation_0 2 rfl rfl)
theorem dX5_ofStation_3 : decode cX5_ofStation 3 = .ok (.imul, 1) := dk_104 (dk_at dksX5_ofStation_0 3 rfl rfl)
theorem dX5_ofStation_4 : decode cX5_ofStation 4 = .ok (.iload_n 1, 1) := dk_27 (dk_at dksX5_ofStation_0 4 rfl rfl)
theorem dX5_ofStation_5 : decode cX5_ofStation 5 = .ok (.iadd, 1) := dk_96 (dk_at dksX5_ofStation_0 5 rfl rfl)
theorem dX5_ofStation_6 : decode cX5_ofStation 6 = .ok (.ireturn, 1) := dk_172 (dk_at dksX5_ofStation_0 6 rfl rfl)
abbrev cX5_setStretch : ByteArray := prog_20_method_28_code
def yX5_setStretch : MethodName := ⟨RX5, "setStretch", "(IIII)V"⟩
def dkwX5_setStretch_3 : List UInt8 := [180, 0, 9, 27, 8, 184, 0, 117, 3, 79, 177]
abbrev dktX5_setStretch_3 : List UInt8 := dkwX5_setStretch_3 ++ []
def dkwX5_setStretch_2 : List UInt8 := [4, 167, 0, 8, 28, 4, 96, 5, 108, 79, 42, 180, 0, 9, 27, 7, 184, 0, 117, 28, 5, 108, 79, 42]
abbrev dktX5_setStretch_2 : List UInt8 := dkwX5_setStretch_2 ++ dktX5_setStretch_3
def dkwX5_setStretch_1 : List UInt8 := [180, 0, 9, 27, 5, 184, 0, 117, 21, 4, 79, 42, 180, 0, 9, 27, 6, 184, 0, 117, 28, 154, 0, 7]
abbrev dktX5_setStretch_1 : List UInt8 := dkwX5_setStretch_1 ++ dktX5_setStretch_2
def dkwX5_setStretch_0 : List UInt8 := [42, 180, 0, 9, 27, 3, 184, 0, 117, 28, 79, 42, 180, 0, 9, 27, 4, 184, 0, 117, 29, 79, 42]
abbrev dktX5_setStretch_0 : List UInt8 := dkwX5_setStretch_0 ++ dktX5_setStretch_1
theorem dksX5_setStretch_0 : cX5_setStretch.data.toList.drop 0 = dktX5_setStretch_0 := by decide +kernel
theorem dksX5_setStretch_1 : cX5_setStretch.data.toList.drop 23 = dktX5_setStretch_1 := dk_seg dksX5_setStretch_0 23 rfl rfl
theorem dksX5_setStretch_2 : cX5_setStretch.data.toList.drop 47 = dktX5_setStretch_2 := dk_seg dksX5_setStretch_1 24 rfl rfl
theorem dksX5_setStretch_3 : cX5_setStretch.data.toList.drop 71 = dktX5_setStretch_3 := dk_seg dksX5_setStretch_2 24 rfl rfl
theorem dX5_setStretch_0 : decode cX5_setStretch 0 = .ok (.aload_n 0, 1) := dk_42 (dk_at dksX5_setStretch_0 0 rfl rfl)
theorem dX5_setStretch_1 : decode cX5_setStretch 1 = .ok (.getfield 9, 3) := dk_180 0 9 (dk_at dksX5_setStretch_0 1 rfl rfl)
theorem dX5_setStretch_4 : decode cX5_setStretch 4 = .ok (.iload_n 1, 1) := dk_27 (dk_at dksX5_setStretch_0 4 rfl rfl)
theorem dX5_setStretch_5 : decode cX5_setStretch 5 = .ok (.iconst 0, 1) := dk_3 (dk_at dksX5_setStretch_0 5 rfl rfl)
theorem dX5_setStretch_6 : decode cX5_setStretch 6 = .ok (.invokestatic 117, 3) := dk_184 0 117 (dk_at dksX5_setStretch_0 6 rfl rfl)
theorem dX5_setStretch_9 : decode cX5_setStretch 9 = .ok (.iload_n 2, 1) := dk_28 (dk_at dksX5_setStretch_0 9 rfl rfl)
theorem dX5_setStretch_10 : decode cX5_setStretch 10 = .ok (.iastore, 1) := dk_79 (dk_at dksX5_setStretch_0 10 rfl rfl)
theorem dX5_setStretch_11 : decode cX5_setStretch 11 = .ok (.aload_n 0, 1) := dk_42 (dk_at dksX5_setStretch_0 11 rfl rfl)
theorem dX5_setStretch_12 : decode cX5_setStretch 12 = .ok (.getfield 9, 3) := dk_180 0 9 (dk_at dksX5_setStretch_0 12 rfl rfl)
theorem dX5_setStretch_15 : decode cX5_setStretch 15 = .ok (.iload_n 1, 1) := dk_27 (dk_at dksX5_setStretch_0 15 rfl rfl)
theorem dX5_setStretch_16 : decode cX5_setStretch 16 = .ok (.iconst 1, 1) := dk_4 (dk_at dksX5_setStretch_0 16 rfl rfl)
theorem dX5_setStretch_17 : decode cX5_setStretch 17 = .ok (.invokestatic 117, 3) := dk_184 0 117 (dk_at dksX5_setStretch_0 17 rfl rfl)
theorem dX5_setStretch_20 : decode cX5_setStretch 20 = .ok (.iload_n 3, 1) := dk_29 (dk_at dksX5_setStretch_0 20 rfl rfl)
theorem dX5_setStretch_21 : decode cX5_setStretch 21 = .ok (.iastore, 1) := dk_79 (dk_at dksX5_setStretch_0 21 rfl rfl)
theorem dX5_setStretch_22 : decode cX5_setStretch 22 = .ok (.aload_n 0, 1) := dk_42 (dk_at dksX5_setStretch_0 22 rfl rfl)
theorem dX5_setStretch_23 : decode cX5_setStretch 23 = .ok (.getfield 9, 3) := dk_180 0 9 (dk_at dksX5_setStretch_1 0 rfl rfl)
theorem dX5_setStretch_26 : decode cX5_setStretch 26 = .ok (.iload_n 1, 1) := dk_27 (dk_at dksX5_setStretch_1 3 rfl rfl)
theorem dX5_setStretch_27 : decode cX5_setStretch 27 = .ok (.iconst 2, 1) := dk_5 (dk_at dksX5_setStretch_1 4 rfl rfl)
theorem dX5_setStretch_28 : decode cX5_setStretch 28 = .ok (.invokestatic 117, 3) := dk_184 0 117 (dk_at dksX5_setStretch_1 5 rfl rfl)
theorem dX5_setStretch_31 : decode cX5_setStretch 31 = .ok (.iload 4, 2) := dk_21 4 (dk_at dksX5_setStretch_1 8 rfl rfl)
theorem dX5_setStretch_33 : decode cX5_setStretch 33 = .ok (.iastore, 1) := dk_79 (dk_at dksX5_setStretch_1 10 rfl rfl)
theorem dX5_setStretch_34 : decode cX5_setStretch 34 = .ok (.aload_n 0, 1) := dk_42 (dk_at dksX5_setStretch_1 11 rfl rfl)
theorem dX5_setStretch_35 : decode cX5_setStretch 35 = .ok (.getfield 9, 3) := dk_180 0 9 (dk_at dksX5_setStretch_1 12 rfl rfl)
theorem dX5_setStretch_38 : decode cX5_setStretch 38 = .ok (.iload_n 1, 1) := dk_27 (dk_at dksX5_setStretch_1 15 rfl rfl)
theorem dX5_setStretch_39 : decode cX5_setStretch 39 = .ok (.iconst 3, 1) := dk_6 (dk_at dksX5_setStretch_1 16 rfl rfl)
theorem dX5_setStretch_40 : decode cX5_setStretch 40 = .ok (.invokestatic 117, 3) := dk_184 0 117 (dk_at dksX5_setStretch_1 17 rfl rfl)
theorem dX5_setStretch_43 : decode cX5_setStretch 43 = .ok (.iload_n 2, 1) := dk_28 (dk_at dksX5_setStretch_1 20 rfl rfl)
theorem dX5_setStretch_44 : decode cX5_setStretch 44 = .ok (.ifCond .ne 7, 3) := dk_154 0 7 (dk_at dksX5_setStretch_1 21 rfl rfl)
theorem dX5_setStretch_47 : decode cX5_setStretch 47 = .ok (.iconst 1, 1) := dk_4 (dk_at dksX5_setStretch_2 0 rfl rfl)
theorem dX5_setStretch_48 : decode cX5_setStretch 48 = .ok (.goto 8, 3) := dk_167 0 8 (dk_at dksX5_setStretch_2 1 rfl rfl)
theorem dX5_setStretch_51 : decode cX5_setStretch 51 = .ok (.iload_n 2, 1) := dk_28 (dk_at dksX5_setStretch_2 4 rfl rfl)
theorem dX5_setStretch_52 : decode cX5_setStretch 52 = .ok (.iconst 1, 1) := dk_4 (dk_at dksX5_setStretch_2 5 rfl rfl)
theorem dX5_setStretch_53 : decode cX5_setStretch 53 = .ok (.iadd, 1) := dk_96 (dk_at dksX5_setStretch_2 6 rfl rfl)
theorem dX5_setStretch_54 : decode cX5_setStretch 54 = .ok (.iconst 2, 1) := dk_5 (dk_at dksX5_setStretch_2 7 rfl rfl)
theorem dX5_setStretch_55 : decode cX5_setStretch 55 = .ok (.idiv, 1) := dk_108 (dk_at dksX5_setStretch_2 8 rfl rfl)
theorem dX5_setStretch_56 : decode cX5_setStretch 56 = .ok (.iastore, 1) := dk_79 (dk_at dksX5_setStretch_2 9 rfl rfl)
theorem dX5_setStretch_57 : decode cX5_setStretch 57 = .ok (.aload_n 0, 1) := dk_42 (dk_at dksX5_setStretch_2 10 rfl rfl)
theorem dX5_setStretch_58 : decode cX5_setStretch 58 = .ok (.getfield 9, 3) := dk_180 0 9 (dk_at dksX5_setStretch_2 11 rfl rfl)
theorem dX5_setStretch_61 : decode cX5_setStretch 61 = .ok (.iload_n 1, 1) := dk_27 (dk_at dksX5_setStretch_2 14 rfl rfl)
theorem dX5_setStretch_62 : decode cX5_setStretch 62 = .ok (.iconst 4, 1) := dk_7 (dk_at dksX5_setStretch_2 15 rfl rfl)
theorem dX5_setStretch_63 : decode cX5_setStretch 63 = .ok (.invokestatic 117, 3) := dk_184 0 117 (dk_at dksX5_setStretch_2 16 rfl rfl)
theorem dX5_setStretch_66 : decode cX5_setStretch 66 = .ok (.iload_n 2, 1) := dk_28 (dk_at dksX5_setStretch_2 19 rfl rfl)
theorem dX5_setStretch_67 : decode cX5_setStretch 67 = .ok (.iconst 2, 1) := dk_5 (dk_at dksX5_setStretch_2 20 rfl rfl)
theorem dX5_setStretch_68 : decode cX5_setStretch 68 = .ok (.idiv, 1) := dk_108 (dk_at dksX5_setStretch_2 21 rfl rfl)
theorem dX5_setStretch_69 : decode cX5_setStretch 69 = .ok (.iastore, 1) := dk_79 (dk_at dksX5_setStretch_2 22 rfl rfl)
theorem dX5_setStretch_70 : decode cX5_setStretch 70 = .ok (.aload_n 0, 1) := dk_42 (dk_at dksX5_setStretch_2 23 rfl rfl)
theorem dX5_setStretch_71 : decode cX5_setStretch 71 = .ok (.getfield 9, 3) := dk_180 0 9 (dk_at dksX5_setStretch_3 0 rfl rfl)
theorem dX5_setStretch_74 : decode cX5_setStretch 74 = .ok (.iload_n 1, 1) := dk_27 (dk_at dksX5_setStretch_3 3 rfl rfl)
theorem dX5_setStretch_75 : decode cX5_setStretch 75 = .ok (.iconst 5, 1) := dk_8 (dk_at dksX5_setStretch_3 4 rfl rfl)
theorem dX5_setStretch_76 : decode cX5_setStretch 76 = .ok (.invokestatic 117, 3) := dk_184 0 117 (dk_at dksX5_setStretch_3 5 rfl rfl)
theorem dX5_setStretch_79 : decode cX5_setStretch 79 = .ok (.iconst 0, 1) := dk_3 (dk_at dksX5_setStretch_3 8 rfl rfl)
theorem dX5_setStretch_80 : decode cX5_setStretch 80 = .ok (.iastore, 1) := dk_79 (dk_at dksX5_setStretch_3 9 rfl rfl)
theorem dX5_setStretch_81 : decode cX5_setStretch 81 = .ok (.return_, 1) := dk_177 (dk_at dksX5_setStretch_3 10 rfl rfl)
abbrev cX5_ofStretch : ByteArray := prog_20_method_13_code
def yX5_ofStretch : MethodName := ⟨RX5, "ofStretch", "(II)I"⟩
def dkwX5_ofStretch_0 : List UInt8 := [16, 102, 16, 6, 26, 104, 96, 27, 96, 172]
abbrev dktX5_ofStretch_0 : List UInt8 := dkwX5_ofStretch_0 ++ []
theorem dksX5_ofStretch_0 : cX5_ofStretch.data.toList.drop 0 = dktX5_ofStretch_0 := by decide +kernel
theorem dX5_ofStretch_0 : decode cX5_ofStretch 0 = .ok (.bipush 102, 2) := dk_16 102 (dk_at dksX5_ofStretch_0 0 rfl rfl)
theorem dX5_ofStretch_2 : decode cX5_ofStretch 2 = .ok (.bipush 6, 2) := dk_16 6 (dk_at dksX5_ofStretch_0 2 rfl rfl)
theorem dX5_ofStretch_4 : decode cX5_ofStretch 4 = .ok (.iload_n 0, 1) := dk_26 (dk_at dksX5_ofStretch_0 4 rfl rfl)
theorem dX5_ofStretch_5 : decode cX5_ofStretch 5 = .ok (.imul, 1) := dk_104 (dk_at dksX5_ofStretch_0 5 rfl rfl)
theorem dX5_ofStretch_6 : decode cX5_ofStretch 6 = .ok (.iadd, 1) := dk_96 (dk_at dksX5_ofStretch_0 6 rfl rfl)
theorem dX5_ofStretch_7 : decode cX5_ofStretch 7 = .ok (.iload_n 1, 1) := dk_27 (dk_at dksX5_ofStretch_0 7 rfl rfl)
theorem dX5_ofStretch_8 : decode cX5_ofStretch 8 = .ok (.iadd, 1) := dk_96 (dk_at dksX5_ofStretch_0 8 rfl rfl)
theorem dX5_ofStretch_9 : decode cX5_ofStretch 9 = .ok (.ireturn, 1) := dk_172 (dk_at dksX5_ofStretch_0 9 rfl rfl)
abbrev cX5_thrown : ByteArray := prog_20_method_2_code
def yX5_thrown : MethodName := ⟨RX5, "thrown", "()I"⟩
theorem dX5_thrown_0 : decode cX5_thrown 0 = .ok (.aload_n 0, 1) := by decide +kernel
theorem dX5_thrown_1 : decode cX5_thrown 1 = .ok (.getfield 52, 3) := by decide +kernel
theorem dX5_thrown_4 : decode cX5_thrown 4 = .ok (.ireturn, 1) := by decide +kernel
abbrev cX5_tracks : ByteArray := prog_20_method_27_code
def yX5_tracks : MethodName := ⟨RX5, "tracks", "(II)I"⟩
def dkwX5_tracks_4 : List UInt8 := [180, 0, 9, 27, 3, 184, 0, 44, 28, 79, 29, 172]
abbrev dktX5_tracks_4 : List UInt8 := dkwX5_tracks_4 ++ []
def dkwX5_tracks_3 : List UInt8 := [3, 172, 42, 42, 180, 0, 9, 182, 0, 66, 42, 180, 0, 9, 27, 3, 184, 0, 44, 46, 62, 42]
abbrev dktX5_tracks_3 : List UInt8 := dkwX5_tracks_3 ++ dktX5_tracks_4
def dkwX5_tracks_2 : List UInt8 := [182, 0, 95, 28, 164, 0, 7, 4, 167, 0, 4, 3, 16, 8, 27, 182, 0, 110, 182, 0, 114, 153, 0, 5]
abbrev dktX5_tracks_2 : List UInt8 := dkwX5_tracks_2 ++ dktX5_tracks_3
def dkwX5_tracks_1 : List UInt8 := [7, 184, 0, 88, 154, 0, 7, 4, 167, 0, 4, 3, 182, 0, 84, 154, 0, 32, 42, 6, 42, 42, 27]
abbrev dktX5_tracks_1 : List UInt8 := dkwX5_tracks_1 ++ dktX5_tracks_2
def dkwX5_tracks_0 : List UInt8 := [42, 4, 27, 184, 0, 106, 154, 0, 7, 4, 167, 0, 4, 3, 182, 0, 84, 154, 0, 54, 42, 5, 28, 4]
abbrev dktX5_tracks_0 : List UInt8 := dkwX5_tracks_0 ++ dktX5_tracks_1
theorem dksX5_tracks_0 : cX5_tracks.data.toList.drop 0 = dktX5_tracks_0 := by decide +kernel
theorem dksX5_tracks_1 : cX5_tracks.data.toList.drop 24 = dktX5_tracks_1 := dk_seg dksX5_tracks_0 24 rfl rfl
theorem dksX5_tracks_2 : cX5_tracks.data.toList.drop 47 = dktX5_tracks_2 := dk_seg dksX5_tracks_1 23 rfl rfl
theorem dksX5_tracks_3 : cX5_tracks.data.toList.drop 71 = dktX5_tracks_3 := dk_seg dksX5_tracks_2 24 rfl rfl
theorem dksX5_tracks_4 : cX5_tracks.data.toList.drop 93 = dktX5_tracks_4 := dk_seg dksX5_tracks_3 22 rfl rfl
theorem dX5_tracks_0 : decode cX5_tracks 0 = .ok (.aload_n 0, 1) := dk_42 (dk_at dksX5_tracks_0 0 rfl rfl)
theorem dX5_tracks_1 : decode cX5_tracks 1 = .ok (.iconst 1, 1) := dk_4 (dk_at dksX5_tracks_0 1 rfl rfl)
theorem dX5_tracks_2 : decode cX5_tracks 2 = .ok (.iload_n 1, 1) := dk_27 (dk_at dksX5_tracks_0 2 rfl rfl)
theorem dX5_tracks_3 : decode cX5_tracks 3 = .ok (.invokestatic 106, 3) := dk_184 0 106 (dk_at dksX5_tracks_0 3 rfl rfl)
theorem dX5_tracks_6 : decode cX5_tracks 6 = .ok (.ifCond .ne 7, 3) := dk_154 0 7 (dk_at dksX5_tracks_0 6 rfl rfl)
theorem dX5_tracks_9 : decode cX5_tracks 9 = .ok (.iconst 1, 1) := dk_4 (dk_at dksX5_tracks_0 9 rfl rfl)
theorem dX5_tracks_10 : decode cX5_tracks 10 = .ok (.goto 4, 3) := dk_167 0 4 (dk_at dksX5_tracks_0 10 rfl rfl)
theorem dX5_tracks_13 : decode cX5_tracks 13 = .ok (.iconst 0, 1) := dk_3 (dk_at dksX5_tracks_0 13 rfl rfl)
theorem dX5_tracks_14 : decode cX5_tracks 14 = .ok (.invokevirtual 84, 3) := dk_182 0 84 (dk_at dksX5_tracks_0 14 rfl rfl)
theorem dX5_tracks_17 : decode cX5_tracks 17 = .ok (.ifCond .ne 54, 3) := dk_154 0 54 (dk_at dksX5_tracks_0 17 rfl rfl)
theorem dX5_tracks_20 : decode cX5_tracks 20 = .ok (.aload_n 0, 1) := dk_42 (dk_at dksX5_tracks_0 20 rfl rfl)
theorem dX5_tracks_21 : decode cX5_tracks 21 = .ok (.iconst 2, 1) := dk_5 (dk_at dksX5_tracks_0 21 rfl rfl)
theorem dX5_tracks_22 : decode cX5_tracks 22 = .ok (.iload_n 2, 1) := dk_28 (dk_at dksX5_tracks_0 22 rfl rfl)
theorem dX5_tracks_23 : decode cX5_tracks 23 = .ok (.iconst 1, 1) := dk_4 (dk_at dksX5_tracks_0 23 rfl rfl)
theorem dX5_tracks_24 : decode cX5_tracks 24 = .ok (.iconst 4, 1) := dk_7 (dk_at dksX5_tracks_1 0 rfl rfl)
theorem dX5_tracks_25 : decode cX5_tracks 25 = .ok (.invokestatic 88, 3) := dk_184 0 88 (dk_at dksX5_tracks_1 1 rfl rfl)
theorem dX5_tracks_28 : decode cX5_tracks 28 = .ok (.ifCond .ne 7, 3) := dk_154 0 7 (dk_at dksX5_tracks_1 4 rfl rfl)
theorem dX5_tracks_31 : decode cX5_tracks 31 = .ok (.iconst 1, 1) := dk_4 (dk_at dksX5_tracks_1 7 rfl rfl)
theorem dX5_tracks_32 : decode cX5_tracks 32 = .ok (.goto 4, 3) := dk_167 0 4 (dk_at dksX5_tracks_1 8 rfl rfl)
theorem dX5_tracks_35 : decode cX5_tracks 35 = .ok (.iconst 0, 1) := dk_3 (dk_at dksX5_tracks_1 11 rfl rfl)
theorem dX5_tracks_36 : decode cX5_tracks 36 = .ok (.invokevirtual 84, 3) := dk_182 0 84 (dk_at dksX5_tracks_1 12 rfl rfl)
theorem dX5_tracks_39 : decode cX5_tracks 39 = .ok (.ifCond .ne 32, 3) := dk_154 0 32 (dk_at dksX5_tracks_1 15 rfl rfl)
theorem dX5_tracks_42 : decode cX5_tracks 42 = .ok (.aload_n 0, 1) := dk_42 (dk_at dksX5_tracks_1 18 rfl rfl)
theorem dX5_tracks_43 : decode cX5_tracks 43 = .ok (.iconst 3, 1) := dk_6 (dk_at dksX5_tracks_1 19 rfl rfl)
theorem dX5_tracks_44 : decode cX5_tracks 44 = .ok (.aload_n 0, 1) := dk_42 (dk_at dksX5_tracks_1 20 rfl rfl)
theorem dX5_tracks_45 : decode cX5_tracks 45 = .ok (.aload_n 0, 1) := dk_42 (dk_at dksX5_tracks_1 21 rfl rfl)
theorem dX5_tracks_46 : decode cX5_tracks 46 = .ok (.iload_n 1, 1) := dk_27 (dk_at dksX5_tracks_1 22 rfl rfl)
theorem dX5_tracks_47 : decode cX5_tracks 47 = .ok (.invokevirtual 95, 3) := dk_182 0 95 (dk_at dksX5_tracks_2 0 rfl rfl)
theorem dX5_tracks_50 : decode cX5_tracks 50 = .ok (.iload_n 2, 1) := dk_28 (dk_at dksX5_tracks_2 3 rfl rfl)
theorem dX5_tracks_51 : decode cX5_tracks 51 = .ok (.if_icmp .le 7, 3) := dk_164 0 7 (dk_at dksX5_tracks_2 4 rfl rfl)
theorem dX5_tracks_54 : decode cX5_tracks 54 = .ok (.iconst 1, 1) := dk_4 (dk_at dksX5_tracks_2 7 rfl rfl)
theorem dX5_tracks_55 : decode cX5_tracks 55 = .ok (.goto 4, 3) := dk_167 0 4 (dk_at dksX5_tracks_2 8 rfl rfl)
theorem dX5_tracks_58 : decode cX5_tracks 58 = .ok (.iconst 0, 1) := dk_3 (dk_at dksX5_tracks_2 11 rfl rfl)
theorem dX5_tracks_59 : decode cX5_tracks 59 = .ok (.bipush 8, 2) := dk_16 8 (dk_at dksX5_tracks_2 12 rfl rfl)
theorem dX5_tracks_61 : decode cX5_tracks 61 = .ok (.iload_n 1, 1) := dk_27 (dk_at dksX5_tracks_2 14 rfl rfl)
theorem dX5_tracks_62 : decode cX5_tracks 62 = .ok (.invokevirtual 110, 3) := dk_182 0 110 (dk_at dksX5_tracks_2 15 rfl rfl)
theorem dX5_tracks_65 : decode cX5_tracks 65 = .ok (.invokevirtual 114, 3) := dk_182 0 114 (dk_at dksX5_tracks_2 18 rfl rfl)
theorem dX5_tracks_68 : decode cX5_tracks 68 = .ok (.ifCond .eq 5, 3) := dk_153 0 5 (dk_at dksX5_tracks_2 21 rfl rfl)
theorem dX5_tracks_71 : decode cX5_tracks 71 = .ok (.iconst 0, 1) := dk_3 (dk_at dksX5_tracks_3 0 rfl rfl)
theorem dX5_tracks_72 : decode cX5_tracks 72 = .ok (.ireturn, 1) := dk_172 (dk_at dksX5_tracks_3 1 rfl rfl)
theorem dX5_tracks_73 : decode cX5_tracks 73 = .ok (.aload_n 0, 1) := dk_42 (dk_at dksX5_tracks_3 2 rfl rfl)
theorem dX5_tracks_74 : decode cX5_tracks 74 = .ok (.aload_n 0, 1) := dk_42 (dk_at dksX5_tracks_3 3 rfl rfl)
theorem dX5_tracks_75 : decode cX5_tracks 75 = .ok (.getfield 9, 3) := dk_180 0 9 (dk_at dksX5_tracks_3 4 rfl rfl)
theorem dX5_tracks_78 : decode cX5_tracks 78 = .ok (.invokevirtual 66, 3) := dk_182 0 66 (dk_at dksX5_tracks_3 7 rfl rfl)
theorem dX5_tracks_81 : decode cX5_tracks 81 = .ok (.aload_n 0, 1) := dk_42 (dk_at dksX5_tracks_3 10 rfl rfl)
theorem dX5_tracks_82 : decode cX5_tracks 82 = .ok (.getfield 9, 3) := dk_180 0 9 (dk_at dksX5_tracks_3 11 rfl rfl)
theorem dX5_tracks_85 : decode cX5_tracks 85 = .ok (.iload_n 1, 1) := dk_27 (dk_at dksX5_tracks_3 14 rfl rfl)
theorem dX5_tracks_86 : decode cX5_tracks 86 = .ok (.iconst 0, 1) := dk_3 (dk_at dksX5_tracks_3 15 rfl rfl)
theorem dX5_tracks_87 : decode cX5_tracks 87 = .ok (.invokestatic 44, 3) := dk_184 0 44 (dk_at dksX5_tracks_3 16 rfl rfl)
theorem dX5_tracks_90 : decode cX5_tracks 90 = .ok (.iaload, 1) := dk_46 (dk_at dksX5_tracks_3 19 rfl rfl)
theorem dX5_tracks_91 : decode cX5_tracks 91 = .ok (.istore_n 3, 1) := dk_62 (dk_at dksX5_tracks_3 20 rfl rfl)
theorem dX5_tracks_92 : decode cX5_tracks 92 = .ok (.aload_n 0, 1) := dk_42 (dk_at dksX5_tracks_3 21 rfl rfl)
theorem dX5_tracks_93 : decode cX5_tracks 93 = .ok (.getfield 9, 3) := dk_180 0 9 (dk_at dksX5_tracks_4 0 rfl rfl)
theorem dX5_tracks_96 : decode cX5_tracks 96 = .ok (.iload_n 1, 1) := dk_27 (dk_at dksX5_tracks_4 3 rfl rfl)
theorem dX5_tracks_97 : decode cX5_tracks 97 = .ok (.iconst 0, 1) := dk_3 (dk_at dksX5_tracks_4 4 rfl rfl)
theorem dX5_tracks_98 : decode cX5_tracks 98 = .ok (.invokestatic 44, 3) := dk_184 0 44 (dk_at dksX5_tracks_4 5 rfl rfl)
theorem dX5_tracks_101 : decode cX5_tracks 101 = .ok (.iload_n 2, 1) := dk_28 (dk_at dksX5_tracks_4 8 rfl rfl)
theorem dX5_tracks_102 : decode cX5_tracks 102 = .ok (.iastore, 1) := dk_79 (dk_at dksX5_tracks_4 9 rfl rfl)
theorem dX5_tracks_103 : decode cX5_tracks 103 = .ok (.iload_n 3, 1) := dk_29 (dk_at dksX5_tracks_4 10 rfl rfl)
theorem dX5_tracks_104 : decode cX5_tracks 104 = .ok (.ireturn, 1) := dk_172 (dk_at dksX5_tracks_4 11 rfl rfl)
abbrev cX5_isStation : ByteArray := prog_20_method_16_code
def yX5_isStation : MethodName := ⟨RX5, "isStation", "(I)Z"⟩
def dkwX5_isStation_0 : List UInt8 := [26, 3, 8, 184, 0, 88, 172]
abbrev dktX5_isStation_0 : List UInt8 := dkwX5_isStation_0 ++ []
theorem dksX5_isStation_0 : cX5_isStation.data.toList.drop 0 = dktX5_isStation_0 := by decide +kernel
theorem dX5_isStation_0 : decode cX5_isStation 0 = .ok (.iload_n 0, 1) := dk_26 (dk_at dksX5_isStation_0 0 rfl rfl)
theorem dX5_isStation_1 : decode cX5_isStation 1 = .ok (.iconst 0, 1) := dk_3 (dk_at dksX5_isStation_0 1 rfl rfl)
theorem dX5_isStation_2 : decode cX5_isStation 2 = .ok (.iconst 5, 1) := dk_8 (dk_at dksX5_isStation_0 2 rfl rfl)
theorem dX5_isStation_3 : decode cX5_isStation 3 = .ok (.invokestatic 88, 3) := dk_184 0 88 (dk_at dksX5_isStation_0 3 rfl rfl)
theorem dX5_isStation_6 : decode cX5_isStation 6 = .ok (.ireturn, 1) := dk_172 (dk_at dksX5_isStation_0 6 rfl rfl)
abbrev cX5_isBetween : ByteArray := prog_20_method_3_code
def yX5_isBetween : MethodName := ⟨RX5, "isBetween", "(III)Z"⟩
def dkwX5_isBetween_0 : List UInt8 := [26, 27, 161, 0, 12, 26, 28, 163, 0, 7, 4, 167, 0, 4, 3, 172]
abbrev dktX5_isBetween_0 : List UInt8 := dkwX5_isBetween_0 ++ []
theorem dksX5_isBetween_0 : cX5_isBetween.data.toList.drop 0 = dktX5_isBetween_0 := by decide +kernel
theorem dX5_isBetween_0 : decode cX5_isBetween 0 = .ok (.iload_n 0, 1) := dk_26 (dk_at dksX5_isBetween_0 0 rfl rfl)
theorem dX5_isBetween_1 : decode cX5_isBetween 1 = .ok (.iload_n 1, 1) := dk_27 (dk_at dksX5_isBetween_0 1 rfl rfl)
theorem dX5_isBetween_2 : decode cX5_isBetween 2 = .ok (.if_icmp .lt 12, 3) := dk_161 0 12 (dk_at dksX5_isBetween_0 2 rfl rfl)
theorem dX5_isBetween_5 : decode cX5_isBetween 5 = .ok (.iload_n 0, 1) := dk_26 (dk_at dksX5_isBetween_0 5 rfl rfl)
theorem dX5_isBetween_6 : decode cX5_isBetween 6 = .ok (.iload_n 2, 1) := dk_28 (dk_at dksX5_isBetween_0 6 rfl rfl)
theorem dX5_isBetween_7 : decode cX5_isBetween 7 = .ok (.if_icmp .gt 7, 3) := dk_163 0 7 (dk_at dksX5_isBetween_0 7 rfl rfl)
theorem dX5_isBetween_10 : decode cX5_isBetween 10 = .ok (.iconst 1, 1) := dk_4 (dk_at dksX5_isBetween_0 10 rfl rfl)
theorem dX5_isBetween_11 : decode cX5_isBetween 11 = .ok (.goto 4, 3) := dk_167 0 4 (dk_at dksX5_isBetween_0 11 rfl rfl)
theorem dX5_isBetween_14 : decode cX5_isBetween 14 = .ok (.iconst 0, 1) := dk_3 (dk_at dksX5_isBetween_0 14 rfl rfl)
theorem dX5_isBetween_15 : decode cX5_isBetween 15 = .ok (.ireturn, 1) := dk_172 (dk_at dksX5_isBetween_0 15 rfl rfl)
abbrev cX5_fails : ByteArray := prog_20_method_5_code
def yX5_fails : MethodName := ⟨RX5, "fails", "(IZ)Z"⟩
def dkwX5_fails_0 : List UInt8 := [42, 28, 153, 0, 7, 27, 167, 0, 4, 3, 181, 0, 52, 28, 172]
abbrev dktX5_fails_0 : List UInt8 := dkwX5_fails_0 ++ []
theorem dksX5_fails_0 : cX5_fails.data.toList.drop 0 = dktX5_fails_0 := by decide +kernel
theorem dX5_fails_0 : decode cX5_fails 0 = .ok (.aload_n 0, 1) := dk_42 (dk_at dksX5_fails_0 0 rfl rfl)
theorem dX5_fails_1 : decode cX5_fails 1 = .ok (.iload_n 2, 1) := dk_28 (dk_at dksX5_fails_0 1 rfl rfl)
theorem dX5_fails_2 : decode cX5_fails 2 = .ok (.ifCond .eq 7, 3) := dk_153 0 7 (dk_at dksX5_fails_0 2 rfl rfl)
theorem dX5_fails_5 : decode cX5_fails 5 = .ok (.iload_n 1, 1) := dk_27 (dk_at dksX5_fails_0 5 rfl rfl)
theorem dX5_fails_6 : decode cX5_fails 6 = .ok (.goto 4, 3) := dk_167 0 4 (dk_at dksX5_fails_0 6 rfl rfl)
theorem dX5_fails_9 : decode cX5_fails 9 = .ok (.iconst 0, 1) := dk_3 (dk_at dksX5_fails_0 9 rfl rfl)
theorem dX5_fails_10 : decode cX5_fails 10 = .ok (.putfield 52, 3) := dk_181 0 52 (dk_at dksX5_fails_0 10 rfl rfl)
theorem dX5_fails_13 : decode cX5_fails 13 = .ok (.iload_n 2, 1) := dk_28 (dk_at dksX5_fails_0 13 rfl rfl)
theorem dX5_fails_14 : decode cX5_fails 14 = .ok (.ireturn, 1) := dk_172 (dk_at dksX5_fails_0 14 rfl rfl)
abbrev cX5_standing : ByteArray := prog_20_method_20_code
def yX5_standing : MethodName := ⟨RX5, "standing", "(I)I"⟩
def dkwX5_standing_1 : List UInt8 := [184, 0, 92, 46, 27, 160, 0, 7, 4, 167, 0, 4, 3, 96, 61, 132, 3, 1, 167, 255, 219, 28, 172]
abbrev dktX5_standing_1 : List UInt8 := dkwX5_standing_1 ++ []
def dkwX5_standing_0 : List UInt8 := [3, 61, 3, 62, 29, 42, 180, 0, 9, 17, 0, 180, 46, 162, 0, 31, 28, 42, 180, 0, 9, 29, 4]
abbrev dktX5_standing_0 : List UInt8 := dkwX5_standing_0 ++ dktX5_standing_1
theorem dksX5_standing_0 : cX5_standing.data.toList.drop 0 = dktX5_standing_0 := by decide +kernel
theorem dksX5_standing_1 : cX5_standing.data.toList.drop 23 = dktX5_standing_1 := dk_seg dksX5_standing_0 23 rfl rfl
theorem dX5_standing_0 : decode cX5_standing 0 = .ok (.iconst 0, 1) := dk_3 (dk_at dksX5_standing_0 0 rfl rfl)
theorem dX5_standing_1 : decode cX5_standing 1 = .ok (.istore_n 2, 1) := dk_61 (dk_at dksX5_standing_0 1 rfl rfl)
theorem dX5_standing_2 : decode cX5_standing 2 = .ok (.iconst 0, 1) := dk_3 (dk_at dksX5_standing_0 2 rfl rfl)
theorem dX5_standing_3 : decode cX5_standing 3 = .ok (.istore_n 3, 1) := dk_62 (dk_at dksX5_standing_0 3 rfl rfl)
theorem dX5_standing_4 : decode cX5_standing 4 = .ok (.iload_n 3, 1) := dk_29 (dk_at dksX5_standing_0 4 rfl rfl)
theorem dX5_standing_5 : decode cX5_standing 5 = .ok (.aload_n 0, 1) := dk_42 (dk_at dksX5_standing_0 5 rfl rfl)
theorem dX5_standing_6 : decode cX5_standing 6 = .ok (.getfield 9, 3) := dk_180 0 9 (dk_at dksX5_standing_0 6 rfl rfl)
theorem dX5_standing_9 : decode cX5_standing 9 = .ok (.sipush 180, 3) := dk_17 0 180 (dk_at dksX5_standing_0 9 rfl rfl)
theorem dX5_standing_12 : decode cX5_standing 12 = .ok (.iaload, 1) := dk_46 (dk_at dksX5_standing_0 12 rfl rfl)
theorem dX5_standing_13 : decode cX5_standing 13 = .ok (.if_icmp .ge 31, 3) := dk_162 0 31 (dk_at dksX5_standing_0 13 rfl rfl)
theorem dX5_standing_16 : decode cX5_standing 16 = .ok (.iload_n 2, 1) := dk_28 (dk_at dksX5_standing_0 16 rfl rfl)
theorem dX5_standing_17 : decode cX5_standing 17 = .ok (.aload_n 0, 1) := dk_42 (dk_at dksX5_standing_0 17 rfl rfl)
theorem dX5_standing_18 : decode cX5_standing 18 = .ok (.getfield 9, 3) := dk_180 0 9 (dk_at dksX5_standing_0 18 rfl rfl)
theorem dX5_standing_21 : decode cX5_standing 21 = .ok (.iload_n 3, 1) := dk_29 (dk_at dksX5_standing_0 21 rfl rfl)
theorem dX5_standing_22 : decode cX5_standing 22 = .ok (.iconst 1, 1) := dk_4 (dk_at dksX5_standing_0 22 rfl rfl)
theorem dX5_standing_23 : decode cX5_standing 23 = .ok (.invokestatic 92, 3) := dk_184 0 92 (dk_at dksX5_standing_1 0 rfl rfl)
theorem dX5_standing_26 : decode cX5_standing 26 = .ok (.iaload, 1) := dk_46 (dk_at dksX5_standing_1 3 rfl rfl)
theorem dX5_standing_27 : decode cX5_standing 27 = .ok (.iload_n 1, 1) := dk_27 (dk_at dksX5_standing_1 4 rfl rfl)
theorem dX5_standing_28 : decode cX5_standing 28 = .ok (.if_icmp .ne 7, 3) := dk_160 0 7 (dk_at dksX5_standing_1 5 rfl rfl)
theorem dX5_standing_31 : decode cX5_standing 31 = .ok (.iconst 1, 1) := dk_4 (dk_at dksX5_standing_1 8 rfl rfl)
theorem dX5_standing_32 : decode cX5_standing 32 = .ok (.goto 4, 3) := dk_167 0 4 (dk_at dksX5_standing_1 9 rfl rfl)
theorem dX5_standing_35 : decode cX5_standing 35 = .ok (.iconst 0, 1) := dk_3 (dk_at dksX5_standing_1 12 rfl rfl)
theorem dX5_standing_36 : decode cX5_standing 36 = .ok (.iadd, 1) := dk_96 (dk_at dksX5_standing_1 13 rfl rfl)
theorem dX5_standing_37 : decode cX5_standing 37 = .ok (.istore_n 2, 1) := dk_61 (dk_at dksX5_standing_1 14 rfl rfl)
theorem dX5_standing_38 : decode cX5_standing 38 = .ok (.iinc 3 1, 3) := dk_132 3 1 (dk_at dksX5_standing_1 15 rfl rfl)
theorem dX5_standing_41 : decode cX5_standing 41 = .ok (.goto (-37), 3) := dk_167 255 219 (dk_at dksX5_standing_1 18 rfl rfl)
theorem dX5_standing_44 : decode cX5_standing 44 = .ok (.iload_n 2, 1) := dk_28 (dk_at dksX5_standing_1 21 rfl rfl)
theorem dX5_standing_45 : decode cX5_standing 45 = .ok (.ireturn, 1) := dk_172 (dk_at dksX5_standing_1 22 rfl rfl)
abbrev cX5_ofTrain : ByteArray := prog_20_method_14_code
def yX5_ofTrain : MethodName := ⟨RX5, "ofTrain", "(II)I"⟩
def dkwX5_ofTrain_0 : List UInt8 := [17, 0, 132, 16, 7, 26, 104, 96, 27, 96, 172]
abbrev dktX5_ofTrain_0 : List UInt8 := dkwX5_ofTrain_0 ++ []
theorem dksX5_ofTrain_0 : cX5_ofTrain.data.toList.drop 0 = dktX5_ofTrain_0 := by decide +kernel
theorem dX5_ofTrain_0 : decode cX5_ofTrain 0 = .ok (.sipush 132, 3) := dk_17 0 132 (dk_at dksX5_ofTrain_0 0 rfl rfl)
theorem dX5_ofTrain_3 : decode cX5_ofTrain 3 = .ok (.bipush 7, 2) := dk_16 7 (dk_at dksX5_ofTrain_0 3 rfl rfl)
theorem dX5_ofTrain_5 : decode cX5_ofTrain 5 = .ok (.iload_n 0, 1) := dk_26 (dk_at dksX5_ofTrain_0 5 rfl rfl)
theorem dX5_ofTrain_6 : decode cX5_ofTrain 6 = .ok (.imul, 1) := dk_104 (dk_at dksX5_ofTrain_0 6 rfl rfl)
theorem dX5_ofTrain_7 : decode cX5_ofTrain 7 = .ok (.iadd, 1) := dk_96 (dk_at dksX5_ofTrain_0 7 rfl rfl)
theorem dX5_ofTrain_8 : decode cX5_ofTrain 8 = .ok (.iload_n 1, 1) := dk_27 (dk_at dksX5_ofTrain_0 8 rfl rfl)
theorem dX5_ofTrain_9 : decode cX5_ofTrain 9 = .ok (.iadd, 1) := dk_96 (dk_at dksX5_ofTrain_0 9 rfl rfl)
theorem dX5_ofTrain_10 : decode cX5_ofTrain 10 = .ok (.ireturn, 1) := dk_172 (dk_at dksX5_ofTrain_0 10 rfl rfl)
abbrev cX5_isFound : ByteArray := prog_20_method_9_code
def yX5_isFound : MethodName := ⟨RX5, "isFound", "(ZII)Z"⟩
def dkwX5_isFound_0 : List UInt8 := [27, 153, 0, 14, 42, 3, 181, 0, 70, 42, 28, 29, 182, 0, 73, 27, 172]
abbrev dktX5_isFound_0 : List UInt8 := dkwX5_isFound_0 ++ []
theorem dksX5_isFound_0 : cX5_isFound.data.toList.drop 0 = dktX5_isFound_0 := by decide +kernel
theorem dX5_isFound_0 : decode cX5_isFound 0 = .ok (.iload_n 1, 1) := dk_27 (dk_at dksX5_isFound_0 0 rfl rfl)
theorem dX5_isFound_1 : decode cX5_isFound 1 = .ok (.ifCond .eq 14, 3) := dk_153 0 14 (dk_at dksX5_isFound_0 1 rfl rfl)
theorem dX5_isFound_4 : decode cX5_isFound 4 = .ok (.aload_n 0, 1) := dk_42 (dk_at dksX5_isFound_0 4 rfl rfl)
theorem dX5_isFound_5 : decode cX5_isFound 5 = .ok (.iconst 0, 1) := dk_3 (dk_at dksX5_isFound_0 5 rfl rfl)
theorem dX5_isFound_6 : decode cX5_isFound 6 = .ok (.putfield 70, 3) := dk_181 0 70 (dk_at dksX5_isFound_0 6 rfl rfl)
theorem dX5_isFound_9 : decode cX5_isFound 9 = .ok (.aload_n 0, 1) := dk_42 (dk_at dksX5_isFound_0 9 rfl rfl)
theorem dX5_isFound_10 : decode cX5_isFound 10 = .ok (.iload_n 2, 1) := dk_28 (dk_at dksX5_isFound_0 10 rfl rfl)
theorem dX5_isFound_11 : decode cX5_isFound 11 = .ok (.iload_n 3, 1) := dk_29 (dk_at dksX5_isFound_0 11 rfl rfl)
theorem dX5_isFound_12 : decode cX5_isFound 12 = .ok (.invokevirtual 73, 3) := dk_182 0 73 (dk_at dksX5_isFound_0 12 rfl rfl)
theorem dX5_isFound_15 : decode cX5_isFound 15 = .ok (.iload_n 1, 1) := dk_27 (dk_at dksX5_isFound_0 15 rfl rfl)
theorem dX5_isFound_16 : decode cX5_isFound 16 = .ok (.ireturn, 1) := dk_172 (dk_at dksX5_isFound_0 16 rfl rfl)
abbrev cX5_tell : ByteArray := prog_20_method_8_code
def yX5_tell : MethodName := ⟨RX5, "tell", "(II)V"⟩
def dkwX5_tell_1 : List UInt8 := [180, 0, 70, 4, 96, 181, 0, 70, 177]
abbrev dktX5_tell_1 : List UInt8 := dkwX5_tell_1 ++ []
def dkwX5_tell_0 : List UInt8 := [42, 180, 0, 24, 42, 180, 0, 70, 27, 79, 42, 180, 0, 27, 42, 180, 0, 70, 28, 79, 42, 89]
abbrev dktX5_tell_0 : List UInt8 := dkwX5_tell_0 ++ dktX5_tell_1
theorem dksX5_tell_0 : cX5_tell.data.toList.drop 0 = dktX5_tell_0 := by decide +kernel
theorem dksX5_tell_1 : cX5_tell.data.toList.drop 22 = dktX5_tell_1 := dk_seg dksX5_tell_0 22 rfl rfl
theorem dX5_tell_0 : decode cX5_tell 0 = .ok (.aload_n 0, 1) := dk_42 (dk_at dksX5_tell_0 0 rfl rfl)
theorem dX5_tell_1 : decode cX5_tell 1 = .ok (.getfield 24, 3) := dk_180 0 24 (dk_at dksX5_tell_0 1 rfl rfl)
theorem dX5_tell_4 : decode cX5_tell 4 = .ok (.aload_n 0, 1) := dk_42 (dk_at dksX5_tell_0 4 rfl rfl)
theorem dX5_tell_5 : decode cX5_tell 5 = .ok (.getfield 70, 3) := dk_180 0 70 (dk_at dksX5_tell_0 5 rfl rfl)
theorem dX5_tell_8 : decode cX5_tell 8 = .ok (.iload_n 1, 1) := dk_27 (dk_at dksX5_tell_0 8 rfl rfl)
theorem dX5_tell_9 : decode cX5_tell 9 = .ok (.iastore, 1) := dk_79 (dk_at dksX5_tell_0 9 rfl rfl)
theorem dX5_tell_10 : decode cX5_tell 10 = .ok (.aload_n 0, 1) := dk_42 (dk_at dksX5_tell_0 10 rfl rfl)
theorem dX5_tell_11 : decode cX5_tell 11 = .ok (.getfield 27, 3) := dk_180 0 27 (dk_at dksX5_tell_0 11 rfl rfl)
theorem dX5_tell_14 : decode cX5_tell 14 = .ok (.aload_n 0, 1) := dk_42 (dk_at dksX5_tell_0 14 rfl rfl)
theorem dX5_tell_15 : decode cX5_tell 15 = .ok (.getfield 70, 3) := dk_180 0 70 (dk_at dksX5_tell_0 15 rfl rfl)
theorem dX5_tell_18 : decode cX5_tell 18 = .ok (.iload_n 2, 1) := dk_28 (dk_at dksX5_tell_0 18 rfl rfl)
theorem dX5_tell_19 : decode cX5_tell 19 = .ok (.iastore, 1) := dk_79 (dk_at dksX5_tell_0 19 rfl rfl)
theorem dX5_tell_20 : decode cX5_tell 20 = .ok (.aload_n 0, 1) := dk_42 (dk_at dksX5_tell_0 20 rfl rfl)
theorem dX5_tell_21 : decode cX5_tell 21 = .ok (.dup, 1) := dk_89 (dk_at dksX5_tell_0 21 rfl rfl)
theorem dX5_tell_22 : decode cX5_tell 22 = .ok (.getfield 70, 3) := dk_180 0 70 (dk_at dksX5_tell_1 0 rfl rfl)
theorem dX5_tell_25 : decode cX5_tell 25 = .ok (.iconst 1, 1) := dk_4 (dk_at dksX5_tell_1 3 rfl rfl)
theorem dX5_tell_26 : decode cX5_tell 26 = .ok (.iadd, 1) := dk_96 (dk_at dksX5_tell_1 4 rfl rfl)
theorem dX5_tell_27 : decode cX5_tell 27 = .ok (.putfield 70, 3) := dk_181 0 70 (dk_at dksX5_tell_1 5 rfl rfl)
theorem dX5_tell_30 : decode cX5_tell 30 = .ok (.return_, 1) := dk_177 (dk_at dksX5_tell_1 8 rfl rfl)
abbrev cX5_isRefused : ByteArray := prog_20_method_11_code
def yX5_isRefused : MethodName := ⟨RX5, "isRefused", "(IZ)Z"⟩
def dkwX5_isRefused_0 : List UInt8 := [28, 153, 0, 15, 42, 180, 0, 62, 154, 0, 8, 42, 2, 182, 0, 80, 42, 27, 28, 182, 0, 84, 172]
abbrev dktX5_isRefused_0 : List UInt8 := dkwX5_isRefused_0 ++ []
theorem dksX5_isRefused_0 : cX5_isRefused.data.toList.drop 0 = dktX5_isRefused_0 := by decide +kernel
theorem dX5_isRefused_0 : decode cX5_isRefused 0 = .ok (.iload_n 2, 1) := dk_28 (dk_at dksX5_isRefused_0 0 rfl rfl)
theorem dX5_isRefused_1 : decode cX5_isRefused 1 = .ok (.ifCond .eq 15, 3) := dk_153 0 15 (dk_at dksX5_isRefused_0 1 rfl rfl)
theorem dX5_isRefused_4 : decode cX5_isRefused 4 = .ok (.aload_n 0, 1) := dk_42 (dk_at dksX5_isRefused_0 4 rfl rfl)
theorem dX5_isRefused_5 : decode cX5_isRefused 5 = .ok (.getfield 62, 3) := dk_180 0 62 (dk_at dksX5_isRefused_0 5 rfl rfl)
theorem dX5_isRefused_8 : decode cX5_isRefused 8 = .ok (.ifCond .ne 8, 3) := dk_154 0 8 (dk_at dksX5_isRefused_0 8 rfl rfl)
theorem dX5_isRefused_11 : decode cX5_isRefused 11 = .ok (.aload_n 0, 1) := dk_42 (dk_at dksX5_isRefused_0 11 rfl rfl)
theorem dX5_isRefused_12 : decode cX5_isRefused 12 = .ok (.iconst (-1), 1) := dk_2 (dk_at dksX5_isRefused_0 12 rfl rfl)
theorem dX5_isRefused_13 : decode cX5_isRefused 13 = .ok (.invokevirtual 80, 3) := dk_182 0 80 (dk_at dksX5_isRefused_0 13 rfl rfl)
theorem dX5_isRefused_16 : decode cX5_isRefused 16 = .ok (.aload_n 0, 1) := dk_42 (dk_at dksX5_isRefused_0 16 rfl rfl)
theorem dX5_isRefused_17 : decode cX5_isRefused 17 = .ok (.iload_n 1, 1) := dk_27 (dk_at dksX5_isRefused_0 17 rfl rfl)
theorem dX5_isRefused_18 : decode cX5_isRefused 18 = .ok (.iload_n 2, 1) := dk_28 (dk_at dksX5_isRefused_0 18 rfl rfl)
theorem dX5_isRefused_19 : decode cX5_isRefused 19 = .ok (.invokevirtual 84, 3) := dk_182 0 84 (dk_at dksX5_isRefused_0 19 rfl rfl)
theorem dX5_isRefused_22 : decode cX5_isRefused 22 = .ok (.ireturn, 1) := dk_172 (dk_at dksX5_isRefused_0 22 rfl rfl)
abbrev cX5_keep : ByteArray := prog_20_method_10_code
def yX5_keep : MethodName := ⟨RX5, "keep", "(I)V"⟩
def dkwX5_keep_3 : List UInt8 := [180, 0, 70, 28, 96, 181, 0, 77, 177]
abbrev dktX5_keep_3 : List UInt8 := dkwX5_keep_3 ++ []
def dkwX5_keep_2 : List UInt8 := [79, 42, 180, 0, 33, 29, 28, 96, 42, 180, 0, 27, 29, 46, 79, 132, 3, 1, 167, 255, 217, 42, 42]
abbrev dktX5_keep_2 : List UInt8 := dkwX5_keep_2 ++ dktX5_keep_3
def dkwX5_keep_1 : List UInt8 := [79, 3, 62, 29, 42, 180, 0, 70, 162, 0, 37, 42, 180, 0, 30, 29, 28, 96, 42, 180, 0, 24, 29, 46]
abbrev dktX5_keep_1 : List UInt8 := dkwX5_keep_1 ++ dktX5_keep_2
def dkwX5_keep_0 : List UInt8 := [27, 156, 0, 7, 3, 167, 0, 4, 4, 61, 42, 180, 0, 30, 3, 16, 18, 79, 42, 180, 0, 33, 3, 27]
abbrev dktX5_keep_0 : List UInt8 := dkwX5_keep_0 ++ dktX5_keep_1
theorem dksX5_keep_0 : cX5_keep.data.toList.drop 0 = dktX5_keep_0 := by decide +kernel
theorem dksX5_keep_1 : cX5_keep.data.toList.drop 24 = dktX5_keep_1 := dk_seg dksX5_keep_0 24 rfl rfl
theorem dksX5_keep_2 : cX5_keep.data.toList.drop 48 = dktX5_keep_2 := dk_seg dksX5_keep_1 24 rfl rfl
theorem dksX5_keep_3 : cX5_keep.data.toList.drop 71 = dktX5_keep_3 := dk_seg dksX5_keep_2 23 rfl rfl
theorem dX5_keep_0 : decode cX5_keep 0 = .ok (.iload_n 1, 1) := dk_27 (dk_at dksX5_keep_0 0 rfl rfl)
theorem dX5_keep_1 : decode cX5_keep 1 = .ok (.ifCond .ge 7, 3) := dk_156 0 7 (dk_at dksX5_keep_0 1 rfl rfl)
theorem dX5_keep_4 : decode cX5_keep 4 = .ok (.iconst 0, 1) := dk_3 (dk_at dksX5_keep_0 4 rfl rfl)
theorem dX5_keep_5 : decode cX5_keep 5 = .ok (.goto 4, 3) := dk_167 0 4 (dk_at dksX5_keep_0 5 rfl rfl)
theorem dX5_keep_8 : decode cX5_keep 8 = .ok (.iconst 1, 1) := dk_4 (dk_at dksX5_keep_0 8 rfl rfl)
theorem dX5_keep_9 : decode cX5_keep 9 = .ok (.istore_n 2, 1) := dk_61 (dk_at dksX5_keep_0 9 rfl rfl)
theorem dX5_keep_10 : decode cX5_keep 10 = .ok (.aload_n 0, 1) := dk_42 (dk_at dksX5_keep_0 10 rfl rfl)
theorem dX5_keep_11 : decode cX5_keep 11 = .ok (.getfield 30, 3) := dk_180 0 30 (dk_at dksX5_keep_0 11 rfl rfl)
theorem dX5_keep_14 : decode cX5_keep 14 = .ok (.iconst 0, 1) := dk_3 (dk_at dksX5_keep_0 14 rfl rfl)
theorem dX5_keep_15 : decode cX5_keep 15 = .ok (.bipush 18, 2) := dk_16 18 (dk_at dksX5_keep_0 15 rfl rfl)
theorem dX5_keep_17 : decode cX5_keep 17 = .ok (.iastore, 1) := dk_79 (dk_at dksX5_keep_0 17 rfl rfl)
theorem dX5_keep_18 : decode cX5_keep 18 = .ok (.aload_n 0, 1) := dk_42 (dk_at dksX5_keep_0 18 rfl rfl)
theorem dX5_keep_19 : decode cX5_keep 19 = .ok (.getfield 33, 3) := dk_180 0 33 (dk_at dksX5_keep_0 19 rfl rfl)
theorem dX5_keep_22 : decode cX5_keep 22 = .ok (.iconst 0, 1) := dk_3 (dk_at dksX5_keep_0 22 rfl rfl)
theorem dX5_keep_23 : decode cX5_keep 23 = .ok (.iload_n 1, 1) := dk_27 (dk_at dksX5_keep_0 23 rfl rfl)
theorem dX5_keep_24 : decode cX5_keep 24 = .ok (.iastore, 1) := dk_79 (dk_at dksX5_keep_1 0 rfl rfl)
theorem dX5_keep_25 : decode cX5_keep 25 = .ok (.iconst 0, 1) := dk_3 (dk_at dksX5_keep_1 1 rfl rfl)
theorem dX5_keep_26 : decode cX5_keep 26 = .ok (.istore_n 3, 1) := dk_62 (dk_at dksX5_keep_1 2 rfl rfl)
theorem dX5_keep_27 : decode cX5_keep 27 = .ok (.iload_n 3, 1) := dk_29 (dk_at dksX5_keep_1 3 rfl rfl)
theorem dX5_keep_28 : decode cX5_keep 28 = .ok (.aload_n 0, 1) := dk_42 (dk_at dksX5_keep_1 4 rfl rfl)
theorem dX5_keep_29 : decode cX5_keep 29 = .ok (.getfield 70, 3) := dk_180 0 70 (dk_at dksX5_keep_1 5 rfl rfl)
theorem dX5_keep_32 : decode cX5_keep 32 = .ok (.if_icmp .ge 37, 3) := dk_162 0 37 (dk_at dksX5_keep_1 8 rfl rfl)
theorem dX5_keep_35 : decode cX5_keep 35 = .ok (.aload_n 0, 1) := dk_42 (dk_at dksX5_keep_1 11 rfl rfl)
theorem dX5_keep_36 : decode cX5_keep 36 = .ok (.getfield 30, 3) := dk_180 0 30 (dk_at dksX5_keep_1 12 rfl rfl)
theorem dX5_keep_39 : decode cX5_keep 39 = .ok (.iload_n 3, 1) := dk_29 (dk_at dksX5_keep_1 15 rfl rfl)
theorem dX5_keep_40 : decode cX5_keep 40 = .ok (.iload_n 2, 1) := dk_28 (dk_at dksX5_keep_1 16 rfl rfl)
theorem dX5_keep_41 : decode cX5_keep 41 = .ok (.iadd, 1) := dk_96 (dk_at dksX5_keep_1 17 rfl rfl)
theorem dX5_keep_42 : decode cX5_keep 42 = .ok (.aload_n 0, 1) := dk_42 (dk_at dksX5_keep_1 18 rfl rfl)
theorem dX5_keep_43 : decode cX5_keep 43 = .ok (.getfield 24, 3) := dk_180 0 24 (dk_at dksX5_keep_1 19 rfl rfl)
theorem dX5_keep_46 : decode cX5_keep 46 = .ok (.iload_n 3, 1) := dk_29 (dk_at dksX5_keep_1 22 rfl rfl)
theorem dX5_keep_47 : decode cX5_keep 47 = .ok (.iaload, 1) := dk_46 (dk_at dksX5_keep_1 23 rfl rfl)
theorem dX5_keep_48 : decode cX5_keep 48 = .ok (.iastore, 1) := dk_79 (dk_at dksX5_keep_2 0 rfl rfl)
theorem dX5_keep_49 : decode cX5_keep 49 = .ok (.aload_n 0, 1) := dk_42 (dk_at dksX5_keep_2 1 rfl rfl)
theorem dX5_keep_50 : decode cX5_keep 50 = .ok (.getfield 33, 3) := dk_180 0 33 (dk_at dksX5_keep_2 2 rfl rfl)
theorem dX5_keep_53 : decode cX5_keep 53 = .ok (.iload_n 3, 1) := dk_29 (dk_at dksX5_keep_2 5 rfl rfl)
theorem dX5_keep_54 : decode cX5_keep 54 = .ok (.iload_n 2, 1) := dk_28 (dk_at dksX5_keep_2 6 rfl rfl)
theorem dX5_keep_55 : decode cX5_keep 55 = .ok (.iadd, 1) := dk_96 (dk_at dksX5_keep_2 7 rfl rfl)
theorem dX5_keep_56 : decode cX5_keep 56 = .ok (.aload_n 0, 1) := dk_42 (dk_at dksX5_keep_2 8 rfl rfl)
theorem dX5_keep_57 : decode cX5_keep 57 = .ok (.getfield 27, 3) := dk_180 0 27 (dk_at dksX5_keep_2 9 rfl rfl)
theorem dX5_keep_60 : decode cX5_keep 60 = .ok (.iload_n 3, 1) := dk_29 (dk_at dksX5_keep_2 12 rfl rfl)
theorem dX5_keep_61 : decode cX5_keep 61 = .ok (.iaload, 1) := dk_46 (dk_at dksX5_keep_2 13 rfl rfl)
theorem dX5_keep_62 : decode cX5_keep 62 = .ok (.iastore, 1) := dk_79 (dk_at dksX5_keep_2 14 rfl rfl)
theorem dX5_keep_63 : decode cX5_keep 63 = .ok (.iinc 3 1, 3) := dk_132 3 1 (dk_at dksX5_keep_2 15 rfl rfl)
theorem dX5_keep_66 : decode cX5_keep 66 = .ok (.goto (-39), 3) := dk_167 255 217 (dk_at dksX5_keep_2 18 rfl rfl)
theorem dX5_keep_69 : decode cX5_keep 69 = .ok (.aload_n 0, 1) := dk_42 (dk_at dksX5_keep_2 21 rfl rfl)
theorem dX5_keep_70 : decode cX5_keep 70 = .ok (.aload_n 0, 1) := dk_42 (dk_at dksX5_keep_2 22 rfl rfl)
theorem dX5_keep_71 : decode cX5_keep 71 = .ok (.getfield 70, 3) := dk_180 0 70 (dk_at dksX5_keep_3 0 rfl rfl)
theorem dX5_keep_74 : decode cX5_keep 74 = .ok (.iload_n 2, 1) := dk_28 (dk_at dksX5_keep_3 3 rfl rfl)
theorem dX5_keep_75 : decode cX5_keep 75 = .ok (.iadd, 1) := dk_96 (dk_at dksX5_keep_3 4 rfl rfl)
theorem dX5_keep_76 : decode cX5_keep 76 = .ok (.putfield 77, 3) := dk_181 0 77 (dk_at dksX5_keep_3 5 rfl rfl)
theorem dX5_keep_79 : decode cX5_keep 79 = .ok (.return_, 1) := dk_177 (dk_at dksX5_keep_3 8 rfl rfl)
abbrev cX5_remember : ByteArray := prog_20_method_6_code
def yX5_remember : MethodName := ⟨RX5, "remember", "([I)V"⟩
def dkwX5_remember_3 : List UInt8 := [4, 96, 181, 0, 55, 177]
abbrev dktX5_remember_3 : List UInt8 := dkwX5_remember_3 ++ []
def dkwX5_remember_2 : List UInt8 := [132, 2, 1, 167, 255, 228, 43, 42, 180, 0, 21, 42, 180, 0, 55, 50, 184, 0, 58, 42, 89, 180, 0, 55]
abbrev dktX5_remember_2 : List UInt8 := dkwX5_remember_2 ++ dktX5_remember_3
def dkwX5_remember_1 : List UInt8 := [180, 0, 55, 162, 0, 26, 42, 180, 0, 21, 28, 4, 96, 50, 42, 180, 0, 21, 28, 50, 184, 0, 58]
abbrev dktX5_remember_1 : List UInt8 := dkwX5_remember_1 ++ dktX5_remember_2
def dkwX5_remember_0 : List UInt8 := [42, 180, 0, 55, 16, 8, 160, 0, 46, 42, 89, 180, 0, 55, 4, 100, 181, 0, 55, 3, 61, 28, 42]
abbrev dktX5_remember_0 : List UInt8 := dkwX5_remember_0 ++ dktX5_remember_1
theorem dksX5_remember_0 : cX5_remember.data.toList.drop 0 = dktX5_remember_0 := by decide +kernel
theorem dksX5_remember_1 : cX5_remember.data.toList.drop 23 = dktX5_remember_1 := dk_seg dksX5_remember_0 23 rfl rfl
theorem dksX5_remember_2 : cX5_remember.data.toList.drop 46 = dktX5_remember_2 := dk_seg dksX5_remember_1 23 rfl rfl
theorem dksX5_remember_3 : cX5_remember.data.toList.drop 70 = dktX5_remember_3 := dk_seg dksX5_remember_2 24 rfl rfl
theorem dX5_remember_0 : decode cX5_remember 0 = .ok (.aload_n 0, 1) := dk_42 (dk_at dksX5_remember_0 0 rfl rfl)
theorem dX5_remember_1 : decode cX5_remember 1 = .ok (.getfield 55, 3) := dk_180 0 55 (dk_at dksX5_remember_0 1 rfl rfl)
theorem dX5_remember_4 : decode cX5_remember 4 = .ok (.bipush 8, 2) := dk_16 8 (dk_at dksX5_remember_0 4 rfl rfl)
theorem dX5_remember_6 : decode cX5_remember 6 = .ok (.if_icmp .ne 46, 3) := dk_160 0 46 (dk_at dksX5_remember_0 6 rfl rfl)
theorem dX5_remember_9 : decode cX5_remember 9 = .ok (.aload_n 0, 1) := dk_42 (dk_at dksX5_remember_0 9 rfl rfl)
theorem dX5_remember_10 : decode cX5_remember 10 = .ok (.dup, 1) := dk_89 (dk_at dksX5_remember_0 10 rfl rfl)
theorem dX5_remember_11 : decode cX5_remember 11 = .ok (.getfield 55, 3) := dk_180 0 55 (dk_at dksX5_remember_0 11 rfl rfl)
theorem dX5_remember_14 : decode cX5_remember 14 = .ok (.iconst 1, 1) := dk_4 (dk_at dksX5_remember_0 14 rfl rfl)
theorem dX5_remember_15 : decode cX5_remember 15 = .ok (.isub, 1) := dk_100 (dk_at dksX5_remember_0 15 rfl rfl)
theorem dX5_remember_16 : decode cX5_remember 16 = .ok (.putfield 55, 3) := dk_181 0 55 (dk_at dksX5_remember_0 16 rfl rfl)
theorem dX5_remember_19 : decode cX5_remember 19 = .ok (.iconst 0, 1) := dk_3 (dk_at dksX5_remember_0 19 rfl rfl)
theorem dX5_remember_20 : decode cX5_remember 20 = .ok (.istore_n 2, 1) := dk_61 (dk_at dksX5_remember_0 20 rfl rfl)
theorem dX5_remember_21 : decode cX5_remember 21 = .ok (.iload_n 2, 1) := dk_28 (dk_at dksX5_remember_0 21 rfl rfl)
theorem dX5_remember_22 : decode cX5_remember 22 = .ok (.aload_n 0, 1) := dk_42 (dk_at dksX5_remember_0 22 rfl rfl)
theorem dX5_remember_23 : decode cX5_remember 23 = .ok (.getfield 55, 3) := dk_180 0 55 (dk_at dksX5_remember_1 0 rfl rfl)
theorem dX5_remember_26 : decode cX5_remember 26 = .ok (.if_icmp .ge 26, 3) := dk_162 0 26 (dk_at dksX5_remember_1 3 rfl rfl)
theorem dX5_remember_29 : decode cX5_remember 29 = .ok (.aload_n 0, 1) := dk_42 (dk_at dksX5_remember_1 6 rfl rfl)
theorem dX5_remember_30 : decode cX5_remember 30 = .ok (.getfield 21, 3) := dk_180 0 21 (dk_at dksX5_remember_1 7 rfl rfl)
theorem dX5_remember_33 : decode cX5_remember 33 = .ok (.iload_n 2, 1) := dk_28 (dk_at dksX5_remember_1 10 rfl rfl)
theorem dX5_remember_34 : decode cX5_remember 34 = .ok (.iconst 1, 1) := dk_4 (dk_at dksX5_remember_1 11 rfl rfl)
theorem dX5_remember_35 : decode cX5_remember 35 = .ok (.iadd, 1) := dk_96 (dk_at dksX5_remember_1 12 rfl rfl)
theorem dX5_remember_36 : decode cX5_remember 36 = .ok (.aaload, 1) := dk_50 (dk_at dksX5_remember_1 13 rfl rfl)
theorem dX5_remember_37 : decode cX5_remember 37 = .ok (.aload_n 0, 1) := dk_42 (dk_at dksX5_remember_1 14 rfl rfl)
theorem dX5_remember_38 : decode cX5_remember 38 = .ok (.getfield 21, 3) := dk_180 0 21 (dk_at dksX5_remember_1 15 rfl rfl)
theorem dX5_remember_41 : decode cX5_remember 41 = .ok (.iload_n 2, 1) := dk_28 (dk_at dksX5_remember_1 18 rfl rfl)
theorem dX5_remember_42 : decode cX5_remember 42 = .ok (.aaload, 1) := dk_50 (dk_at dksX5_remember_1 19 rfl rfl)
theorem dX5_remember_43 : decode cX5_remember 43 = .ok (.invokestatic 58, 3) := dk_184 0 58 (dk_at dksX5_remember_1 20 rfl rfl)
theorem dX5_remember_46 : decode cX5_remember 46 = .ok (.iinc 2 1, 3) := dk_132 2 1 (dk_at dksX5_remember_2 0 rfl rfl)
theorem dX5_remember_49 : decode cX5_remember 49 = .ok (.goto (-28), 3) := dk_167 255 228 (dk_at dksX5_remember_2 3 rfl rfl)
theorem dX5_remember_52 : decode cX5_remember 52 = .ok (.aload_n 1, 1) := dk_43 (dk_at dksX5_remember_2 6 rfl rfl)
theorem dX5_remember_53 : decode cX5_remember 53 = .ok (.aload_n 0, 1) := dk_42 (dk_at dksX5_remember_2 7 rfl rfl)
theorem dX5_remember_54 : decode cX5_remember 54 = .ok (.getfield 21, 3) := dk_180 0 21 (dk_at dksX5_remember_2 8 rfl rfl)
theorem dX5_remember_57 : decode cX5_remember 57 = .ok (.aload_n 0, 1) := dk_42 (dk_at dksX5_remember_2 11 rfl rfl)
theorem dX5_remember_58 : decode cX5_remember 58 = .ok (.getfield 55, 3) := dk_180 0 55 (dk_at dksX5_remember_2 12 rfl rfl)
theorem dX5_remember_61 : decode cX5_remember 61 = .ok (.aaload, 1) := dk_50 (dk_at dksX5_remember_2 15 rfl rfl)
theorem dX5_remember_62 : decode cX5_remember 62 = .ok (.invokestatic 58, 3) := dk_184 0 58 (dk_at dksX5_remember_2 16 rfl rfl)
theorem dX5_remember_65 : decode cX5_remember 65 = .ok (.aload_n 0, 1) := dk_42 (dk_at dksX5_remember_2 19 rfl rfl)
theorem dX5_remember_66 : decode cX5_remember 66 = .ok (.dup, 1) := dk_89 (dk_at dksX5_remember_2 20 rfl rfl)
theorem dX5_remember_67 : decode cX5_remember 67 = .ok (.getfield 55, 3) := dk_180 0 55 (dk_at dksX5_remember_2 21 rfl rfl)
theorem dX5_remember_70 : decode cX5_remember 70 = .ok (.iconst 1, 1) := dk_4 (dk_at dksX5_remember_3 0 rfl rfl)
theorem dX5_remember_71 : decode cX5_remember 71 = .ok (.iadd, 1) := dk_96 (dk_at dksX5_remember_3 1 rfl rfl)
theorem dX5_remember_72 : decode cX5_remember 72 = .ok (.putfield 55, 3) := dk_181 0 55 (dk_at dksX5_remember_3 2 rfl rfl)
theorem dX5_remember_75 : decode cX5_remember 75 = .ok (.return_, 1) := dk_177 (dk_at dksX5_remember_3 5 rfl rfl)
abbrev cX5_copyRow : ByteArray := prog_20_method_4_code
def yX5_copyRow : MethodName := ⟨RX5, "copyRow", "([I[I)V"⟩
def dkwX5_copyRow_0 : List UInt8 := [3, 61, 28, 17, 0, 186, 162, 0, 15, 43, 28, 42, 28, 46, 79, 132, 2, 1, 167, 255, 240, 177]
abbrev dktX5_copyRow_0 : List UInt8 := dkwX5_copyRow_0 ++ []
theorem dksX5_copyRow_0 : cX5_copyRow.data.toList.drop 0 = dktX5_copyRow_0 := by decide +kernel
theorem dX5_copyRow_0 : decode cX5_copyRow 0 = .ok (.iconst 0, 1) := dk_3 (dk_at dksX5_copyRow_0 0 rfl rfl)
theorem dX5_copyRow_1 : decode cX5_copyRow 1 = .ok (.istore_n 2, 1) := dk_61 (dk_at dksX5_copyRow_0 1 rfl rfl)
theorem dX5_copyRow_2 : decode cX5_copyRow 2 = .ok (.iload_n 2, 1) := dk_28 (dk_at dksX5_copyRow_0 2 rfl rfl)
theorem dX5_copyRow_3 : decode cX5_copyRow 3 = .ok (.sipush 186, 3) := dk_17 0 186 (dk_at dksX5_copyRow_0 3 rfl rfl)
theorem dX5_copyRow_6 : decode cX5_copyRow 6 = .ok (.if_icmp .ge 15, 3) := dk_162 0 15 (dk_at dksX5_copyRow_0 6 rfl rfl)
theorem dX5_copyRow_9 : decode cX5_copyRow 9 = .ok (.aload_n 1, 1) := dk_43 (dk_at dksX5_copyRow_0 9 rfl rfl)
theorem dX5_copyRow_10 : decode cX5_copyRow 10 = .ok (.iload_n 2, 1) := dk_28 (dk_at dksX5_copyRow_0 10 rfl rfl)
theorem dX5_copyRow_11 : decode cX5_copyRow 11 = .ok (.aload_n 0, 1) := dk_42 (dk_at dksX5_copyRow_0 11 rfl rfl)
theorem dX5_copyRow_12 : decode cX5_copyRow 12 = .ok (.iload_n 2, 1) := dk_28 (dk_at dksX5_copyRow_0 12 rfl rfl)
theorem dX5_copyRow_13 : decode cX5_copyRow 13 = .ok (.iaload, 1) := dk_46 (dk_at dksX5_copyRow_0 13 rfl rfl)
theorem dX5_copyRow_14 : decode cX5_copyRow 14 = .ok (.iastore, 1) := dk_79 (dk_at dksX5_copyRow_0 14 rfl rfl)
theorem dX5_copyRow_15 : decode cX5_copyRow 15 = .ok (.iinc 2 1, 3) := dk_132 2 1 (dk_at dksX5_copyRow_0 15 rfl rfl)
theorem dX5_copyRow_18 : decode cX5_copyRow 18 = .ok (.goto (-16), 3) := dk_167 255 240 (dk_at dksX5_copyRow_0 18 rfl rfl)
theorem dX5_copyRow_21 : decode cX5_copyRow 21 = .ok (.return_, 1) := dk_177 (dk_at dksX5_copyRow_0 21 rfl rfl)
abbrev cX5_stretch : ByteArray := prog_20_method_30_code
def yX5_stretch : MethodName := ⟨RX5, "stretch", "(IIII)I"⟩
def dkwX5_stretch_6 : List UInt8 := [27, 4, 184, 0, 117, 46, 54, 6, 42, 27, 28, 29, 21, 4, 182, 0, 48, 21, 6, 172]
abbrev dktX5_stretch_6 : List UInt8 := dkwX5_stretch_6 ++ []
def dkwX5_stretch_5 : List UInt8 := [167, 0, 4, 3, 182, 0, 114, 153, 0, 5, 3, 172, 42, 42, 180, 0, 9, 182, 0, 66, 42, 180, 0, 9]
abbrev dktX5_stretch_5 : List UInt8 := dkwX5_stretch_5 ++ dktX5_stretch_6
def dkwX5_stretch_4 : List UInt8 := [184, 0, 117, 46, 4, 160, 0, 7, 4, 167, 0, 4, 3, 16, 10, 27, 182, 0, 110, 153, 0, 7, 4]
abbrev dktX5_stretch_4 : List UInt8 := dkwX5_stretch_4 ++ dktX5_stretch_5
def dkwX5_stretch_3 : List UInt8 := [182, 0, 84, 154, 0, 53, 42, 6, 42, 27, 182, 0, 126, 154, 0, 32, 42, 42, 180, 0, 9, 27, 8]
abbrev dktX5_stretch_3 : List UInt8 := dkwX5_stretch_3 ++ dktX5_stretch_4
def dkwX5_stretch_2 : List UInt8 := [4, 167, 0, 4, 3, 182, 0, 84, 154, 0, 71, 42, 5, 21, 5, 154, 0, 7, 4, 167, 0, 4, 3]
abbrev dktX5_stretch_2 : List UInt8 := dkwX5_stretch_2 ++ dktX5_stretch_3
def dkwX5_stretch_1 : List UInt8 := [16, 20, 184, 0, 88, 153, 0, 7, 4, 167, 0, 4, 3, 54, 5, 42, 4, 27, 184, 0, 123, 154, 0, 7]
abbrev dktX5_stretch_1 : List UInt8 := dkwX5_stretch_1 ++ dktX5_stretch_2
def dkwX5_stretch_0 : List UInt8 := [28, 3, 16, 6, 184, 0, 88, 153, 0, 28, 29, 4, 16, 20, 184, 0, 88, 153, 0, 18, 21, 4, 4]
abbrev dktX5_stretch_0 : List UInt8 := dkwX5_stretch_0 ++ dktX5_stretch_1
theorem dksX5_stretch_0 : cX5_stretch.data.toList.drop 0 = dktX5_stretch_0 := by decide +kernel
theorem dksX5_stretch_1 : cX5_stretch.data.toList.drop 23 = dktX5_stretch_1 := dk_seg dksX5_stretch_0 23 rfl rfl
theorem dksX5_stretch_2 : cX5_stretch.data.toList.drop 47 = dktX5_stretch_2 := dk_seg dksX5_stretch_1 24 rfl rfl
theorem dksX5_stretch_3 : cX5_stretch.data.toList.drop 70 = dktX5_stretch_3 := dk_seg dksX5_stretch_2 23 rfl rfl
theorem dksX5_stretch_4 : cX5_stretch.data.toList.drop 93 = dktX5_stretch_4 := dk_seg dksX5_stretch_3 23 rfl rfl
theorem dksX5_stretch_5 : cX5_stretch.data.toList.drop 116 = dktX5_stretch_5 := dk_seg dksX5_stretch_4 23 rfl rfl
theorem dksX5_stretch_6 : cX5_stretch.data.toList.drop 140 = dktX5_stretch_6 := dk_seg dksX5_stretch_5 24 rfl rfl
theorem dX5_stretch_0 : decode cX5_stretch 0 = .ok (.iload_n 2, 1) := dk_28 (dk_at dksX5_stretch_0 0 rfl rfl)
theorem dX5_stretch_1 : decode cX5_stretch 1 = .ok (.iconst 0, 1) := dk_3 (dk_at dksX5_stretch_0 1 rfl rfl)
theorem dX5_stretch_2 : decode cX5_stretch 2 = .ok (.bipush 6, 2) := dk_16 6 (dk_at dksX5_stretch_0 2 rfl rfl)
theorem dX5_stretch_4 : decode cX5_stretch 4 = .ok (.invokestatic 88, 3) := dk_184 0 88 (dk_at dksX5_stretch_0 4 rfl rfl)
theorem dX5_stretch_7 : decode cX5_stretch 7 = .ok (.ifCond .eq 28, 3) := dk_153 0 28 (dk_at dksX5_stretch_0 7 rfl rfl)
theorem dX5_stretch_10 : decode cX5_stretch 10 = .ok (.iload_n 3, 1) := dk_29 (dk_at dksX5_stretch_0 10 rfl rfl)
theorem dX5_stretch_11 : decode cX5_stretch 11 = .ok (.iconst 1, 1) := dk_4 (dk_at dksX5_stretch_0 11 rfl rfl)
theorem dX5_stretch_12 : decode cX5_stretch 12 = .ok (.bipush 20, 2) := dk_16 20 (dk_at dksX5_stretch_0 12 rfl rfl)
theorem dX5_stretch_14 : decode cX5_stretch 14 = .ok (.invokestatic 88, 3) := dk_184 0 88 (dk_at dksX5_stretch_0 14 rfl rfl)
theorem dX5_stretch_17 : decode cX5_stretch 17 = .ok (.ifCond .eq 18, 3) := dk_153 0 18 (dk_at dksX5_stretch_0 17 rfl rfl)
theorem dX5_stretch_20 : decode cX5_stretch 20 = .ok (.iload 4, 2) := dk_21 4 (dk_at dksX5_stretch_0 20 rfl rfl)
theorem dX5_stretch_22 : decode cX5_stretch 22 = .ok (.iconst 1, 1) := dk_4 (dk_at dksX5_stretch_0 22 rfl rfl)
theorem dX5_stretch_23 : decode cX5_stretch 23 = .ok (.bipush 20, 2) := dk_16 20 (dk_at dksX5_stretch_1 0 rfl rfl)
theorem dX5_stretch_25 : decode cX5_stretch 25 = .ok (.invokestatic 88, 3) := dk_184 0 88 (dk_at dksX5_stretch_1 2 rfl rfl)
theorem dX5_stretch_28 : decode cX5_stretch 28 = .ok (.ifCond .eq 7, 3) := dk_153 0 7 (dk_at dksX5_stretch_1 5 rfl rfl)
theorem dX5_stretch_31 : decode cX5_stretch 31 = .ok (.iconst 1, 1) := dk_4 (dk_at dksX5_stretch_1 8 rfl rfl)
theorem dX5_stretch_32 : decode cX5_stretch 32 = .ok (.goto 4, 3) := dk_167 0 4 (dk_at dksX5_stretch_1 9 rfl rfl)
theorem dX5_stretch_35 : decode cX5_stretch 35 = .ok (.iconst 0, 1) := dk_3 (dk_at dksX5_stretch_1 12 rfl rfl)
theorem dX5_stretch_36 : decode cX5_stretch 36 = .ok (.istore 5, 2) := dk_54 5 (dk_at dksX5_stretch_1 13 rfl rfl)
theorem dX5_stretch_38 : decode cX5_stretch 38 = .ok (.aload_n 0, 1) := dk_42 (dk_at dksX5_stretch_1 15 rfl rfl)
theorem dX5_stretch_39 : decode cX5_stretch 39 = .ok (.iconst 1, 1) := dk_4 (dk_at dksX5_stretch_1 16 rfl rfl)
theorem dX5_stretch_40 : decode cX5_stretch 40 = .ok (.iload_n 1, 1) := dk_27 (dk_at dksX5_stretch_1 17 rfl rfl)
theorem dX5_stretch_41 : decode cX5_stretch 41 = .ok (.invokestatic 123, 3) := dk_184 0 123 (dk_at dksX5_stretch_1 18 rfl rfl)
theorem dX5_stretch_44 : decode cX5_stretch 44 = .ok (.ifCond .ne 7, 3) := dk_154 0 7 (dk_at dksX5_stretch_1 21 rfl rfl)
theorem dX5_stretch_47 : decode cX5_stretch 47 = .ok (.iconst 1, 1) := dk_4 (dk_at dksX5_stretch_2 0 rfl rfl)
theorem dX5_stretch_48 : decode cX5_stretch 48 = .ok (.goto 4, 3) := dk_167 0 4 (dk_at dksX5_stretch_2 1 rfl rfl)
theorem dX5_stretch_51 : decode cX5_stretch 51 = .ok (.iconst 0, 1) := dk_3 (dk_at dksX5_stretch_2 4 rfl rfl)
theorem dX5_stretch_52 : decode cX5_stretch 52 = .ok (.invokevirtual 84, 3) := dk_182 0 84 (dk_at dksX5_stretch_2 5 rfl rfl)
theorem dX5_stretch_55 : decode cX5_stretch 55 = .ok (.ifCond .ne 71, 3) := dk_154 0 71 (dk_at dksX5_stretch_2 8 rfl rfl)
theorem dX5_stretch_58 : decode cX5_stretch 58 = .ok (.aload_n 0, 1) := dk_42 (dk_at dksX5_stretch_2 11 rfl rfl)
theorem dX5_stretch_59 : decode cX5_stretch 59 = .ok (.iconst 2, 1) := dk_5 (dk_at dksX5_stretch_2 12 rfl rfl)
theorem dX5_stretch_60 : decode cX5_stretch 60 = .ok (.iload 5, 2) := dk_21 5 (dk_at dksX5_stretch_2 13 rfl rfl)
theorem dX5_stretch_62 : decode cX5_stretch 62 = .ok (.ifCond .ne 7, 3) := dk_154 0 7 (dk_at dksX5_stretch_2 15 rfl rfl)
theorem dX5_stretch_65 : decode cX5_stretch 65 = .ok (.iconst 1, 1) := dk_4 (dk_at dksX5_stretch_2 18 rfl rfl)
theorem dX5_stretch_66 : decode cX5_stretch 66 = .ok (.goto 4, 3) := dk_167 0 4 (dk_at dksX5_stretch_2 19 rfl rfl)
theorem dX5_stretch_69 : decode cX5_stretch 69 = .ok (.iconst 0, 1) := dk_3 (dk_at dksX5_stretch_2 22 rfl rfl)
theorem dX5_stretch_70 : decode cX5_stretch 70 = .ok (.invokevirtual 84, 3) := dk_182 0 84 (dk_at dksX5_stretch_3 0 rfl rfl)
theorem dX5_stretch_73 : decode cX5_stretch 73 = .ok (.ifCond .ne 53, 3) := dk_154 0 53 (dk_at dksX5_stretch_3 3 rfl rfl)
theorem dX5_stretch_76 : decode cX5_stretch 76 = .ok (.aload_n 0, 1) := dk_42 (dk_at dksX5_stretch_3 6 rfl rfl)
theorem dX5_stretch_77 : decode cX5_stretch 77 = .ok (.iconst 3, 1) := dk_6 (dk_at dksX5_stretch_3 7 rfl rfl)
theorem dX5_stretch_78 : decode cX5_stretch 78 = .ok (.aload_n 0, 1) := dk_42 (dk_at dksX5_stretch_3 8 rfl rfl)
theorem dX5_stretch_79 : decode cX5_stretch 79 = .ok (.iload_n 1, 1) := dk_27 (dk_at dksX5_stretch_3 9 rfl rfl)
theorem dX5_stretch_80 : decode cX5_stretch 80 = .ok (.invokevirtual 126, 3) := dk_182 0 126 (dk_at dksX5_stretch_3 10 rfl rfl)
theorem dX5_stretch_83 : decode cX5_stretch 83 = .ok (.ifCond .ne 32, 3) := dk_154 0 32 (dk_at dksX5_stretch_3 13 rfl rfl)
theorem dX5_stretch_86 : decode cX5_stretch 86 = .ok (.aload_n 0, 1) := dk_42 (dk_at dksX5_stretch_3 16 rfl rfl)
theorem dX5_stretch_87 : decode cX5_stretch 87 = .ok (.aload_n 0, 1) := dk_42 (dk_at dksX5_stretch_3 17 rfl rfl)
theorem dX5_stretch_88 : decode cX5_stretch 88 = .ok (.getfield 9, 3) := dk_180 0 9 (dk_at dksX5_stretch_3 18 rfl rfl)
theorem dX5_stretch_91 : decode cX5_stretch 91 = .ok (.iload_n 1, 1) := dk_27 (dk_at dksX5_stretch_3 21 rfl rfl)
theorem dX5_stretch_92 : decode cX5_stretch 92 = .ok (.iconst 5, 1) := dk_8 (dk_at dksX5_stretch_3 22 rfl rfl)
theorem dX5_stretch_93 : decode cX5_stretch 93 = .ok (.invokestatic 117, 3) := dk_184 0 117 (dk_at dksX5_stretch_4 0 rfl rfl)
theorem dX5_stretch_96 : decode cX5_stretch 96 = .ok (.iaload, 1) := dk_46 (dk_at dksX5_stretch_4 3 rfl rfl)
theorem dX5_stretch_97 : decode cX5_stretch 97 = .ok (.iconst 1, 1) := dk_4 (dk_at dksX5_stretch_4 4 rfl rfl)
theorem dX5_stretch_98 : decode cX5_stretch 98 = .ok (.if_icmp .ne 7, 3) := dk_160 0 7 (dk_at dksX5_stretch_4 5 rfl rfl)
theorem dX5_stretch_101 : decode cX5_stretch 101 = .ok (.iconst 1, 1) := dk_4 (dk_at dksX5_stretch_4 8 rfl rfl)
theorem dX5_stretch_102 : decode cX5_stretch 102 = .ok (.goto 4, 3) := dk_167 0 4 (dk_at dksX5_stretch_4 9 rfl rfl)
theorem dX5_stretch_105 : decode cX5_stretch 105 = .ok (.iconst 0, 1) := dk_3 (dk_at dksX5_stretch_4 12 rfl rfl)
theorem dX5_stretch_106 : decode cX5_stretch 106 = .ok (.bipush 10, 2) := dk_16 10 (dk_at dksX5_stretch_4 13 rfl rfl)
theorem dX5_stretch_108 : decode cX5_stretch 108 = .ok (.iload_n 1, 1) := dk_27 (dk_at dksX5_stretch_4 15 rfl rfl)
theorem dX5_stretch_109 : decode cX5_stretch 109 = .ok (.invokevirtual 110, 3) := dk_182 0 110 (dk_at dksX5_stretch_4 16 rfl rfl)
theorem dX5_stretch_112 : decode cX5_stretch 112 = .ok (.ifCond .eq 7, 3) := dk_153 0 7 (dk_at dksX5_stretch_4 19 rfl rfl)
theorem dX5_stretch_115 : decode cX5_stretch 115 = .ok (.iconst 1, 1) := dk_4 (dk_at dksX5_stretch_4 22 rfl rfl)
theorem dX5_stretch_116 : decode cX5_stretch 116 = .ok (.goto 4, 3) := dk_167 0 4 (dk_at dksX5_stretch_5 0 rfl rfl)
theorem dX5_stretch_119 : decode cX5_stretch 119 = .ok (.iconst 0, 1) := dk_3 (dk_at dksX5_stretch_5 3 rfl rfl)
theorem dX5_stretch_120 : decode cX5_stretch 120 = .ok (.invokevirtual 114, 3) := dk_182 0 114 (dk_at dksX5_stretch_5 4 rfl rfl)
theorem dX5_stretch_123 : decode cX5_stretch 123 = .ok (.ifCond .eq 5, 3) := dk_153 0 5 (dk_at dksX5_stretch_5 7 rfl rfl)
theorem dX5_stretch_126 : decode cX5_stretch 126 = .ok (.iconst 0, 1) := dk_3 (dk_at dksX5_stretch_5 10 rfl rfl)
theorem dX5_stretch_127 : decode cX5_stretch 127 = .ok (.ireturn, 1) := dk_172 (dk_at dksX5_stretch_5 11 rfl rfl)
theorem dX5_stretch_128 : decode cX5_stretch 128 = .ok (.aload_n 0, 1) := dk_42 (dk_at dksX5_stretch_5 12 rfl rfl)
theorem dX5_stretch_129 : decode cX5_stretch 129 = .ok (.aload_n 0, 1) := dk_42 (dk_at dksX5_stretch_5 13 rfl rfl)
theorem dX5_stretch_130 : decode cX5_stretch 130 = .ok (.getfield 9, 3) := dk_180 0 9 (dk_at dksX5_stretch_5 14 rfl rfl)
theorem dX5_stretch_133 : decode cX5_stretch 133 = .ok (.invokevirtual 66, 3) := dk_182 0 66 (dk_at dksX5_stretch_5 17 rfl rfl)
theorem dX5_stretch_136 : decode cX5_stretch 136 = .ok (.aload_n 0, 1) := dk_42 (dk_at dksX5_stretch_5 20 rfl rfl)
theorem dX5_stretch_137 : decode cX5_stretch 137 = .ok (.getfield 9, 3) := dk_180 0 9 (dk_at dksX5_stretch_5 21 rfl rfl)
theorem dX5_stretch_140 : decode cX5_stretch 140 = .ok (.iload_n 1, 1) := dk_27 (dk_at dksX5_stretch_6 0 rfl rfl)
theorem dX5_stretch_141 : decode cX5_stretch 141 = .ok (.iconst 1, 1) := dk_4 (dk_at dksX5_stretch_6 1 rfl rfl)
theorem dX5_stretch_142 : decode cX5_stretch 142 = .ok (.invokestatic 117, 3) := dk_184 0 117 (dk_at dksX5_stretch_6 2 rfl rfl)
theorem dX5_stretch_145 : decode cX5_stretch 145 = .ok (.iaload, 1) := dk_46 (dk_at dksX5_stretch_6 5 rfl rfl)
theorem dX5_stretch_146 : decode cX5_stretch 146 = .ok (.istore 6, 2) := dk_54 6 (dk_at dksX5_stretch_6 6 rfl rfl)
theorem dX5_stretch_148 : decode cX5_stretch 148 = .ok (.aload_n 0, 1) := dk_42 (dk_at dksX5_stretch_6 8 rfl rfl)
theorem dX5_stretch_149 : decode cX5_stretch 149 = .ok (.iload_n 1, 1) := dk_27 (dk_at dksX5_stretch_6 9 rfl rfl)
theorem dX5_stretch_150 : decode cX5_stretch 150 = .ok (.iload_n 2, 1) := dk_28 (dk_at dksX5_stretch_6 10 rfl rfl)
theorem dX5_stretch_151 : decode cX5_stretch 151 = .ok (.iload_n 3, 1) := dk_29 (dk_at dksX5_stretch_6 11 rfl rfl)
theorem dX5_stretch_152 : decode cX5_stretch 152 = .ok (.iload 4, 2) := dk_21 4 (dk_at dksX5_stretch_6 12 rfl rfl)
theorem dX5_stretch_154 : decode cX5_stretch 154 = .ok (.invokevirtual 48, 3) := dk_182 0 48 (dk_at dksX5_stretch_6 14 rfl rfl)
theorem dX5_stretch_157 : decode cX5_stretch 157 = .ok (.iload 6, 2) := dk_21 6 (dk_at dksX5_stretch_6 17 rfl rfl)
theorem dX5_stretch_159 : decode cX5_stretch 159 = .ok (.ireturn, 1) := dk_172 (dk_at dksX5_stretch_6 19 rfl rfl)
abbrev cX5_isStretch : ByteArray := prog_20_method_17_code
def yX5_isStretch : MethodName := ⟨RX5, "isStretch", "(I)Z"⟩
def dkwX5_isStretch_0 : List UInt8 := [26, 3, 7, 184, 0, 88, 172]
abbrev dktX5_isStretch_0 : List UInt8 := dkwX5_isStretch_0 ++ []
theorem dksX5_isStretch_0 : cX5_isStretch.data.toList.drop 0 = dktX5_isStretch_0 := by decide +kernel
theorem dX5_isStretch_0 : decode cX5_isStretch 0 = .ok (.iload_n 0, 1) := dk_26 (dk_at dksX5_isStretch_0 0 rfl rfl)
theorem dX5_isStretch_1 : decode cX5_isStretch 1 = .ok (.iconst 0, 1) := dk_3 (dk_at dksX5_isStretch_0 1 rfl rfl)
theorem dX5_isStretch_2 : decode cX5_isStretch 2 = .ok (.iconst 4, 1) := dk_7 (dk_at dksX5_isStretch_0 2 rfl rfl)
theorem dX5_isStretch_3 : decode cX5_isStretch 3 = .ok (.invokestatic 88, 3) := dk_184 0 88 (dk_at dksX5_isStretch_0 3 rfl rfl)
theorem dX5_isStretch_6 : decode cX5_isStretch 6 = .ok (.ireturn, 1) := dk_172 (dk_at dksX5_isStretch_0 6 rfl rfl)
abbrev cX5_hasTrain : ByteArray := prog_20_method_29_code
def yX5_hasTrain : MethodName := ⟨RX5, "hasTrain", "(I)Z"⟩
def dkwX5_hasTrain_1 : List UInt8 := [172]
abbrev dktX5_hasTrain_1 : List UInt8 := dkwX5_hasTrain_1 ++ []
def dkwX5_hasTrain_0 : List UInt8 := [42, 42, 27, 182, 0, 120, 155, 0, 7, 4, 167, 0, 4, 3, 16, 6, 42, 27, 182, 0, 120, 182, 0, 110]
abbrev dktX5_hasTrain_0 : List UInt8 := dkwX5_hasTrain_0 ++ dktX5_hasTrain_1
theorem dksX5_hasTrain_0 : cX5_hasTrain.data.toList.drop 0 = dktX5_hasTrain_0 := by decide +kernel
theorem dksX5_hasTrain_1 : cX5_hasTrain.data.toList.drop 24 = dktX5_hasTrain_1 := dk_seg dksX5_hasTrain_0 24 rfl rfl
theorem dX5_hasTrain_0 : decode cX5_hasTrain 0 = .ok (.aload_n 0, 1) := dk_42 (dk_at dksX5_hasTrain_0 0 rfl rfl)
theorem dX5_hasTrain_1 : decode cX5_hasTrain 1 = .ok (.aload_n 0, 1) := dk_42 (dk_at dksX5_hasTrain_0 1 rfl rfl)
theorem dX5_hasTrain_2 : decode cX5_hasTrain 2 = .ok (.iload_n 1, 1) := dk_27 (dk_at dksX5_hasTrain_0 2 rfl rfl)
theorem dX5_hasTrain_3 : decode cX5_hasTrain 3 = .ok (.invokevirtual 120, 3) := dk_182 0 120 (dk_at dksX5_hasTrain_0 3 rfl rfl)
theorem dX5_hasTrain_6 : decode cX5_hasTrain 6 = .ok (.ifCond .lt 7, 3) := dk_155 0 7 (dk_at dksX5_hasTrain_0 6 rfl rfl)
theorem dX5_hasTrain_9 : decode cX5_hasTrain 9 = .ok (.iconst 1, 1) := dk_4 (dk_at dksX5_hasTrain_0 9 rfl rfl)
theorem dX5_hasTrain_10 : decode cX5_hasTrain 10 = .ok (.goto 4, 3) := dk_167 0 4 (dk_at dksX5_hasTrain_0 10 rfl rfl)
theorem dX5_hasTrain_13 : decode cX5_hasTrain 13 = .ok (.iconst 0, 1) := dk_3 (dk_at dksX5_hasTrain_0 13 rfl rfl)
theorem dX5_hasTrain_14 : decode cX5_hasTrain 14 = .ok (.bipush 6, 2) := dk_16 6 (dk_at dksX5_hasTrain_0 14 rfl rfl)
theorem dX5_hasTrain_16 : decode cX5_hasTrain 16 = .ok (.aload_n 0, 1) := dk_42 (dk_at dksX5_hasTrain_0 16 rfl rfl)
theorem dX5_hasTrain_17 : decode cX5_hasTrain 17 = .ok (.iload_n 1, 1) := dk_27 (dk_at dksX5_hasTrain_0 17 rfl rfl)
theorem dX5_hasTrain_18 : decode cX5_hasTrain 18 = .ok (.invokevirtual 120, 3) := dk_182 0 120 (dk_at dksX5_hasTrain_0 18 rfl rfl)
theorem dX5_hasTrain_21 : decode cX5_hasTrain 21 = .ok (.invokevirtual 110, 3) := dk_182 0 110 (dk_at dksX5_hasTrain_0 21 rfl rfl)
theorem dX5_hasTrain_24 : decode cX5_hasTrain 24 = .ok (.ireturn, 1) := dk_172 (dk_at dksX5_hasTrain_1 0 rfl rfl)
abbrev cX5_trainIn : ByteArray := prog_20_method_23_code
def yX5_trainIn : MethodName := ⟨RX5, "trainIn", "(I)I"⟩
def dkwX5_trainIn_1 : List UInt8 := [27, 160, 0, 5, 28, 172, 132, 2, 1, 167, 255, 225, 2, 172]
abbrev dktX5_trainIn_1 : List UInt8 := dkwX5_trainIn_1 ++ []
def dkwX5_trainIn_0 : List UInt8 := [3, 61, 28, 42, 180, 0, 9, 17, 0, 180, 46, 162, 0, 25, 42, 180, 0, 9, 28, 5, 184, 0, 92, 46]
abbrev dktX5_trainIn_0 : List UInt8 := dkwX5_trainIn_0 ++ dktX5_trainIn_1
theorem dksX5_trainIn_0 : cX5_trainIn.data.toList.drop 0 = dktX5_trainIn_0 := by decide +kernel
theorem dksX5_trainIn_1 : cX5_trainIn.data.toList.drop 24 = dktX5_trainIn_1 := dk_seg dksX5_trainIn_0 24 rfl rfl
theorem dX5_trainIn_0 : decode cX5_trainIn 0 = .ok (.iconst 0, 1) := dk_3 (dk_at dksX5_trainIn_0 0 rfl rfl)
theorem dX5_trainIn_1 : decode cX5_trainIn 1 = .ok (.istore_n 2, 1) := dk_61 (dk_at dksX5_trainIn_0 1 rfl rfl)
theorem dX5_trainIn_2 : decode cX5_trainIn 2 = .ok (.iload_n 2, 1) := dk_28 (dk_at dksX5_trainIn_0 2 rfl rfl)
theorem dX5_trainIn_3 : decode cX5_trainIn 3 = .ok (.aload_n 0, 1) := dk_42 (dk_at dksX5_trainIn_0 3 rfl rfl)
theorem dX5_trainIn_4 : decode cX5_trainIn 4 = .ok (.getfield 9, 3) := dk_180 0 9 (dk_at dksX5_trainIn_0 4 rfl rfl)
theorem dX5_trainIn_7 : decode cX5_trainIn 7 = .ok (.sipush 180, 3) := dk_17 0 180 (dk_at dksX5_trainIn_0 7 rfl rfl)
theorem dX5_trainIn_10 : decode cX5_trainIn 10 = .ok (.iaload, 1) := dk_46 (dk_at dksX5_trainIn_0 10 rfl rfl)
theorem dX5_trainIn_11 : decode cX5_trainIn 11 = .ok (.if_icmp .ge 25, 3) := dk_162 0 25 (dk_at dksX5_trainIn_0 11 rfl rfl)
theorem dX5_trainIn_14 : decode cX5_trainIn 14 = .ok (.aload_n 0, 1) := dk_42 (dk_at dksX5_trainIn_0 14 rfl rfl)
theorem dX5_trainIn_15 : decode cX5_trainIn 15 = .ok (.getfield 9, 3) := dk_180 0 9 (dk_at dksX5_trainIn_0 15 rfl rfl)
theorem dX5_trainIn_18 : decode cX5_trainIn 18 = .ok (.iload_n 2, 1) := dk_28 (dk_at dksX5_trainIn_0 18 rfl rfl)
theorem dX5_trainIn_19 : decode cX5_trainIn 19 = .ok (.iconst 2, 1) := dk_5 (dk_at dksX5_trainIn_0 19 rfl rfl)
theorem dX5_trainIn_20 : decode cX5_trainIn 20 = .ok (.invokestatic 92, 3) := dk_184 0 92 (dk_at dksX5_trainIn_0 20 rfl rfl)
theorem dX5_trainIn_23 : decode cX5_trainIn 23 = .ok (.iaload, 1) := dk_46 (dk_at dksX5_trainIn_0 23 rfl rfl)
theorem dX5_trainIn_24 : decode cX5_trainIn 24 = .ok (.iload_n 1, 1) := dk_27 (dk_at dksX5_trainIn_1 0 rfl rfl)
theorem dX5_trainIn_25 : decode cX5_trainIn 25 = .ok (.if_icmp .ne 5, 3) := dk_160 0 5 (dk_at dksX5_trainIn_1 1 rfl rfl)
theorem dX5_trainIn_28 : decode cX5_trainIn 28 = .ok (.iload_n 2, 1) := dk_28 (dk_at dksX5_trainIn_1 4 rfl rfl)
theorem dX5_trainIn_29 : decode cX5_trainIn 29 = .ok (.ireturn, 1) := dk_172 (dk_at dksX5_trainIn_1 5 rfl rfl)
theorem dX5_trainIn_30 : decode cX5_trainIn 30 = .ok (.iinc 2 1, 3) := dk_132 2 1 (dk_at dksX5_trainIn_1 6 rfl rfl)
theorem dX5_trainIn_33 : decode cX5_trainIn 33 = .ok (.goto (-31), 3) := dk_167 255 225 (dk_at dksX5_trainIn_1 9 rfl rfl)
theorem dX5_trainIn_36 : decode cX5_trainIn 36 = .ok (.iconst (-1), 1) := dk_2 (dk_at dksX5_trainIn_1 12 rfl rfl)
theorem dX5_trainIn_37 : decode cX5_trainIn 37 = .ok (.ireturn, 1) := dk_172 (dk_at dksX5_trainIn_1 13 rfl rfl)
abbrev cX5_stationOf : ByteArray := prog_20_method_32_code
def yX5_stationOf : MethodName := ⟨RX5, "stationOf", "(II)I"⟩
def dkwX5_stationOf_4 : List UInt8 := [27, 182, 0, 132, 172, 42, 180, 0, 9, 27, 4, 184, 0, 44, 46, 172]
abbrev dktX5_stationOf_4 : List UInt8 := dkwX5_stationOf_4 ++ []
def dkwX5_stationOf_3 : List UInt8 := [42, 180, 0, 9, 27, 3, 184, 0, 44, 46, 172, 42, 27, 182, 0, 95, 172, 42, 27, 182, 0, 129, 172, 42]
abbrev dktX5_stationOf_3 : List UInt8 := dkwX5_stationOf_3 ++ dktX5_stationOf_4
def dkwX5_stationOf_2 : List UInt8 := [170, 0, 0, 0, 0, 0, 60, 0, 0, 0, 0, 0, 0, 0, 3, 0, 0, 0, 31, 0, 0, 0, 42, 0, 0, 0, 48, 0, 0, 0, 54]
abbrev dktX5_stationOf_2 : List UInt8 := dkwX5_stationOf_2 ++ dktX5_stationOf_3
def dkwX5_stationOf_1 : List UInt8 := [7, 184, 0, 88, 154, 0, 7, 4, 167, 0, 4, 3, 182, 0, 84, 153, 0, 5, 3, 172, 28]
abbrev dktX5_stationOf_1 : List UInt8 := dkwX5_stationOf_1 ++ dktX5_stationOf_2
def dkwX5_stationOf_0 : List UInt8 := [42, 4, 27, 184, 0, 106, 154, 0, 7, 4, 167, 0, 4, 3, 182, 0, 84, 154, 0, 25, 42, 5, 28, 3]
abbrev dktX5_stationOf_0 : List UInt8 := dkwX5_stationOf_0 ++ dktX5_stationOf_1
theorem dksX5_stationOf_0 : cX5_stationOf.data.toList.drop 0 = dktX5_stationOf_0 := by decide +kernel
theorem dksX5_stationOf_1 : cX5_stationOf.data.toList.drop 24 = dktX5_stationOf_1 := dk_seg dksX5_stationOf_0 24 rfl rfl
theorem dksX5_stationOf_2 : cX5_stationOf.data.toList.drop 45 = dktX5_stationOf_2 := dk_seg dksX5_stationOf_1 21 rfl rfl
theorem dksX5_stationOf_3 : cX5_stationOf.data.toList.drop 76 = dktX5_stationOf_3 := dk_seg dksX5_stationOf_2 31 rfl rfl
theorem dksX5_stationOf_4 : cX5_stationOf.data.toList.drop 100 = dktX5_stationOf_4 := dk_seg dksX5_stationOf_3 24 rfl rfl
theorem dX5_stationOf_0 : decode cX5_stationOf 0 = .ok (.aload_n 0, 1) := dk_42 (dk_at dksX5_stationOf_0 0 rfl rfl)
theorem dX5_stationOf_1 : decode cX5_stationOf 1 = .ok (.iconst 1, 1) := dk_4 (dk_at dksX5_stationOf_0 1 rfl rfl)
theorem dX5_stationOf_2 : decode cX5_stationOf 2 = .ok (.iload_n 1, 1) := dk_27 (dk_at dksX5_stationOf_0 2 rfl rfl)
theorem dX5_stationOf_3 : decode cX5_stationOf 3 = .ok (.invokestatic 106, 3) := dk_184 0 106 (dk_at dksX5_stationOf_0 3 rfl rfl)
theorem dX5_stationOf_6 : decode cX5_stationOf 6 = .ok (.ifCond .ne 7, 3) := dk_154 0 7 (dk_at dksX5_stationOf_0 6 rfl rfl)
theorem dX5_stationOf_9 : decode cX5_stationOf 9 = .ok (.iconst 1, 1) := dk_4 (dk_at dksX5_stationOf_0 9 rfl rfl)
theorem dX5_stationOf_10 : decode cX5_stationOf 10 = .ok (.goto 4, 3) := dk_167 0 4 (dk_at dksX5_stationOf_0 10 rfl rfl)
theorem dX5_stationOf_13 : decode cX5_stationOf 13 = .ok (.iconst 0, 1) := dk_3 (dk_at dksX5_stationOf_0 13 rfl rfl)
theorem dX5_stationOf_14 : decode cX5_stationOf 14 = .ok (.invokevirtual 84, 3) := dk_182 0 84 (dk_at dksX5_stationOf_0 14 rfl rfl)
theorem dX5_stationOf_17 : decode cX5_stationOf 17 = .ok (.ifCond .ne 25, 3) := dk_154 0 25 (dk_at dksX5_stationOf_0 17 rfl rfl)
theorem dX5_stationOf_20 : decode cX5_stationOf 20 = .ok (.aload_n 0, 1) := dk_42 (dk_at dksX5_stationOf_0 20 rfl rfl)
theorem dX5_stationOf_21 : decode cX5_stationOf 21 = .ok (.iconst 2, 1) := dk_5 (dk_at dksX5_stationOf_0 21 rfl rfl)
theorem dX5_stationOf_22 : decode cX5_stationOf 22 = .ok (.iload_n 2, 1) := dk_28 (dk_at dksX5_stationOf_0 22 rfl rfl)
theorem dX5_stationOf_23 : decode cX5_stationOf 23 = .ok (.iconst 0, 1) := dk_3 (dk_at dksX5_stationOf_0 23 rfl rfl)
theorem dX5_stationOf_24 : decode cX5_stationOf 24 = .ok (.iconst 4, 1) := dk_7 (dk_at dksX5_stationOf_1 0 rfl rfl)
theorem dX5_stationOf_25 : decode cX5_stationOf 25 = .ok (.invokestatic 88, 3) := dk_184 0 88 (dk_at dksX5_stationOf_1 1 rfl rfl)
theorem dX5_stationOf_28 : decode cX5_stationOf 28 = .ok (.ifCond .ne 7, 3) := dk_154 0 7 (dk_at dksX5_stationOf_1 4 rfl rfl)
theorem dX5_stationOf_31 : decode cX5_stationOf 31 = .ok (.iconst 1, 1) := dk_4 (dk_at dksX5_stationOf_1 7 rfl rfl)
theorem dX5_stationOf_32 : decode cX5_stationOf 32 = .ok (.goto 4, 3) := dk_167 0 4 (dk_at dksX5_stationOf_1 8 rfl rfl)
theorem dX5_stationOf_35 : decode cX5_stationOf 35 = .ok (.iconst 0, 1) := dk_3 (dk_at dksX5_stationOf_1 11 rfl rfl)
theorem dX5_stationOf_36 : decode cX5_stationOf 36 = .ok (.invokevirtual 84, 3) := dk_182 0 84 (dk_at dksX5_stationOf_1 12 rfl rfl)
theorem dX5_stationOf_39 : decode cX5_stationOf 39 = .ok (.ifCond .eq 5, 3) := dk_153 0 5 (dk_at dksX5_stationOf_1 15 rfl rfl)
theorem dX5_stationOf_42 : decode cX5_stationOf 42 = .ok (.iconst 0, 1) := dk_3 (dk_at dksX5_stationOf_1 18 rfl rfl)
theorem dX5_stationOf_43 : decode cX5_stationOf 43 = .ok (.ireturn, 1) := dk_172 (dk_at dksX5_stationOf_1 19 rfl rfl)
theorem dX5_stationOf_44 : decode cX5_stationOf 44 = .ok (.iload_n 2, 1) := dk_28 (dk_at dksX5_stationOf_1 20 rfl rfl)
theorem dX5_stationOf_45 : decode cX5_stationOf 45 = .ok (.tableswitch 60 0 3 #[31, 42, 48, 54], 31) := by decide +kernel
theorem dX5_stationOf_76 : decode cX5_stationOf 76 = .ok (.aload_n 0, 1) := dk_42 (dk_at dksX5_stationOf_3 0 rfl rfl)
theorem dX5_stationOf_77 : decode cX5_stationOf 77 = .ok (.getfield 9, 3) := dk_180 0 9 (dk_at dksX5_stationOf_3 1 rfl rfl)
theorem dX5_stationOf_80 : decode cX5_stationOf 80 = .ok (.iload_n 1, 1) := dk_27 (dk_at dksX5_stationOf_3 4 rfl rfl)
theorem dX5_stationOf_81 : decode cX5_stationOf 81 = .ok (.iconst 0, 1) := dk_3 (dk_at dksX5_stationOf_3 5 rfl rfl)
theorem dX5_stationOf_82 : decode cX5_stationOf 82 = .ok (.invokestatic 44, 3) := dk_184 0 44 (dk_at dksX5_stationOf_3 6 rfl rfl)
theorem dX5_stationOf_85 : decode cX5_stationOf 85 = .ok (.iaload, 1) := dk_46 (dk_at dksX5_stationOf_3 9 rfl rfl)
theorem dX5_stationOf_86 : decode cX5_stationOf 86 = .ok (.ireturn, 1) := dk_172 (dk_at dksX5_stationOf_3 10 rfl rfl)
theorem dX5_stationOf_87 : decode cX5_stationOf 87 = .ok (.aload_n 0, 1) := dk_42 (dk_at dksX5_stationOf_3 11 rfl rfl)
theorem dX5_stationOf_88 : decode cX5_stationOf 88 = .ok (.iload_n 1, 1) := dk_27 (dk_at dksX5_stationOf_3 12 rfl rfl)
theorem dX5_stationOf_89 : decode cX5_stationOf 89 = .ok (.invokevirtual 95, 3) := dk_182 0 95 (dk_at dksX5_stationOf_3 13 rfl rfl)
theorem dX5_stationOf_92 : decode cX5_stationOf 92 = .ok (.ireturn, 1) := dk_172 (dk_at dksX5_stationOf_3 16 rfl rfl)
theorem dX5_stationOf_93 : decode cX5_stationOf 93 = .ok (.aload_n 0, 1) := dk_42 (dk_at dksX5_stationOf_3 17 rfl rfl)
theorem dX5_stationOf_94 : decode cX5_stationOf 94 = .ok (.iload_n 1, 1) := dk_27 (dk_at dksX5_stationOf_3 18 rfl rfl)
theorem dX5_stationOf_95 : decode cX5_stationOf 95 = .ok (.invokevirtual 129, 3) := dk_182 0 129 (dk_at dksX5_stationOf_3 19 rfl rfl)
theorem dX5_stationOf_98 : decode cX5_stationOf 98 = .ok (.ireturn, 1) := dk_172 (dk_at dksX5_stationOf_3 22 rfl rfl)
theorem dX5_stationOf_99 : decode cX5_stationOf 99 = .ok (.aload_n 0, 1) := dk_42 (dk_at dksX5_stationOf_3 23 rfl rfl)
theorem dX5_stationOf_100 : decode cX5_stationOf 100 = .ok (.iload_n 1, 1) := dk_27 (dk_at dksX5_stationOf_4 0 rfl rfl)
theorem dX5_stationOf_101 : decode cX5_stationOf 101 = .ok (.invokevirtual 132, 3) := dk_182 0 132 (dk_at dksX5_stationOf_4 1 rfl rfl)
theorem dX5_stationOf_104 : decode cX5_stationOf 104 = .ok (.ireturn, 1) := dk_172 (dk_at dksX5_stationOf_4 4 rfl rfl)
theorem dX5_stationOf_105 : decode cX5_stationOf 105 = .ok (.aload_n 0, 1) := dk_42 (dk_at dksX5_stationOf_4 5 rfl rfl)
theorem dX5_stationOf_106 : decode cX5_stationOf 106 = .ok (.getfield 9, 3) := dk_180 0 9 (dk_at dksX5_stationOf_4 6 rfl rfl)
theorem dX5_stationOf_109 : decode cX5_stationOf 109 = .ok (.iload_n 1, 1) := dk_27 (dk_at dksX5_stationOf_4 9 rfl rfl)
theorem dX5_stationOf_110 : decode cX5_stationOf 110 = .ok (.iconst 1, 1) := dk_4 (dk_at dksX5_stationOf_4 10 rfl rfl)
theorem dX5_stationOf_111 : decode cX5_stationOf 111 = .ok (.invokestatic 44, 3) := dk_184 0 44 (dk_at dksX5_stationOf_4 11 rfl rfl)
theorem dX5_stationOf_114 : decode cX5_stationOf 114 = .ok (.iaload, 1) := dk_46 (dk_at dksX5_stationOf_4 14 rfl rfl)
theorem dX5_stationOf_115 : decode cX5_stationOf 115 = .ok (.ireturn, 1) := dk_172 (dk_at dksX5_stationOf_4 15 rfl rfl)
abbrev cX5_comingTo : ByteArray := prog_20_method_21_code
def yX5_comingTo : MethodName := ⟨RX5, "comingTo", "(I)I"⟩
def dkwX5_comingTo_1 : List UInt8 := [184, 0, 92, 46, 27, 160, 0, 7, 4, 167, 0, 4, 3, 96, 61, 132, 3, 1, 167, 255, 219, 28, 172]
abbrev dktX5_comingTo_1 : List UInt8 := dkwX5_comingTo_1 ++ []
def dkwX5_comingTo_0 : List UInt8 := [3, 61, 3, 62, 29, 42, 180, 0, 9, 17, 0, 180, 46, 162, 0, 31, 28, 42, 180, 0, 9, 29, 6]
abbrev dktX5_comingTo_0 : List UInt8 := dkwX5_comingTo_0 ++ dktX5_comingTo_1
theorem dksX5_comingTo_0 : cX5_comingTo.data.toList.drop 0 = dktX5_comingTo_0 := by decide +kernel
theorem dksX5_comingTo_1 : cX5_comingTo.data.toList.drop 23 = dktX5_comingTo_1 := dk_seg dksX5_comingTo_0 23 rfl rfl
theorem dX5_comingTo_0 : decode cX5_comingTo 0 = .ok (.iconst 0, 1) := dk_3 (dk_at dksX5_comingTo_0 0 rfl rfl)
theorem dX5_comingTo_1 : decode cX5_comingTo 1 = .ok (.istore_n 2, 1) := dk_61 (dk_at dksX5_comingTo_0 1 rfl rfl)
theorem dX5_comingTo_2 : decode cX5_comingTo 2 = .ok (.iconst 0, 1) := dk_3 (dk_at dksX5_comingTo_0 2 rfl rfl)
theorem dX5_comingTo_3 : decode cX5_comingTo 3 = .ok (.istore_n 3, 1) := dk_62 (dk_at dksX5_comingTo_0 3 rfl rfl)
theorem dX5_comingTo_4 : decode cX5_comingTo 4 = .ok (.iload_n 3, 1) := dk_29 (dk_at dksX5_comingTo_0 4 rfl rfl)
theorem dX5_comingTo_5 : decode cX5_comingTo 5 = .ok (.aload_n 0, 1) := dk_42 (dk_at dksX5_comingTo_0 5 rfl rfl)
theorem dX5_comingTo_6 : decode cX5_comingTo 6 = .ok (.getfield 9, 3) := dk_180 0 9 (dk_at dksX5_comingTo_0 6 rfl rfl)
theorem dX5_comingTo_9 : decode cX5_comingTo 9 = .ok (.sipush 180, 3) := dk_17 0 180 (dk_at dksX5_comingTo_0 9 rfl rfl)
theorem dX5_comingTo_12 : decode cX5_comingTo 12 = .ok (.iaload, 1) := dk_46 (dk_at dksX5_comingTo_0 12 rfl rfl)
theorem dX5_comingTo_13 : decode cX5_comingTo 13 = .ok (.if_icmp .ge 31, 3) := dk_162 0 31 (dk_at dksX5_comingTo_0 13 rfl rfl)
theorem dX5_comingTo_16 : decode cX5_comingTo 16 = .ok (.iload_n 2, 1) := dk_28 (dk_at dksX5_comingTo_0 16 rfl rfl)
theorem dX5_comingTo_17 : decode cX5_comingTo 17 = .ok (.aload_n 0, 1) := dk_42 (dk_at dksX5_comingTo_0 17 rfl rfl)
theorem dX5_comingTo_18 : decode cX5_comingTo 18 = .ok (.getfield 9, 3) := dk_180 0 9 (dk_at dksX5_comingTo_0 18 rfl rfl)
theorem dX5_comingTo_21 : decode cX5_comingTo 21 = .ok (.iload_n 3, 1) := dk_29 (dk_at dksX5_comingTo_0 21 rfl rfl)
theorem dX5_comingTo_22 : decode cX5_comingTo 22 = .ok (.iconst 3, 1) := dk_6 (dk_at dksX5_comingTo_0 22 rfl rfl)
theorem dX5_comingTo_23 : decode cX5_comingTo 23 = .ok (.invokestatic 92, 3) := dk_184 0 92 (dk_at dksX5_comingTo_1 0 rfl rfl)
theorem dX5_comingTo_26 : decode cX5_comingTo 26 = .ok (.iaload, 1) := dk_46 (dk_at dksX5_comingTo_1 3 rfl rfl)
theorem dX5_comingTo_27 : decode cX5_comingTo 27 = .ok (.iload_n 1, 1) := dk_27 (dk_at dksX5_comingTo_1 4 rfl rfl)
theorem dX5_comingTo_28 : decode cX5_comingTo 28 = .ok (.if_icmp .ne 7, 3) := dk_160 0 7 (dk_at dksX5_comingTo_1 5 rfl rfl)
theorem dX5_comingTo_31 : decode cX5_comingTo 31 = .ok (.iconst 1, 1) := dk_4 (dk_at dksX5_comingTo_1 8 rfl rfl)
theorem dX5_comingTo_32 : decode cX5_comingTo 32 = .ok (.goto 4, 3) := dk_167 0 4 (dk_at dksX5_comingTo_1 9 rfl rfl)
theorem dX5_comingTo_35 : decode cX5_comingTo 35 = .ok (.iconst 0, 1) := dk_3 (dk_at dksX5_comingTo_1 12 rfl rfl)
theorem dX5_comingTo_36 : decode cX5_comingTo 36 = .ok (.iadd, 1) := dk_96 (dk_at dksX5_comingTo_1 13 rfl rfl)
theorem dX5_comingTo_37 : decode cX5_comingTo 37 = .ok (.istore_n 2, 1) := dk_61 (dk_at dksX5_comingTo_1 14 rfl rfl)
theorem dX5_comingTo_38 : decode cX5_comingTo 38 = .ok (.iinc 3 1, 3) := dk_132 3 1 (dk_at dksX5_comingTo_1 15 rfl rfl)
theorem dX5_comingTo_41 : decode cX5_comingTo 41 = .ok (.goto (-37), 3) := dk_167 255 219 (dk_at dksX5_comingTo_1 18 rfl rfl)
theorem dX5_comingTo_44 : decode cX5_comingTo 44 = .ok (.iload_n 2, 1) := dk_28 (dk_at dksX5_comingTo_1 21 rfl rfl)
theorem dX5_comingTo_45 : decode cX5_comingTo 45 = .ok (.ireturn, 1) := dk_172 (dk_at dksX5_comingTo_1 22 rfl rfl)
abbrev cX5_menAt : ByteArray := prog_20_method_31_code
def yX5_menAt : MethodName := ⟨RX5, "menAt", "(I)I"⟩
def dkwX5_menAt_1 : List UInt8 := [184, 0, 99, 46, 27, 160, 0, 7, 4, 167, 0, 4, 3, 96, 61, 132, 3, 1, 167, 255, 219, 28, 172]
abbrev dktX5_menAt_1 : List UInt8 := dkwX5_menAt_1 ++ []
def dkwX5_menAt_0 : List UInt8 := [3, 61, 3, 62, 29, 42, 180, 0, 9, 17, 0, 181, 46, 162, 0, 31, 28, 42, 180, 0, 9, 29, 3]
abbrev dktX5_menAt_0 : List UInt8 := dkwX5_menAt_0 ++ dktX5_menAt_1
theorem dksX5_menAt_0 : cX5_menAt.data.toList.drop 0 = dktX5_menAt_0 := by decide +kernel
theorem dksX5_menAt_1 : cX5_menAt.data.toList.drop 23 = dktX5_menAt_1 := dk_seg dksX5_menAt_0 23 rfl rfl
theorem dX5_menAt_0 : decode cX5_menAt 0 = .ok (.iconst 0, 1) := dk_3 (dk_at dksX5_menAt_0 0 rfl rfl)
theorem dX5_menAt_1 : decode cX5_menAt 1 = .ok (.istore_n 2, 1) := dk_61 (dk_at dksX5_menAt_0 1 rfl rfl)
theorem dX5_menAt_2 : decode cX5_menAt 2 = .ok (.iconst 0, 1) := dk_3 (dk_at dksX5_menAt_0 2 rfl rfl)
theorem dX5_menAt_3 : decode cX5_menAt 3 = .ok (.istore_n 3, 1) := dk_62 (dk_at dksX5_menAt_0 3 rfl rfl)
theorem dX5_menAt_4 : decode cX5_menAt 4 = .ok (.iload_n 3, 1) := dk_29 (dk_at dksX5_menAt_0 4 rfl rfl)
theorem dX5_menAt_5 : decode cX5_menAt 5 = .ok (.aload_n 0, 1) := dk_42 (dk_at dksX5_menAt_0 5 rfl rfl)
theorem dX5_menAt_6 : decode cX5_menAt 6 = .ok (.getfield 9, 3) := dk_180 0 9 (dk_at dksX5_menAt_0 6 rfl rfl)
theorem dX5_menAt_9 : decode cX5_menAt 9 = .ok (.sipush 181, 3) := dk_17 0 181 (dk_at dksX5_menAt_0 9 rfl rfl)
theorem dX5_menAt_12 : decode cX5_menAt 12 = .ok (.iaload, 1) := dk_46 (dk_at dksX5_menAt_0 12 rfl rfl)
theorem dX5_menAt_13 : decode cX5_menAt 13 = .ok (.if_icmp .ge 31, 3) := dk_162 0 31 (dk_at dksX5_menAt_0 13 rfl rfl)
theorem dX5_menAt_16 : decode cX5_menAt 16 = .ok (.iload_n 2, 1) := dk_28 (dk_at dksX5_menAt_0 16 rfl rfl)
theorem dX5_menAt_17 : decode cX5_menAt 17 = .ok (.aload_n 0, 1) := dk_42 (dk_at dksX5_menAt_0 17 rfl rfl)
theorem dX5_menAt_18 : decode cX5_menAt 18 = .ok (.getfield 9, 3) := dk_180 0 9 (dk_at dksX5_menAt_0 18 rfl rfl)
theorem dX5_menAt_21 : decode cX5_menAt 21 = .ok (.iload_n 3, 1) := dk_29 (dk_at dksX5_menAt_0 21 rfl rfl)
theorem dX5_menAt_22 : decode cX5_menAt 22 = .ok (.iconst 0, 1) := dk_3 (dk_at dksX5_menAt_0 22 rfl rfl)
theorem dX5_menAt_23 : decode cX5_menAt 23 = .ok (.invokestatic 99, 3) := dk_184 0 99 (dk_at dksX5_menAt_1 0 rfl rfl)
theorem dX5_menAt_26 : decode cX5_menAt 26 = .ok (.iaload, 1) := dk_46 (dk_at dksX5_menAt_1 3 rfl rfl)
theorem dX5_menAt_27 : decode cX5_menAt 27 = .ok (.iload_n 1, 1) := dk_27 (dk_at dksX5_menAt_1 4 rfl rfl)
theorem dX5_menAt_28 : decode cX5_menAt 28 = .ok (.if_icmp .ne 7, 3) := dk_160 0 7 (dk_at dksX5_menAt_1 5 rfl rfl)
theorem dX5_menAt_31 : decode cX5_menAt 31 = .ok (.iconst 1, 1) := dk_4 (dk_at dksX5_menAt_1 8 rfl rfl)
theorem dX5_menAt_32 : decode cX5_menAt 32 = .ok (.goto 4, 3) := dk_167 0 4 (dk_at dksX5_menAt_1 9 rfl rfl)
theorem dX5_menAt_35 : decode cX5_menAt 35 = .ok (.iconst 0, 1) := dk_3 (dk_at dksX5_menAt_1 12 rfl rfl)
theorem dX5_menAt_36 : decode cX5_menAt 36 = .ok (.iadd, 1) := dk_96 (dk_at dksX5_menAt_1 13 rfl rfl)
theorem dX5_menAt_37 : decode cX5_menAt 37 = .ok (.istore_n 2, 1) := dk_61 (dk_at dksX5_menAt_1 14 rfl rfl)
theorem dX5_menAt_38 : decode cX5_menAt 38 = .ok (.iinc 3 1, 3) := dk_132 3 1 (dk_at dksX5_menAt_1 15 rfl rfl)
theorem dX5_menAt_41 : decode cX5_menAt 41 = .ok (.goto (-37), 3) := dk_167 255 219 (dk_at dksX5_menAt_1 18 rfl rfl)
theorem dX5_menAt_44 : decode cX5_menAt 44 = .ok (.iload_n 2, 1) := dk_28 (dk_at dksX5_menAt_1 21 rfl rfl)
theorem dX5_menAt_45 : decode cX5_menAt 45 = .ok (.ireturn, 1) := dk_172 (dk_at dksX5_menAt_1 22 rfl rfl)
abbrev cX5_ofMan : ByteArray := prog_20_method_15_code
def yX5_ofMan : MethodName := ⟨RX5, "ofMan", "(II)I"⟩
def dkwX5_ofMan_0 : List UInt8 := [17, 0, 174, 5, 26, 104, 96, 27, 96, 172]
abbrev dktX5_ofMan_0 : List UInt8 := dkwX5_ofMan_0 ++ []
theorem dksX5_ofMan_0 : cX5_ofMan.data.toList.drop 0 = dktX5_ofMan_0 := by decide +kernel
theorem dX5_ofMan_0 : decode cX5_ofMan 0 = .ok (.sipush 174, 3) := dk_17 0 174 (dk_at dksX5_ofMan_0 0 rfl rfl)
theorem dX5_ofMan_3 : decode cX5_ofMan 3 = .ok (.iconst 2, 1) := dk_5 (dk_at dksX5_ofMan_0 3 rfl rfl)
theorem dX5_ofMan_4 : decode cX5_ofMan 4 = .ok (.iload_n 0, 1) := dk_26 (dk_at dksX5_ofMan_0 4 rfl rfl)
theorem dX5_ofMan_5 : decode cX5_ofMan 5 = .ok (.imul, 1) := dk_104 (dk_at dksX5_ofMan_0 5 rfl rfl)
theorem dX5_ofMan_6 : decode cX5_ofMan 6 = .ok (.iadd, 1) := dk_96 (dk_at dksX5_ofMan_0 6 rfl rfl)
theorem dX5_ofMan_7 : decode cX5_ofMan 7 = .ok (.iload_n 1, 1) := dk_27 (dk_at dksX5_ofMan_0 7 rfl rfl)
theorem dX5_ofMan_8 : decode cX5_ofMan 8 = .ok (.iadd, 1) := dk_96 (dk_at dksX5_ofMan_0 8 rfl rfl)
theorem dX5_ofMan_9 : decode cX5_ofMan 9 = .ok (.ireturn, 1) := dk_172 (dk_at dksX5_ofMan_0 9 rfl rfl)
abbrev cX5_stretchOf : ByteArray := prog_20_method_33_code
def yX5_stretchOf : MethodName := ⟨RX5, "stretchOf", "(II)I"⟩
def dkwX5_stretchOf_3 : List UInt8 := [182, 0, 120, 167, 0, 8, 42, 27, 182, 0, 135, 172]
abbrev dktX5_stretchOf_3 : List UInt8 := dkwX5_stretchOf_3 ++ []
def dkwX5_stretchOf_2 : List UInt8 := [162, 0, 16, 42, 180, 0, 9, 27, 28, 184, 0, 117, 46, 167, 0, 22, 28, 16, 6, 160, 0, 11, 42, 27]
abbrev dktX5_stretchOf_2 : List UInt8 := dkwX5_stretchOf_2 ++ dktX5_stretchOf_3
def dkwX5_stretchOf_1 : List UInt8 := [16, 7, 184, 0, 88, 154, 0, 7, 4, 167, 0, 4, 3, 182, 0, 84, 153, 0, 5, 3, 172, 28, 16, 6]
abbrev dktX5_stretchOf_1 : List UInt8 := dkwX5_stretchOf_1 ++ dktX5_stretchOf_2
def dkwX5_stretchOf_0 : List UInt8 := [42, 4, 27, 184, 0, 123, 154, 0, 7, 4, 167, 0, 4, 3, 182, 0, 84, 154, 0, 26, 42, 5, 28, 3]
abbrev dktX5_stretchOf_0 : List UInt8 := dkwX5_stretchOf_0 ++ dktX5_stretchOf_1
theorem dksX5_stretchOf_0 : cX5_stretchOf.data.toList.drop 0 = dktX5_stretchOf_0 := by decide +kernel
theorem dksX5_stretchOf_1 : cX5_stretchOf.data.toList.drop 24 = dktX5_stretchOf_1 := dk_seg dksX5_stretchOf_0 24 rfl rfl
theorem dksX5_stretchOf_2 : cX5_stretchOf.data.toList.drop 48 = dktX5_stretchOf_2 := dk_seg dksX5_stretchOf_1 24 rfl rfl
theorem dksX5_stretchOf_3 : cX5_stretchOf.data.toList.drop 72 = dktX5_stretchOf_3 := dk_seg dksX5_stretchOf_2 24 rfl rfl
theorem dX5_stretchOf_0 : decode cX5_stretchOf 0 = .ok (.aload_n 0, 1) := dk_42 (dk_at dksX5_stretchOf_0 0 rfl rfl)
theorem dX5_stretchOf_1 : decode cX5_stretchOf 1 = .ok (.iconst 1, 1) := dk_4 (dk_at dksX5_stretchOf_0 1 rfl rfl)
theorem dX5_stretchOf_2 : decode cX5_stretchOf 2 = .ok (.iload_n 1, 1) := dk_27 (dk_at dksX5_stretchOf_0 2 rfl rfl)
theorem dX5_stretchOf_3 : decode cX5_stretchOf 3 = .ok (.invokestatic 123, 3) := dk_184 0 123 (dk_at dksX5_stretchOf_0 3 rfl rfl)
theorem dX5_stretchOf_6 : decode cX5_stretchOf 6 = .ok (.ifCond .ne 7, 3) := dk_154 0 7 (dk_at dksX5_stretchOf_0 6 rfl rfl)
theorem dX5_stretchOf_9 : decode cX5_stretchOf 9 = .ok (.iconst 1, 1) := dk_4 (dk_at dksX5_stretchOf_0 9 rfl rfl)
theorem dX5_stretchOf_10 : decode cX5_stretchOf 10 = .ok (.goto 4, 3) := dk_167 0 4 (dk_at dksX5_stretchOf_0 10 rfl rfl)
theorem dX5_stretchOf_13 : decode cX5_stretchOf 13 = .ok (.iconst 0, 1) := dk_3 (dk_at dksX5_stretchOf_0 13 rfl rfl)
theorem dX5_stretchOf_14 : decode cX5_stretchOf 14 = .ok (.invokevirtual 84, 3) := dk_182 0 84 (dk_at dksX5_stretchOf_0 14 rfl rfl)
theorem dX5_stretchOf_17 : decode cX5_stretchOf 17 = .ok (.ifCond .ne 26, 3) := dk_154 0 26 (dk_at dksX5_stretchOf_0 17 rfl rfl)
theorem dX5_stretchOf_20 : decode cX5_stretchOf 20 = .ok (.aload_n 0, 1) := dk_42 (dk_at dksX5_stretchOf_0 20 rfl rfl)
theorem dX5_stretchOf_21 : decode cX5_stretchOf 21 = .ok (.iconst 2, 1) := dk_5 (dk_at dksX5_stretchOf_0 21 rfl rfl)
theorem dX5_stretchOf_22 : decode cX5_stretchOf 22 = .ok (.iload_n 2, 1) := dk_28 (dk_at dksX5_stretchOf_0 22 rfl rfl)
theorem dX5_stretchOf_23 : decode cX5_stretchOf 23 = .ok (.iconst 0, 1) := dk_3 (dk_at dksX5_stretchOf_0 23 rfl rfl)
theorem dX5_stretchOf_24 : decode cX5_stretchOf 24 = .ok (.bipush 7, 2) := dk_16 7 (dk_at dksX5_stretchOf_1 0 rfl rfl)
theorem dX5_stretchOf_26 : decode cX5_stretchOf 26 = .ok (.invokestatic 88, 3) := dk_184 0 88 (dk_at dksX5_stretchOf_1 2 rfl rfl)
theorem dX5_stretchOf_29 : decode cX5_stretchOf 29 = .ok (.ifCond .ne 7, 3) := dk_154 0 7 (dk_at dksX5_stretchOf_1 5 rfl rfl)
theorem dX5_stretchOf_32 : decode cX5_stretchOf 32 = .ok (.iconst 1, 1) := dk_4 (dk_at dksX5_stretchOf_1 8 rfl rfl)
theorem dX5_stretchOf_33 : decode cX5_stretchOf 33 = .ok (.goto 4, 3) := dk_167 0 4 (dk_at dksX5_stretchOf_1 9 rfl rfl)
theorem dX5_stretchOf_36 : decode cX5_stretchOf 36 = .ok (.iconst 0, 1) := dk_3 (dk_at dksX5_stretchOf_1 12 rfl rfl)
theorem dX5_stretchOf_37 : decode cX5_stretchOf 37 = .ok (.invokevirtual 84, 3) := dk_182 0 84 (dk_at dksX5_stretchOf_1 13 rfl rfl)
theorem dX5_stretchOf_40 : decode cX5_stretchOf 40 = .ok (.ifCond .eq 5, 3) := dk_153 0 5 (dk_at dksX5_stretchOf_1 16 rfl rfl)
theorem dX5_stretchOf_43 : decode cX5_stretchOf 43 = .ok (.iconst 0, 1) := dk_3 (dk_at dksX5_stretchOf_1 19 rfl rfl)
theorem dX5_stretchOf_44 : decode cX5_stretchOf 44 = .ok (.ireturn, 1) := dk_172 (dk_at dksX5_stretchOf_1 20 rfl rfl)
theorem dX5_stretchOf_45 : decode cX5_stretchOf 45 = .ok (.iload_n 2, 1) := dk_28 (dk_at dksX5_stretchOf_1 21 rfl rfl)
theorem dX5_stretchOf_46 : decode cX5_stretchOf 46 = .ok (.bipush 6, 2) := dk_16 6 (dk_at dksX5_stretchOf_1 22 rfl rfl)
theorem dX5_stretchOf_48 : decode cX5_stretchOf 48 = .ok (.if_icmp .ge 16, 3) := dk_162 0 16 (dk_at dksX5_stretchOf_2 0 rfl rfl)
theorem dX5_stretchOf_51 : decode cX5_stretchOf 51 = .ok (.aload_n 0, 1) := dk_42 (dk_at dksX5_stretchOf_2 3 rfl rfl)
theorem dX5_stretchOf_52 : decode cX5_stretchOf 52 = .ok (.getfield 9, 3) := dk_180 0 9 (dk_at dksX5_stretchOf_2 4 rfl rfl)
theorem dX5_stretchOf_55 : decode cX5_stretchOf 55 = .ok (.iload_n 1, 1) := dk_27 (dk_at dksX5_stretchOf_2 7 rfl rfl)
theorem dX5_stretchOf_56 : decode cX5_stretchOf 56 = .ok (.iload_n 2, 1) := dk_28 (dk_at dksX5_stretchOf_2 8 rfl rfl)
theorem dX5_stretchOf_57 : decode cX5_stretchOf 57 = .ok (.invokestatic 117, 3) := dk_184 0 117 (dk_at dksX5_stretchOf_2 9 rfl rfl)
theorem dX5_stretchOf_60 : decode cX5_stretchOf 60 = .ok (.iaload, 1) := dk_46 (dk_at dksX5_stretchOf_2 12 rfl rfl)
theorem dX5_stretchOf_61 : decode cX5_stretchOf 61 = .ok (.goto 22, 3) := dk_167 0 22 (dk_at dksX5_stretchOf_2 13 rfl rfl)
theorem dX5_stretchOf_64 : decode cX5_stretchOf 64 = .ok (.iload_n 2, 1) := dk_28 (dk_at dksX5_stretchOf_2 16 rfl rfl)
theorem dX5_stretchOf_65 : decode cX5_stretchOf 65 = .ok (.bipush 6, 2) := dk_16 6 (dk_at dksX5_stretchOf_2 17 rfl rfl)
theorem dX5_stretchOf_67 : decode cX5_stretchOf 67 = .ok (.if_icmp .ne 11, 3) := dk_160 0 11 (dk_at dksX5_stretchOf_2 19 rfl rfl)
theorem dX5_stretchOf_70 : decode cX5_stretchOf 70 = .ok (.aload_n 0, 1) := dk_42 (dk_at dksX5_stretchOf_2 22 rfl rfl)
theorem dX5_stretchOf_71 : decode cX5_stretchOf 71 = .ok (.iload_n 1, 1) := dk_27 (dk_at dksX5_stretchOf_2 23 rfl rfl)
theorem dX5_stretchOf_72 : decode cX5_stretchOf 72 = .ok (.invokevirtual 120, 3) := dk_182 0 120 (dk_at dksX5_stretchOf_3 0 rfl rfl)
theorem dX5_stretchOf_75 : decode cX5_stretchOf 75 = .ok (.goto 8, 3) := dk_167 0 8 (dk_at dksX5_stretchOf_3 3 rfl rfl)
theorem dX5_stretchOf_78 : decode cX5_stretchOf 78 = .ok (.aload_n 0, 1) := dk_42 (dk_at dksX5_stretchOf_3 6 rfl rfl)
theorem dX5_stretchOf_79 : decode cX5_stretchOf 79 = .ok (.iload_n 1, 1) := dk_27 (dk_at dksX5_stretchOf_3 7 rfl rfl)
theorem dX5_stretchOf_80 : decode cX5_stretchOf 80 = .ok (.invokevirtual 135, 3) := dk_182 0 135 (dk_at dksX5_stretchOf_3 8 rfl rfl)
theorem dX5_stretchOf_83 : decode cX5_stretchOf 83 = .ok (.ireturn, 1) := dk_172 (dk_at dksX5_stretchOf_3 11 rfl rfl)
abbrev cX5_manFor : ByteArray := prog_20_method_24_code
def yX5_manFor : MethodName := ⟨RX5, "manFor", "(I)I"⟩
def dkwX5_manFor_1 : List UInt8 := [27, 160, 0, 5, 28, 172, 132, 2, 1, 167, 255, 225, 2, 172]
abbrev dktX5_manFor_1 : List UInt8 := dkwX5_manFor_1 ++ []
def dkwX5_manFor_0 : List UInt8 := [3, 61, 28, 42, 180, 0, 9, 17, 0, 181, 46, 162, 0, 25, 42, 180, 0, 9, 28, 4, 184, 0, 99, 46]
abbrev dktX5_manFor_0 : List UInt8 := dkwX5_manFor_0 ++ dktX5_manFor_1
theorem dksX5_manFor_0 : cX5_manFor.data.toList.drop 0 = dktX5_manFor_0 := by decide +kernel
theorem dksX5_manFor_1 : cX5_manFor.data.toList.drop 24 = dktX5_manFor_1 := dk_seg dksX5_manFor_0 24 rfl rfl
theorem dX5_manFor_0 : decode cX5_manFor 0 = .ok (.iconst 0, 1) := dk_3 (dk_at dksX5_manFor_0 0 rfl rfl)
theorem dX5_manFor_1 : decode cX5_manFor 1 = .ok (.istore_n 2, 1) := dk_61 (dk_at dksX5_manFor_0 1 rfl rfl)
theorem dX5_manFor_2 : decode cX5_manFor 2 = .ok (.iload_n 2, 1) := dk_28 (dk_at dksX5_manFor_0 2 rfl rfl)
theorem dX5_manFor_3 : decode cX5_manFor 3 = .ok (.aload_n 0, 1) := dk_42 (dk_at dksX5_manFor_0 3 rfl rfl)
theorem dX5_manFor_4 : decode cX5_manFor 4 = .ok (.getfield 9, 3) := dk_180 0 9 (dk_at dksX5_manFor_0 4 rfl rfl)
theorem dX5_manFor_7 : decode cX5_manFor 7 = .ok (.sipush 181, 3) := dk_17 0 181 (dk_at dksX5_manFor_0 7 rfl rfl)
theorem dX5_manFor_10 : decode cX5_manFor 10 = .ok (.iaload, 1) := dk_46 (dk_at dksX5_manFor_0 10 rfl rfl)
theorem dX5_manFor_11 : decode cX5_manFor 11 = .ok (.if_icmp .ge 25, 3) := dk_162 0 25 (dk_at dksX5_manFor_0 11 rfl rfl)
theorem dX5_manFor_14 : decode cX5_manFor 14 = .ok (.aload_n 0, 1) := dk_42 (dk_at dksX5_manFor_0 14 rfl rfl)
theorem dX5_manFor_15 : decode cX5_manFor 15 = .ok (.getfield 9, 3) := dk_180 0 9 (dk_at dksX5_manFor_0 15 rfl rfl)
theorem dX5_manFor_18 : decode cX5_manFor 18 = .ok (.iload_n 2, 1) := dk_28 (dk_at dksX5_manFor_0 18 rfl rfl)
theorem dX5_manFor_19 : decode cX5_manFor 19 = .ok (.iconst 1, 1) := dk_4 (dk_at dksX5_manFor_0 19 rfl rfl)
theorem dX5_manFor_20 : decode cX5_manFor 20 = .ok (.invokestatic 99, 3) := dk_184 0 99 (dk_at dksX5_manFor_0 20 rfl rfl)
theorem dX5_manFor_23 : decode cX5_manFor 23 = .ok (.iaload, 1) := dk_46 (dk_at dksX5_manFor_0 23 rfl rfl)
theorem dX5_manFor_24 : decode cX5_manFor 24 = .ok (.iload_n 1, 1) := dk_27 (dk_at dksX5_manFor_1 0 rfl rfl)
theorem dX5_manFor_25 : decode cX5_manFor 25 = .ok (.if_icmp .ne 5, 3) := dk_160 0 5 (dk_at dksX5_manFor_1 1 rfl rfl)
theorem dX5_manFor_28 : decode cX5_manFor 28 = .ok (.iload_n 2, 1) := dk_28 (dk_at dksX5_manFor_1 4 rfl rfl)
theorem dX5_manFor_29 : decode cX5_manFor 29 = .ok (.ireturn, 1) := dk_172 (dk_at dksX5_manFor_1 5 rfl rfl)
theorem dX5_manFor_30 : decode cX5_manFor 30 = .ok (.iinc 2 1, 3) := dk_132 2 1 (dk_at dksX5_manFor_1 6 rfl rfl)
theorem dX5_manFor_33 : decode cX5_manFor 33 = .ok (.goto (-31), 3) := dk_167 255 225 (dk_at dksX5_manFor_1 9 rfl rfl)
theorem dX5_manFor_36 : decode cX5_manFor 36 = .ok (.iconst (-1), 1) := dk_2 (dk_at dksX5_manFor_1 12 rfl rfl)
theorem dX5_manFor_37 : decode cX5_manFor 37 = .ok (.ireturn, 1) := dk_172 (dk_at dksX5_manFor_1 13 rfl rfl)
abbrev cX5_train : ByteArray := prog_20_method_37_code
def yX5_train : MethodName := ⟨RX5, "train", "(II)I"⟩
def dkwX5_train_3 : List UInt8 := [182, 0, 147, 42, 180, 0, 9, 17, 0, 180, 46, 4, 100, 172]
abbrev dktX5_train_3 : List UInt8 := dkwX5_train_3 ++ []
def dkwX5_train_2 : List UInt8 := [182, 0, 144, 182, 0, 114, 153, 0, 5, 3, 172, 42, 42, 180, 0, 9, 182, 0, 66, 42, 27, 28]
abbrev dktX5_train_2 : List UInt8 := dkwX5_train_2 ++ dktX5_train_3
def dkwX5_train_1 : List UInt8 := [16, 30, 184, 0, 88, 154, 0, 7, 4, 167, 0, 4, 3, 182, 0, 84, 154, 0, 16, 42, 6, 42, 27]
abbrev dktX5_train_1 : List UInt8 := dkwX5_train_1 ++ dktX5_train_2
def dkwX5_train_0 : List UInt8 := [42, 4, 27, 184, 0, 106, 154, 0, 7, 4, 167, 0, 4, 3, 182, 0, 84, 154, 0, 39, 42, 5, 28, 4]
abbrev dktX5_train_0 : List UInt8 := dkwX5_train_0 ++ dktX5_train_1
theorem dksX5_train_0 : cX5_train.data.toList.drop 0 = dktX5_train_0 := by decide +kernel
theorem dksX5_train_1 : cX5_train.data.toList.drop 24 = dktX5_train_1 := dk_seg dksX5_train_0 24 rfl rfl
theorem dksX5_train_2 : cX5_train.data.toList.drop 47 = dktX5_train_2 := dk_seg dksX5_train_1 23 rfl rfl
theorem dksX5_train_3 : cX5_train.data.toList.drop 69 = dktX5_train_3 := dk_seg dksX5_train_2 22 rfl rfl
theorem dX5_train_0 : decode cX5_train 0 = .ok (.aload_n 0, 1) := dk_42 (dk_at dksX5_train_0 0 rfl rfl)
theorem dX5_train_1 : decode cX5_train 1 = .ok (.iconst 1, 1) := dk_4 (dk_at dksX5_train_0 1 rfl rfl)
theorem dX5_train_2 : decode cX5_train 2 = .ok (.iload_n 1, 1) := dk_27 (dk_at dksX5_train_0 2 rfl rfl)
theorem dX5_train_3 : decode cX5_train 3 = .ok (.invokestatic 106, 3) := dk_184 0 106 (dk_at dksX5_train_0 3 rfl rfl)
theorem dX5_train_6 : decode cX5_train 6 = .ok (.ifCond .ne 7, 3) := dk_154 0 7 (dk_at dksX5_train_0 6 rfl rfl)
theorem dX5_train_9 : decode cX5_train 9 = .ok (.iconst 1, 1) := dk_4 (dk_at dksX5_train_0 9 rfl rfl)
theorem dX5_train_10 : decode cX5_train 10 = .ok (.goto 4, 3) := dk_167 0 4 (dk_at dksX5_train_0 10 rfl rfl)
theorem dX5_train_13 : decode cX5_train 13 = .ok (.iconst 0, 1) := dk_3 (dk_at dksX5_train_0 13 rfl rfl)
theorem dX5_train_14 : decode cX5_train 14 = .ok (.invokevirtual 84, 3) := dk_182 0 84 (dk_at dksX5_train_0 14 rfl rfl)
theorem dX5_train_17 : decode cX5_train 17 = .ok (.ifCond .ne 39, 3) := dk_154 0 39 (dk_at dksX5_train_0 17 rfl rfl)
theorem dX5_train_20 : decode cX5_train 20 = .ok (.aload_n 0, 1) := dk_42 (dk_at dksX5_train_0 20 rfl rfl)
theorem dX5_train_21 : decode cX5_train 21 = .ok (.iconst 2, 1) := dk_5 (dk_at dksX5_train_0 21 rfl rfl)
theorem dX5_train_22 : decode cX5_train 22 = .ok (.iload_n 2, 1) := dk_28 (dk_at dksX5_train_0 22 rfl rfl)
theorem dX5_train_23 : decode cX5_train 23 = .ok (.iconst 1, 1) := dk_4 (dk_at dksX5_train_0 23 rfl rfl)
theorem dX5_train_24 : decode cX5_train 24 = .ok (.bipush 30, 2) := dk_16 30 (dk_at dksX5_train_1 0 rfl rfl)
theorem dX5_train_26 : decode cX5_train 26 = .ok (.invokestatic 88, 3) := dk_184 0 88 (dk_at dksX5_train_1 2 rfl rfl)
theorem dX5_train_29 : decode cX5_train 29 = .ok (.ifCond .ne 7, 3) := dk_154 0 7 (dk_at dksX5_train_1 5 rfl rfl)
theorem dX5_train_32 : decode cX5_train 32 = .ok (.iconst 1, 1) := dk_4 (dk_at dksX5_train_1 8 rfl rfl)
theorem dX5_train_33 : decode cX5_train 33 = .ok (.goto 4, 3) := dk_167 0 4 (dk_at dksX5_train_1 9 rfl rfl)
theorem dX5_train_36 : decode cX5_train 36 = .ok (.iconst 0, 1) := dk_3 (dk_at dksX5_train_1 12 rfl rfl)
theorem dX5_train_37 : decode cX5_train 37 = .ok (.invokevirtual 84, 3) := dk_182 0 84 (dk_at dksX5_train_1 13 rfl rfl)
theorem dX5_train_40 : decode cX5_train 40 = .ok (.ifCond .ne 16, 3) := dk_154 0 16 (dk_at dksX5_train_1 16 rfl rfl)
theorem dX5_train_43 : decode cX5_train 43 = .ok (.aload_n 0, 1) := dk_42 (dk_at dksX5_train_1 19 rfl rfl)
theorem dX5_train_44 : decode cX5_train 44 = .ok (.iconst 3, 1) := dk_6 (dk_at dksX5_train_1 20 rfl rfl)
theorem dX5_train_45 : decode cX5_train 45 = .ok (.aload_n 0, 1) := dk_42 (dk_at dksX5_train_1 21 rfl rfl)
theorem dX5_train_46 : decode cX5_train 46 = .ok (.iload_n 1, 1) := dk_27 (dk_at dksX5_train_1 22 rfl rfl)
theorem dX5_train_47 : decode cX5_train 47 = .ok (.invokevirtual 144, 3) := dk_182 0 144 (dk_at dksX5_train_2 0 rfl rfl)
theorem dX5_train_50 : decode cX5_train 50 = .ok (.invokevirtual 114, 3) := dk_182 0 114 (dk_at dksX5_train_2 3 rfl rfl)
theorem dX5_train_53 : decode cX5_train 53 = .ok (.ifCond .eq 5, 3) := dk_153 0 5 (dk_at dksX5_train_2 6 rfl rfl)
theorem dX5_train_56 : decode cX5_train 56 = .ok (.iconst 0, 1) := dk_3 (dk_at dksX5_train_2 9 rfl rfl)
theorem dX5_train_57 : decode cX5_train 57 = .ok (.ireturn, 1) := dk_172 (dk_at dksX5_train_2 10 rfl rfl)
theorem dX5_train_58 : decode cX5_train 58 = .ok (.aload_n 0, 1) := dk_42 (dk_at dksX5_train_2 11 rfl rfl)
theorem dX5_train_59 : decode cX5_train 59 = .ok (.aload_n 0, 1) := dk_42 (dk_at dksX5_train_2 12 rfl rfl)
theorem dX5_train_60 : decode cX5_train 60 = .ok (.getfield 9, 3) := dk_180 0 9 (dk_at dksX5_train_2 13 rfl rfl)
theorem dX5_train_63 : decode cX5_train 63 = .ok (.invokevirtual 66, 3) := dk_182 0 66 (dk_at dksX5_train_2 16 rfl rfl)
theorem dX5_train_66 : decode cX5_train 66 = .ok (.aload_n 0, 1) := dk_42 (dk_at dksX5_train_2 19 rfl rfl)
theorem dX5_train_67 : decode cX5_train 67 = .ok (.iload_n 1, 1) := dk_27 (dk_at dksX5_train_2 20 rfl rfl)
theorem dX5_train_68 : decode cX5_train 68 = .ok (.iload_n 2, 1) := dk_28 (dk_at dksX5_train_2 21 rfl rfl)
theorem dX5_train_69 : decode cX5_train 69 = .ok (.invokevirtual 147, 3) := dk_182 0 147 (dk_at dksX5_train_3 0 rfl rfl)
theorem dX5_train_72 : decode cX5_train 72 = .ok (.aload_n 0, 1) := dk_42 (dk_at dksX5_train_3 3 rfl rfl)
theorem dX5_train_73 : decode cX5_train 73 = .ok (.getfield 9, 3) := dk_180 0 9 (dk_at dksX5_train_3 4 rfl rfl)
theorem dX5_train_76 : decode cX5_train 76 = .ok (.sipush 180, 3) := dk_17 0 180 (dk_at dksX5_train_3 7 rfl rfl)
theorem dX5_train_79 : decode cX5_train 79 = .ok (.iaload, 1) := dk_46 (dk_at dksX5_train_3 10 rfl rfl)
theorem dX5_train_80 : decode cX5_train 80 = .ok (.iconst 1, 1) := dk_4 (dk_at dksX5_train_3 11 rfl rfl)
theorem dX5_train_81 : decode cX5_train 81 = .ok (.isub, 1) := dk_100 (dk_at dksX5_train_3 12 rfl rfl)
theorem dX5_train_82 : decode cX5_train 82 = .ok (.ireturn, 1) := dk_172 (dk_at dksX5_train_3 13 rfl rfl)
abbrev cX5_isCrowded : ByteArray := prog_20_method_36_code
def yX5_isCrowded : MethodName := ⟨RX5, "isCrowded", "(I)Z"⟩
def dkwX5_isCrowded_2 : List UInt8 := [182, 0, 110, 153, 0, 7, 4, 167, 0, 4, 3, 172]
abbrev dktX5_isCrowded_2 : List UInt8 := dkwX5_isCrowded_2 ++ []
def dkwX5_isCrowded_1 : List UInt8 := [182, 0, 110, 154, 0, 26, 42, 42, 27, 182, 0, 141, 154, 0, 7, 4, 167, 0, 4, 3, 16, 8, 27]
abbrev dktX5_isCrowded_1 : List UInt8 := dkwX5_isCrowded_1 ++ dktX5_isCrowded_2
def dkwX5_isCrowded_0 : List UInt8 := [42, 42, 180, 0, 9, 17, 0, 180, 46, 16, 6, 160, 0, 7, 4, 167, 0, 4, 3, 5, 16, 6]
abbrev dktX5_isCrowded_0 : List UInt8 := dkwX5_isCrowded_0 ++ dktX5_isCrowded_1
theorem dksX5_isCrowded_0 : cX5_isCrowded.data.toList.drop 0 = dktX5_isCrowded_0 := by decide +kernel
theorem dksX5_isCrowded_1 : cX5_isCrowded.data.toList.drop 22 = dktX5_isCrowded_1 := dk_seg dksX5_isCrowded_0 22 rfl rfl
theorem dksX5_isCrowded_2 : cX5_isCrowded.data.toList.drop 45 = dktX5_isCrowded_2 := dk_seg dksX5_isCrowded_1 23 rfl rfl
theorem dX5_isCrowded_0 : decode cX5_isCrowded 0 = .ok (.aload_n 0, 1) := dk_42 (dk_at dksX5_isCrowded_0 0 rfl rfl)
theorem dX5_isCrowded_1 : decode cX5_isCrowded 1 = .ok (.aload_n 0, 1) := dk_42 (dk_at dksX5_isCrowded_0 1 rfl rfl)
theorem dX5_isCrowded_2 : decode cX5_isCrowded 2 = .ok (.getfield 9, 3) := dk_180 0 9 (dk_at dksX5_isCrowded_0 2 rfl rfl)
theorem dX5_isCrowded_5 : decode cX5_isCrowded 5 = .ok (.sipush 180, 3) := dk_17 0 180 (dk_at dksX5_isCrowded_0 5 rfl rfl)
theorem dX5_isCrowded_8 : decode cX5_isCrowded 8 = .ok (.iaload, 1) := dk_46 (dk_at dksX5_isCrowded_0 8 rfl rfl)
theorem dX5_isCrowded_9 : decode cX5_isCrowded 9 = .ok (.bipush 6, 2) := dk_16 6 (dk_at dksX5_isCrowded_0 9 rfl rfl)
theorem dX5_isCrowded_11 : decode cX5_isCrowded 11 = .ok (.if_icmp .ne 7, 3) := dk_160 0 7 (dk_at dksX5_isCrowded_0 11 rfl rfl)
theorem dX5_isCrowded_14 : decode cX5_isCrowded 14 = .ok (.iconst 1, 1) := dk_4 (dk_at dksX5_isCrowded_0 14 rfl rfl)
theorem dX5_isCrowded_15 : decode cX5_isCrowded 15 = .ok (.goto 4, 3) := dk_167 0 4 (dk_at dksX5_isCrowded_0 15 rfl rfl)
theorem dX5_isCrowded_18 : decode cX5_isCrowded 18 = .ok (.iconst 0, 1) := dk_3 (dk_at dksX5_isCrowded_0 18 rfl rfl)
theorem dX5_isCrowded_19 : decode cX5_isCrowded 19 = .ok (.iconst 2, 1) := dk_5 (dk_at dksX5_isCrowded_0 19 rfl rfl)
theorem dX5_isCrowded_20 : decode cX5_isCrowded 20 = .ok (.bipush 6, 2) := dk_16 6 (dk_at dksX5_isCrowded_0 20 rfl rfl)
theorem dX5_isCrowded_22 : decode cX5_isCrowded 22 = .ok (.invokevirtual 110, 3) := dk_182 0 110 (dk_at dksX5_isCrowded_1 0 rfl rfl)
theorem dX5_isCrowded_25 : decode cX5_isCrowded 25 = .ok (.ifCond .ne 26, 3) := dk_154 0 26 (dk_at dksX5_isCrowded_1 3 rfl rfl)
theorem dX5_isCrowded_28 : decode cX5_isCrowded 28 = .ok (.aload_n 0, 1) := dk_42 (dk_at dksX5_isCrowded_1 6 rfl rfl)
theorem dX5_isCrowded_29 : decode cX5_isCrowded 29 = .ok (.aload_n 0, 1) := dk_42 (dk_at dksX5_isCrowded_1 7 rfl rfl)
theorem dX5_isCrowded_30 : decode cX5_isCrowded 30 = .ok (.iload_n 1, 1) := dk_27 (dk_at dksX5_isCrowded_1 8 rfl rfl)
theorem dX5_isCrowded_31 : decode cX5_isCrowded 31 = .ok (.invokevirtual 141, 3) := dk_182 0 141 (dk_at dksX5_isCrowded_1 9 rfl rfl)
theorem dX5_isCrowded_34 : decode cX5_isCrowded 34 = .ok (.ifCond .ne 7, 3) := dk_154 0 7 (dk_at dksX5_isCrowded_1 12 rfl rfl)
theorem dX5_isCrowded_37 : decode cX5_isCrowded 37 = .ok (.iconst 1, 1) := dk_4 (dk_at dksX5_isCrowded_1 15 rfl rfl)
theorem dX5_isCrowded_38 : decode cX5_isCrowded 38 = .ok (.goto 4, 3) := dk_167 0 4 (dk_at dksX5_isCrowded_1 16 rfl rfl)
theorem dX5_isCrowded_41 : decode cX5_isCrowded 41 = .ok (.iconst 0, 1) := dk_3 (dk_at dksX5_isCrowded_1 19 rfl rfl)
theorem dX5_isCrowded_42 : decode cX5_isCrowded 42 = .ok (.bipush 8, 2) := dk_16 8 (dk_at dksX5_isCrowded_1 20 rfl rfl)
theorem dX5_isCrowded_44 : decode cX5_isCrowded 44 = .ok (.iload_n 1, 1) := dk_27 (dk_at dksX5_isCrowded_1 22 rfl rfl)
theorem dX5_isCrowded_45 : decode cX5_isCrowded 45 = .ok (.invokevirtual 110, 3) := dk_182 0 110 (dk_at dksX5_isCrowded_2 0 rfl rfl)
theorem dX5_isCrowded_48 : decode cX5_isCrowded 48 = .ok (.ifCond .eq 7, 3) := dk_153 0 7 (dk_at dksX5_isCrowded_2 3 rfl rfl)
theorem dX5_isCrowded_51 : decode cX5_isCrowded 51 = .ok (.iconst 1, 1) := dk_4 (dk_at dksX5_isCrowded_2 6 rfl rfl)
theorem dX5_isCrowded_52 : decode cX5_isCrowded 52 = .ok (.goto 4, 3) := dk_167 0 4 (dk_at dksX5_isCrowded_2 7 rfl rfl)
theorem dX5_isCrowded_55 : decode cX5_isCrowded 55 = .ok (.iconst 0, 1) := dk_3 (dk_at dksX5_isCrowded_2 10 rfl rfl)
theorem dX5_isCrowded_56 : decode cX5_isCrowded 56 = .ok (.ireturn, 1) := dk_172 (dk_at dksX5_isCrowded_2 11 rfl rfl)
abbrev cX5_hasTrack : ByteArray := prog_20_method_22_code
def yX5_hasTrack : MethodName := ⟨RX5, "hasTrack", "(I)Z"⟩
def dkwX5_hasTrack_0 : List UInt8 := [42, 27, 182, 0, 95, 42, 180, 0, 9, 27, 3, 184, 0, 44, 46, 162, 0, 7, 4, 167, 0, 4, 3, 172]
abbrev dktX5_hasTrack_0 : List UInt8 := dkwX5_hasTrack_0 ++ []
theorem dksX5_hasTrack_0 : cX5_hasTrack.data.toList.drop 0 = dktX5_hasTrack_0 := by decide +kernel
theorem dX5_hasTrack_0 : decode cX5_hasTrack 0 = .ok (.aload_n 0, 1) := dk_42 (dk_at dksX5_hasTrack_0 0 rfl rfl)
theorem dX5_hasTrack_1 : decode cX5_hasTrack 1 = .ok (.iload_n 1, 1) := dk_27 (dk_at dksX5_hasTrack_0 1 rfl rfl)
theorem dX5_hasTrack_2 : decode cX5_hasTrack 2 = .ok (.invokevirtual 95, 3) := dk_182 0 95 (dk_at dksX5_hasTrack_0 2 rfl rfl)
theorem dX5_hasTrack_5 : decode cX5_hasTrack 5 = .ok (.aload_n 0, 1) := dk_42 (dk_at dksX5_hasTrack_0 5 rfl rfl)
theorem dX5_hasTrack_6 : decode cX5_hasTrack 6 = .ok (.getfield 9, 3) := dk_180 0 9 (dk_at dksX5_hasTrack_0 6 rfl rfl)
theorem dX5_hasTrack_9 : decode cX5_hasTrack 9 = .ok (.iload_n 1, 1) := dk_27 (dk_at dksX5_hasTrack_0 9 rfl rfl)
theorem dX5_hasTrack_10 : decode cX5_hasTrack 10 = .ok (.iconst 0, 1) := dk_3 (dk_at dksX5_hasTrack_0 10 rfl rfl)
theorem dX5_hasTrack_11 : decode cX5_hasTrack 11 = .ok (.invokestatic 44, 3) := dk_184 0 44 (dk_at dksX5_hasTrack_0 11 rfl rfl)
theorem dX5_hasTrack_14 : decode cX5_hasTrack 14 = .ok (.iaload, 1) := dk_46 (dk_at dksX5_hasTrack_0 14 rfl rfl)
theorem dX5_hasTrack_15 : decode cX5_hasTrack 15 = .ok (.if_icmp .ge 7, 3) := dk_162 0 7 (dk_at dksX5_hasTrack_0 15 rfl rfl)
theorem dX5_hasTrack_18 : decode cX5_hasTrack 18 = .ok (.iconst 1, 1) := dk_4 (dk_at dksX5_hasTrack_0 18 rfl rfl)
theorem dX5_hasTrack_19 : decode cX5_hasTrack 19 = .ok (.goto 4, 3) := dk_167 0 4 (dk_at dksX5_hasTrack_0 19 rfl rfl)
theorem dX5_hasTrack_22 : decode cX5_hasTrack 22 = .ok (.iconst 0, 1) := dk_3 (dk_at dksX5_hasTrack_0 22 rfl rfl)
theorem dX5_hasTrack_23 : decode cX5_hasTrack 23 = .ok (.ireturn, 1) := dk_172 (dk_at dksX5_hasTrack_0 23 rfl rfl)
abbrev cX5_addTrain : ByteArray := prog_20_method_34_code
def yX5_addTrain : MethodName := ⟨RX5, "addTrain", "(II)V"⟩
def dkwX5_addTrain_1 : List UInt8 := [182, 0, 138, 42, 180, 0, 9, 17, 0, 180, 92, 46, 4, 96, 79, 177]
abbrev dktX5_addTrain_1 : List UInt8 := dkwX5_addTrain_1 ++ []
def dkwX5_addTrain_0 : List UInt8 := [42, 180, 0, 9, 17, 0, 180, 46, 62, 42, 180, 0, 9, 29, 3, 184, 0, 92, 28, 79, 42, 29, 27]
abbrev dktX5_addTrain_0 : List UInt8 := dkwX5_addTrain_0 ++ dktX5_addTrain_1
theorem dksX5_addTrain_0 : cX5_addTrain.data.toList.drop 0 = dktX5_addTrain_0 := by decide +kernel
theorem dksX5_addTrain_1 : cX5_addTrain.data.toList.drop 23 = dktX5_addTrain_1 := dk_seg dksX5_addTrain_0 23 rfl rfl
theorem dX5_addTrain_0 : decode cX5_addTrain 0 = .ok (.aload_n 0, 1) := dk_42 (dk_at dksX5_addTrain_0 0 rfl rfl)
theorem dX5_addTrain_1 : decode cX5_addTrain 1 = .ok (.getfield 9, 3) := dk_180 0 9 (dk_at dksX5_addTrain_0 1 rfl rfl)
theorem dX5_addTrain_4 : decode cX5_addTrain 4 = .ok (.sipush 180, 3) := dk_17 0 180 (dk_at dksX5_addTrain_0 4 rfl rfl)
theorem dX5_addTrain_7 : decode cX5_addTrain 7 = .ok (.iaload, 1) := dk_46 (dk_at dksX5_addTrain_0 7 rfl rfl)
theorem dX5_addTrain_8 : decode cX5_addTrain 8 = .ok (.istore_n 3, 1) := dk_62 (dk_at dksX5_addTrain_0 8 rfl rfl)
theorem dX5_addTrain_9 : decode cX5_addTrain 9 = .ok (.aload_n 0, 1) := dk_42 (dk_at dksX5_addTrain_0 9 rfl rfl)
theorem dX5_addTrain_10 : decode cX5_addTrain 10 = .ok (.getfield 9, 3) := dk_180 0 9 (dk_at dksX5_addTrain_0 10 rfl rfl)
theorem dX5_addTrain_13 : decode cX5_addTrain 13 = .ok (.iload_n 3, 1) := dk_29 (dk_at dksX5_addTrain_0 13 rfl rfl)
theorem dX5_addTrain_14 : decode cX5_addTrain 14 = .ok (.iconst 0, 1) := dk_3 (dk_at dksX5_addTrain_0 14 rfl rfl)
theorem dX5_addTrain_15 : decode cX5_addTrain 15 = .ok (.invokestatic 92, 3) := dk_184 0 92 (dk_at dksX5_addTrain_0 15 rfl rfl)
theorem dX5_addTrain_18 : decode cX5_addTrain 18 = .ok (.iload_n 2, 1) := dk_28 (dk_at dksX5_addTrain_0 18 rfl rfl)
theorem dX5_addTrain_19 : decode cX5_addTrain 19 = .ok (.iastore, 1) := dk_79 (dk_at dksX5_addTrain_0 19 rfl rfl)
theorem dX5_addTrain_20 : decode cX5_addTrain 20 = .ok (.aload_n 0, 1) := dk_42 (dk_at dksX5_addTrain_0 20 rfl rfl)
theorem dX5_addTrain_21 : decode cX5_addTrain 21 = .ok (.iload_n 3, 1) := dk_29 (dk_at dksX5_addTrain_0 21 rfl rfl)
theorem dX5_addTrain_22 : decode cX5_addTrain 22 = .ok (.iload_n 1, 1) := dk_27 (dk_at dksX5_addTrain_0 22 rfl rfl)
theorem dX5_addTrain_23 : decode cX5_addTrain 23 = .ok (.invokevirtual 138, 3) := dk_182 0 138 (dk_at dksX5_addTrain_1 0 rfl rfl)
theorem dX5_addTrain_26 : decode cX5_addTrain 26 = .ok (.aload_n 0, 1) := dk_42 (dk_at dksX5_addTrain_1 3 rfl rfl)
theorem dX5_addTrain_27 : decode cX5_addTrain 27 = .ok (.getfield 9, 3) := dk_180 0 9 (dk_at dksX5_addTrain_1 4 rfl rfl)
theorem dX5_addTrain_30 : decode cX5_addTrain 30 = .ok (.sipush 180, 3) := dk_17 0 180 (dk_at dksX5_addTrain_1 7 rfl rfl)
theorem dX5_addTrain_33 : decode cX5_addTrain 33 = .ok (.dup2, 1) := dk_92 (dk_at dksX5_addTrain_1 10 rfl rfl)
theorem dX5_addTrain_34 : decode cX5_addTrain 34 = .ok (.iaload, 1) := dk_46 (dk_at dksX5_addTrain_1 11 rfl rfl)
theorem dX5_addTrain_35 : decode cX5_addTrain 35 = .ok (.iconst 1, 1) := dk_4 (dk_at dksX5_addTrain_1 12 rfl rfl)
theorem dX5_addTrain_36 : decode cX5_addTrain 36 = .ok (.iadd, 1) := dk_96 (dk_at dksX5_addTrain_1 13 rfl rfl)
theorem dX5_addTrain_37 : decode cX5_addTrain 37 = .ok (.iastore, 1) := dk_79 (dk_at dksX5_addTrain_1 14 rfl rfl)
theorem dX5_addTrain_38 : decode cX5_addTrain 38 = .ok (.return_, 1) := dk_177 (dk_at dksX5_addTrain_1 15 rfl rfl)
abbrev cX5_stand : ByteArray := prog_20_method_35_code
def yX5_stand : MethodName := ⟨RX5, "stand", "(II)V"⟩
def dkwX5_stand_2 : List UInt8 := [180, 0, 9, 27, 8, 184, 0, 92, 2, 79, 42, 180, 0, 9, 27, 16, 6, 184, 0, 92, 3, 79, 177]
abbrev dktX5_stand_2 : List UInt8 := dkwX5_stand_2 ++ []
def dkwX5_stand_1 : List UInt8 := [180, 0, 9, 27, 6, 184, 0, 92, 2, 79, 42, 180, 0, 9, 27, 7, 184, 0, 92, 2, 79, 42]
abbrev dktX5_stand_1 : List UInt8 := dkwX5_stand_1 ++ dktX5_stand_2
def dkwX5_stand_0 : List UInt8 := [42, 180, 0, 9, 27, 4, 184, 0, 92, 28, 79, 42, 180, 0, 9, 27, 5, 184, 0, 92, 2, 79, 42]
abbrev dktX5_stand_0 : List UInt8 := dkwX5_stand_0 ++ dktX5_stand_1
theorem dksX5_stand_0 : cX5_stand.data.toList.drop 0 = dktX5_stand_0 := by decide +kernel
theorem dksX5_stand_1 : cX5_stand.data.toList.drop 23 = dktX5_stand_1 := dk_seg dksX5_stand_0 23 rfl rfl
theorem dksX5_stand_2 : cX5_stand.data.toList.drop 45 = dktX5_stand_2 := dk_seg dksX5_stand_1 22 rfl rfl
theorem dX5_stand_0 : decode cX5_stand 0 = .ok (.aload_n 0, 1) := dk_42 (dk_at dksX5_stand_0 0 rfl rfl)
theorem dX5_stand_1 : decode cX5_stand 1 = .ok (.getfield 9, 3) := dk_180 0 9 (dk_at dksX5_stand_0 1 rfl rfl)
theorem dX5_stand_4 : decode cX5_stand 4 = .ok (.iload_n 1, 1) := dk_27 (dk_at dksX5_stand_0 4 rfl rfl)
theorem dX5_stand_5 : decode cX5_stand 5 = .ok (.iconst 1, 1) := dk_4 (dk_at dksX5_stand_0 5 rfl rfl)
theorem dX5_stand_6 : decode cX5_stand 6 = .ok (.invokestatic 92, 3) := dk_184 0 92 (dk_at dksX5_stand_0 6 rfl rfl)
theorem dX5_stand_9 : decode cX5_stand 9 = .ok (.iload_n 2, 1) := dk_28 (dk_at dksX5_stand_0 9 rfl rfl)
theorem dX5_stand_10 : decode cX5_stand 10 = .ok (.iastore, 1) := dk_79 (dk_at dksX5_stand_0 10 rfl rfl)
theorem dX5_stand_11 : decode cX5_stand 11 = .ok (.aload_n 0, 1) := dk_42 (dk_at dksX5_stand_0 11 rfl rfl)
theorem dX5_stand_12 : decode cX5_stand 12 = .ok (.getfield 9, 3) := dk_180 0 9 (dk_at dksX5_stand_0 12 rfl rfl)
theorem dX5_stand_15 : decode cX5_stand 15 = .ok (.iload_n 1, 1) := dk_27 (dk_at dksX5_stand_0 15 rfl rfl)
theorem dX5_stand_16 : decode cX5_stand 16 = .ok (.iconst 2, 1) := dk_5 (dk_at dksX5_stand_0 16 rfl rfl)
theorem dX5_stand_17 : decode cX5_stand 17 = .ok (.invokestatic 92, 3) := dk_184 0 92 (dk_at dksX5_stand_0 17 rfl rfl)
theorem dX5_stand_20 : decode cX5_stand 20 = .ok (.iconst (-1), 1) := dk_2 (dk_at dksX5_stand_0 20 rfl rfl)
theorem dX5_stand_21 : decode cX5_stand 21 = .ok (.iastore, 1) := dk_79 (dk_at dksX5_stand_0 21 rfl rfl)
theorem dX5_stand_22 : decode cX5_stand 22 = .ok (.aload_n 0, 1) := dk_42 (dk_at dksX5_stand_0 22 rfl rfl)
theorem dX5_stand_23 : decode cX5_stand 23 = .ok (.getfield 9, 3) := dk_180 0 9 (dk_at dksX5_stand_1 0 rfl rfl)
theorem dX5_stand_26 : decode cX5_stand 26 = .ok (.iload_n 1, 1) := dk_27 (dk_at dksX5_stand_1 3 rfl rfl)
theorem dX5_stand_27 : decode cX5_stand 27 = .ok (.iconst 3, 1) := dk_6 (dk_at dksX5_stand_1 4 rfl rfl)
theorem dX5_stand_28 : decode cX5_stand 28 = .ok (.invokestatic 92, 3) := dk_184 0 92 (dk_at dksX5_stand_1 5 rfl rfl)
theorem dX5_stand_31 : decode cX5_stand 31 = .ok (.iconst (-1), 1) := dk_2 (dk_at dksX5_stand_1 8 rfl rfl)
theorem dX5_stand_32 : decode cX5_stand 32 = .ok (.iastore, 1) := dk_79 (dk_at dksX5_stand_1 9 rfl rfl)
theorem dX5_stand_33 : decode cX5_stand 33 = .ok (.aload_n 0, 1) := dk_42 (dk_at dksX5_stand_1 10 rfl rfl)
theorem dX5_stand_34 : decode cX5_stand 34 = .ok (.getfield 9, 3) := dk_180 0 9 (dk_at dksX5_stand_1 11 rfl rfl)
theorem dX5_stand_37 : decode cX5_stand 37 = .ok (.iload_n 1, 1) := dk_27 (dk_at dksX5_stand_1 14 rfl rfl)
theorem dX5_stand_38 : decode cX5_stand 38 = .ok (.iconst 4, 1) := dk_7 (dk_at dksX5_stand_1 15 rfl rfl)
theorem dX5_stand_39 : decode cX5_stand 39 = .ok (.invokestatic 92, 3) := dk_184 0 92 (dk_at dksX5_stand_1 16 rfl rfl)
theorem dX5_stand_42 : decode cX5_stand 42 = .ok (.iconst (-1), 1) := dk_2 (dk_at dksX5_stand_1 19 rfl rfl)
theorem dX5_stand_43 : decode cX5_stand 43 = .ok (.iastore, 1) := dk_79 (dk_at dksX5_stand_1 20 rfl rfl)
theorem dX5_stand_44 : decode cX5_stand 44 = .ok (.aload_n 0, 1) := dk_42 (dk_at dksX5_stand_1 21 rfl rfl)
theorem dX5_stand_45 : decode cX5_stand 45 = .ok (.getfield 9, 3) := dk_180 0 9 (dk_at dksX5_stand_2 0 rfl rfl)
theorem dX5_stand_48 : decode cX5_stand 48 = .ok (.iload_n 1, 1) := dk_27 (dk_at dksX5_stand_2 3 rfl rfl)
theorem dX5_stand_49 : decode cX5_stand 49 = .ok (.iconst 5, 1) := dk_8 (dk_at dksX5_stand_2 4 rfl rfl)
theorem dX5_stand_50 : decode cX5_stand 50 = .ok (.invokestatic 92, 3) := dk_184 0 92 (dk_at dksX5_stand_2 5 rfl rfl)
theorem dX5_stand_53 : decode cX5_stand 53 = .ok (.iconst (-1), 1) := dk_2 (dk_at dksX5_stand_2 8 rfl rfl)
theorem dX5_stand_54 : decode cX5_stand 54 = .ok (.iastore, 1) := dk_79 (dk_at dksX5_stand_2 9 rfl rfl)
theorem dX5_stand_55 : decode cX5_stand 55 = .ok (.aload_n 0, 1) := dk_42 (dk_at dksX5_stand_2 10 rfl rfl)
theorem dX5_stand_56 : decode cX5_stand 56 = .ok (.getfield 9, 3) := dk_180 0 9 (dk_at dksX5_stand_2 11 rfl rfl)
theorem dX5_stand_59 : decode cX5_stand 59 = .ok (.iload_n 1, 1) := dk_27 (dk_at dksX5_stand_2 14 rfl rfl)
theorem dX5_stand_60 : decode cX5_stand 60 = .ok (.bipush 6, 2) := dk_16 6 (dk_at dksX5_stand_2 15 rfl rfl)
theorem dX5_stand_62 : decode cX5_stand 62 = .ok (.invokestatic 92, 3) := dk_184 0 92 (dk_at dksX5_stand_2 17 rfl rfl)
theorem dX5_stand_65 : decode cX5_stand 65 = .ok (.iconst 0, 1) := dk_3 (dk_at dksX5_stand_2 20 rfl rfl)
theorem dX5_stand_66 : decode cX5_stand 66 = .ok (.iastore, 1) := dk_79 (dk_at dksX5_stand_2 21 rfl rfl)
theorem dX5_stand_67 : decode cX5_stand 67 = .ok (.return_, 1) := dk_177 (dk_at dksX5_stand_2 22 rfl rfl)
abbrev cX5_remove : ByteArray := prog_20_method_41_code
def yX5_remove : MethodName := ⟨RX5, "remove", "(I)I"⟩
def dkwX5_remove_2 : List UInt8 := [180, 0, 9, 17, 0, 180, 46, 172]
abbrev dktX5_remove_2 : List UInt8 := dkwX5_remove_2 ++ []
def dkwX5_remove_1 : List UInt8 := [182, 0, 114, 153, 0, 5, 3, 172, 42, 42, 180, 0, 9, 182, 0, 66, 42, 27, 182, 0, 159, 42]
abbrev dktX5_remove_1 : List UInt8 := dkwX5_remove_1 ++ dktX5_remove_2
def dkwX5_remove_0 : List UInt8 := [42, 4, 42, 27, 182, 0, 153, 154, 0, 11, 42, 27, 182, 0, 156, 153, 0, 7, 4, 167, 0, 4, 3]
abbrev dktX5_remove_0 : List UInt8 := dkwX5_remove_0 ++ dktX5_remove_1
theorem dksX5_remove_0 : cX5_remove.data.toList.drop 0 = dktX5_remove_0 := by decide +kernel
theorem dksX5_remove_1 : cX5_remove.data.toList.drop 23 = dktX5_remove_1 := dk_seg dksX5_remove_0 23 rfl rfl
theorem dksX5_remove_2 : cX5_remove.data.toList.drop 45 = dktX5_remove_2 := dk_seg dksX5_remove_1 22 rfl rfl
theorem dX5_remove_0 : decode cX5_remove 0 = .ok (.aload_n 0, 1) := dk_42 (dk_at dksX5_remove_0 0 rfl rfl)
theorem dX5_remove_1 : decode cX5_remove 1 = .ok (.iconst 1, 1) := dk_4 (dk_at dksX5_remove_0 1 rfl rfl)
theorem dX5_remove_2 : decode cX5_remove 2 = .ok (.aload_n 0, 1) := dk_42 (dk_at dksX5_remove_0 2 rfl rfl)
theorem dX5_remove_3 : decode cX5_remove 3 = .ok (.iload_n 1, 1) := dk_27 (dk_at dksX5_remove_0 3 rfl rfl)
theorem dX5_remove_4 : decode cX5_remove 4 = .ok (.invokevirtual 153, 3) := dk_182 0 153 (dk_at dksX5_remove_0 4 rfl rfl)
theorem dX5_remove_7 : decode cX5_remove 7 = .ok (.ifCond .ne 11, 3) := dk_154 0 11 (dk_at dksX5_remove_0 7 rfl rfl)
theorem dX5_remove_10 : decode cX5_remove 10 = .ok (.aload_n 0, 1) := dk_42 (dk_at dksX5_remove_0 10 rfl rfl)
theorem dX5_remove_11 : decode cX5_remove 11 = .ok (.iload_n 1, 1) := dk_27 (dk_at dksX5_remove_0 11 rfl rfl)
theorem dX5_remove_12 : decode cX5_remove 12 = .ok (.invokevirtual 156, 3) := dk_182 0 156 (dk_at dksX5_remove_0 12 rfl rfl)
theorem dX5_remove_15 : decode cX5_remove 15 = .ok (.ifCond .eq 7, 3) := dk_153 0 7 (dk_at dksX5_remove_0 15 rfl rfl)
theorem dX5_remove_18 : decode cX5_remove 18 = .ok (.iconst 1, 1) := dk_4 (dk_at dksX5_remove_0 18 rfl rfl)
theorem dX5_remove_19 : decode cX5_remove 19 = .ok (.goto 4, 3) := dk_167 0 4 (dk_at dksX5_remove_0 19 rfl rfl)
theorem dX5_remove_22 : decode cX5_remove 22 = .ok (.iconst 0, 1) := dk_3 (dk_at dksX5_remove_0 22 rfl rfl)
theorem dX5_remove_23 : decode cX5_remove 23 = .ok (.invokevirtual 114, 3) := dk_182 0 114 (dk_at dksX5_remove_1 0 rfl rfl)
theorem dX5_remove_26 : decode cX5_remove 26 = .ok (.ifCond .eq 5, 3) := dk_153 0 5 (dk_at dksX5_remove_1 3 rfl rfl)
theorem dX5_remove_29 : decode cX5_remove 29 = .ok (.iconst 0, 1) := dk_3 (dk_at dksX5_remove_1 6 rfl rfl)
theorem dX5_remove_30 : decode cX5_remove 30 = .ok (.ireturn, 1) := dk_172 (dk_at dksX5_remove_1 7 rfl rfl)
theorem dX5_remove_31 : decode cX5_remove 31 = .ok (.aload_n 0, 1) := dk_42 (dk_at dksX5_remove_1 8 rfl rfl)
theorem dX5_remove_32 : decode cX5_remove 32 = .ok (.aload_n 0, 1) := dk_42 (dk_at dksX5_remove_1 9 rfl rfl)
theorem dX5_remove_33 : decode cX5_remove 33 = .ok (.getfield 9, 3) := dk_180 0 9 (dk_at dksX5_remove_1 10 rfl rfl)
theorem dX5_remove_36 : decode cX5_remove 36 = .ok (.invokevirtual 66, 3) := dk_182 0 66 (dk_at dksX5_remove_1 13 rfl rfl)
theorem dX5_remove_39 : decode cX5_remove 39 = .ok (.aload_n 0, 1) := dk_42 (dk_at dksX5_remove_1 16 rfl rfl)
theorem dX5_remove_40 : decode cX5_remove 40 = .ok (.iload_n 1, 1) := dk_27 (dk_at dksX5_remove_1 17 rfl rfl)
theorem dX5_remove_41 : decode cX5_remove 41 = .ok (.invokevirtual 159, 3) := dk_182 0 159 (dk_at dksX5_remove_1 18 rfl rfl)
theorem dX5_remove_44 : decode cX5_remove 44 = .ok (.aload_n 0, 1) := dk_42 (dk_at dksX5_remove_1 21 rfl rfl)
theorem dX5_remove_45 : decode cX5_remove 45 = .ok (.getfield 9, 3) := dk_180 0 9 (dk_at dksX5_remove_2 0 rfl rfl)
theorem dX5_remove_48 : decode cX5_remove 48 = .ok (.sipush 180, 3) := dk_17 0 180 (dk_at dksX5_remove_2 3 rfl rfl)
theorem dX5_remove_51 : decode cX5_remove 51 = .ok (.iaload, 1) := dk_46 (dk_at dksX5_remove_2 6 rfl rfl)
theorem dX5_remove_52 : decode cX5_remove 52 = .ok (.ireturn, 1) := dk_172 (dk_at dksX5_remove_2 7 rfl rfl)
abbrev cX5_isNoTrain : ByteArray := prog_20_method_38_code
def yX5_isNoTrain : MethodName := ⟨RX5, "isNoTrain", "(I)Z"⟩
def dkwX5_isNoTrain_0 : List UInt8 := [42, 42, 27, 182, 0, 150, 154, 0, 7, 4, 167, 0, 4, 3, 4, 27, 182, 0, 110, 172]
abbrev dktX5_isNoTrain_0 : List UInt8 := dkwX5_isNoTrain_0 ++ []
theorem dksX5_isNoTrain_0 : cX5_isNoTrain.data.toList.drop 0 = dktX5_isNoTrain_0 := by decide +kernel
theorem dX5_isNoTrain_0 : decode cX5_isNoTrain 0 = .ok (.aload_n 0, 1) := dk_42 (dk_at dksX5_isNoTrain_0 0 rfl rfl)
theorem dX5_isNoTrain_1 : decode cX5_isNoTrain 1 = .ok (.aload_n 0, 1) := dk_42 (dk_at dksX5_isNoTrain_0 1 rfl rfl)
theorem dX5_isNoTrain_2 : decode cX5_isNoTrain 2 = .ok (.iload_n 1, 1) := dk_27 (dk_at dksX5_isNoTrain_0 2 rfl rfl)
theorem dX5_isNoTrain_3 : decode cX5_isNoTrain 3 = .ok (.invokevirtual 150, 3) := dk_182 0 150 (dk_at dksX5_isNoTrain_0 3 rfl rfl)
theorem dX5_isNoTrain_6 : decode cX5_isNoTrain 6 = .ok (.ifCond .ne 7, 3) := dk_154 0 7 (dk_at dksX5_isNoTrain_0 6 rfl rfl)
theorem dX5_isNoTrain_9 : decode cX5_isNoTrain 9 = .ok (.iconst 1, 1) := dk_4 (dk_at dksX5_isNoTrain_0 9 rfl rfl)
theorem dX5_isNoTrain_10 : decode cX5_isNoTrain 10 = .ok (.goto 4, 3) := dk_167 0 4 (dk_at dksX5_isNoTrain_0 10 rfl rfl)
theorem dX5_isNoTrain_13 : decode cX5_isNoTrain 13 = .ok (.iconst 0, 1) := dk_3 (dk_at dksX5_isNoTrain_0 13 rfl rfl)
theorem dX5_isNoTrain_14 : decode cX5_isNoTrain 14 = .ok (.iconst 1, 1) := dk_4 (dk_at dksX5_isNoTrain_0 14 rfl rfl)
theorem dX5_isNoTrain_15 : decode cX5_isNoTrain 15 = .ok (.iload_n 1, 1) := dk_27 (dk_at dksX5_isNoTrain_0 15 rfl rfl)
theorem dX5_isNoTrain_16 : decode cX5_isNoTrain 16 = .ok (.invokevirtual 110, 3) := dk_182 0 110 (dk_at dksX5_isNoTrain_0 16 rfl rfl)
theorem dX5_isNoTrain_19 : decode cX5_isNoTrain 19 = .ok (.ireturn, 1) := dk_172 (dk_at dksX5_isNoTrain_0 19 rfl rfl)
abbrev cX5_isTrain : ByteArray := prog_20_method_18_code
def yX5_isTrain : MethodName := ⟨RX5, "isTrain", "(I)Z"⟩
def dkwX5_isTrain_0 : List UInt8 := [27, 3, 42, 180, 0, 9, 17, 0, 180, 46, 4, 100, 184, 0, 88, 172]
abbrev dktX5_isTrain_0 : List UInt8 := dkwX5_isTrain_0 ++ []
theorem dksX5_isTrain_0 : cX5_isTrain.data.toList.drop 0 = dktX5_isTrain_0 := by decide +kernel
theorem dX5_isTrain_0 : decode cX5_isTrain 0 = .ok (.iload_n 1, 1) := dk_27 (dk_at dksX5_isTrain_0 0 rfl rfl)
theorem dX5_isTrain_1 : decode cX5_isTrain 1 = .ok (.iconst 0, 1) := dk_3 (dk_at dksX5_isTrain_0 1 rfl rfl)
theorem dX5_isTrain_2 : decode cX5_isTrain 2 = .ok (.aload_n 0, 1) := dk_42 (dk_at dksX5_isTrain_0 2 rfl rfl)
theorem dX5_isTrain_3 : decode cX5_isTrain 3 = .ok (.getfield 9, 3) := dk_180 0 9 (dk_at dksX5_isTrain_0 3 rfl rfl)
theorem dX5_isTrain_6 : decode cX5_isTrain 6 = .ok (.sipush 180, 3) := dk_17 0 180 (dk_at dksX5_isTrain_0 6 rfl rfl)
theorem dX5_isTrain_9 : decode cX5_isTrain 9 = .ok (.iaload, 1) := dk_46 (dk_at dksX5_isTrain_0 9 rfl rfl)
theorem dX5_isTrain_10 : decode cX5_isTrain 10 = .ok (.iconst 1, 1) := dk_4 (dk_at dksX5_isTrain_0 10 rfl rfl)
theorem dX5_isTrain_11 : decode cX5_isTrain 11 = .ok (.isub, 1) := dk_100 (dk_at dksX5_isTrain_0 11 rfl rfl)
theorem dX5_isTrain_12 : decode cX5_isTrain 12 = .ok (.invokestatic 88, 3) := dk_184 0 88 (dk_at dksX5_isTrain_0 12 rfl rfl)
theorem dX5_isTrain_15 : decode cX5_isTrain 15 = .ok (.ireturn, 1) := dk_172 (dk_at dksX5_isTrain_0 15 rfl rfl)
abbrev cX5_isUnderWay : ByteArray := prog_20_method_39_code
def yX5_isUnderWay : MethodName := ⟨RX5, "isUnderWay", "(I)Z"⟩
def dkwX5_isUnderWay_1 : List UInt8 := [27, 5, 184, 0, 92, 46, 182, 0, 110, 172]
abbrev dktX5_isUnderWay_1 : List UInt8 := dkwX5_isUnderWay_1 ++ []
def dkwX5_isUnderWay_0 : List UInt8 := [42, 42, 180, 0, 9, 27, 4, 184, 0, 92, 46, 156, 0, 7, 4, 167, 0, 4, 3, 6, 42, 180, 0, 9]
abbrev dktX5_isUnderWay_0 : List UInt8 := dkwX5_isUnderWay_0 ++ dktX5_isUnderWay_1
theorem dksX5_isUnderWay_0 : cX5_isUnderWay.data.toList.drop 0 = dktX5_isUnderWay_0 := by decide +kernel
theorem dksX5_isUnderWay_1 : cX5_isUnderWay.data.toList.drop 24 = dktX5_isUnderWay_1 := dk_seg dksX5_isUnderWay_0 24 rfl rfl
theorem dX5_isUnderWay_0 : decode cX5_isUnderWay 0 = .ok (.aload_n 0, 1) := dk_42 (dk_at dksX5_isUnderWay_0 0 rfl rfl)
theorem dX5_isUnderWay_1 : decode cX5_isUnderWay 1 = .ok (.aload_n 0, 1) := dk_42 (dk_at dksX5_isUnderWay_0 1 rfl rfl)
theorem dX5_isUnderWay_2 : decode cX5_isUnderWay 2 = .ok (.getfield 9, 3) := dk_180 0 9 (dk_at dksX5_isUnderWay_0 2 rfl rfl)
theorem dX5_isUnderWay_5 : decode cX5_isUnderWay 5 = .ok (.iload_n 1, 1) := dk_27 (dk_at dksX5_isUnderWay_0 5 rfl rfl)
theorem dX5_isUnderWay_6 : decode cX5_isUnderWay 6 = .ok (.iconst 1, 1) := dk_4 (dk_at dksX5_isUnderWay_0 6 rfl rfl)
theorem dX5_isUnderWay_7 : decode cX5_isUnderWay 7 = .ok (.invokestatic 92, 3) := dk_184 0 92 (dk_at dksX5_isUnderWay_0 7 rfl rfl)
theorem dX5_isUnderWay_10 : decode cX5_isUnderWay 10 = .ok (.iaload, 1) := dk_46 (dk_at dksX5_isUnderWay_0 10 rfl rfl)
theorem dX5_isUnderWay_11 : decode cX5_isUnderWay 11 = .ok (.ifCond .ge 7, 3) := dk_156 0 7 (dk_at dksX5_isUnderWay_0 11 rfl rfl)
theorem dX5_isUnderWay_14 : decode cX5_isUnderWay 14 = .ok (.iconst 1, 1) := dk_4 (dk_at dksX5_isUnderWay_0 14 rfl rfl)
theorem dX5_isUnderWay_15 : decode cX5_isUnderWay 15 = .ok (.goto 4, 3) := dk_167 0 4 (dk_at dksX5_isUnderWay_0 15 rfl rfl)
theorem dX5_isUnderWay_18 : decode cX5_isUnderWay 18 = .ok (.iconst 0, 1) := dk_3 (dk_at dksX5_isUnderWay_0 18 rfl rfl)
theorem dX5_isUnderWay_19 : decode cX5_isUnderWay 19 = .ok (.iconst 3, 1) := dk_6 (dk_at dksX5_isUnderWay_0 19 rfl rfl)
theorem dX5_isUnderWay_20 : decode cX5_isUnderWay 20 = .ok (.aload_n 0, 1) := dk_42 (dk_at dksX5_isUnderWay_0 20 rfl rfl)
theorem dX5_isUnderWay_21 : decode cX5_isUnderWay 21 = .ok (.getfield 9, 3) := dk_180 0 9 (dk_at dksX5_isUnderWay_0 21 rfl rfl)
theorem dX5_isUnderWay_24 : decode cX5_isUnderWay 24 = .ok (.iload_n 1, 1) := dk_27 (dk_at dksX5_isUnderWay_1 0 rfl rfl)
theorem dX5_isUnderWay_25 : decode cX5_isUnderWay 25 = .ok (.iconst 2, 1) := dk_5 (dk_at dksX5_isUnderWay_1 1 rfl rfl)
theorem dX5_isUnderWay_26 : decode cX5_isUnderWay 26 = .ok (.invokestatic 92, 3) := dk_184 0 92 (dk_at dksX5_isUnderWay_1 2 rfl rfl)
theorem dX5_isUnderWay_29 : decode cX5_isUnderWay 29 = .ok (.iaload, 1) := dk_46 (dk_at dksX5_isUnderWay_1 5 rfl rfl)
theorem dX5_isUnderWay_30 : decode cX5_isUnderWay 30 = .ok (.invokevirtual 110, 3) := dk_182 0 110 (dk_at dksX5_isUnderWay_1 6 rfl rfl)
theorem dX5_isUnderWay_33 : decode cX5_isUnderWay 33 = .ok (.ireturn, 1) := dk_172 (dk_at dksX5_isUnderWay_1 9 rfl rfl)
abbrev cX5_takeAway : ByteArray := prog_20_method_40_code
def yX5_takeAway : MethodName := ⟨RX5, "takeAway", "(I)V"⟩
def dkwX5_takeAway_2 : List UInt8 := [46, 79, 132, 2, 1, 167, 255, 222, 177]
abbrev dktX5_takeAway_2 : List UInt8 := dkwX5_takeAway_2 ++ []
def dkwX5_takeAway_1 : List UInt8 := [17, 0, 180, 46, 3, 184, 0, 92, 162, 0, 24, 42, 180, 0, 9, 28, 42, 180, 0, 9, 28, 16, 7, 96]
abbrev dktX5_takeAway_1 : List UInt8 := dkwX5_takeAway_1 ++ dktX5_takeAway_2
def dkwX5_takeAway_0 : List UInt8 := [42, 180, 0, 9, 17, 0, 180, 92, 46, 4, 100, 79, 27, 3, 184, 0, 92, 61, 28, 42, 180, 0, 9]
abbrev dktX5_takeAway_0 : List UInt8 := dkwX5_takeAway_0 ++ dktX5_takeAway_1
theorem dksX5_takeAway_0 : cX5_takeAway.data.toList.drop 0 = dktX5_takeAway_0 := by decide +kernel
theorem dksX5_takeAway_1 : cX5_takeAway.data.toList.drop 23 = dktX5_takeAway_1 := dk_seg dksX5_takeAway_0 23 rfl rfl
theorem dksX5_takeAway_2 : cX5_takeAway.data.toList.drop 47 = dktX5_takeAway_2 := dk_seg dksX5_takeAway_1 24 rfl rfl
theorem dX5_takeAway_0 : decode cX5_takeAway 0 = .ok (.aload_n 0, 1) := dk_42 (dk_at dksX5_takeAway_0 0 rfl rfl)
theorem dX5_takeAway_1 : decode cX5_takeAway 1 = .ok (.getfield 9, 3) := dk_180 0 9 (dk_at dksX5_takeAway_0 1 rfl rfl)
theorem dX5_takeAway_4 : decode cX5_takeAway 4 = .ok (.sipush 180, 3) := dk_17 0 180 (dk_at dksX5_takeAway_0 4 rfl rfl)
theorem dX5_takeAway_7 : decode cX5_takeAway 7 = .ok (.dup2, 1) := dk_92 (dk_at dksX5_takeAway_0 7 rfl rfl)
theorem dX5_takeAway_8 : decode cX5_takeAway 8 = .ok (.iaload, 1) := dk_46 (dk_at dksX5_takeAway_0 8 rfl rfl)
theorem dX5_takeAway_9 : decode cX5_takeAway 9 = .ok (.iconst 1, 1) := dk_4 (dk_at dksX5_takeAway_0 9 rfl rfl)
theorem dX5_takeAway_10 : decode cX5_takeAway 10 = .ok (.isub, 1) := dk_100 (dk_at dksX5_takeAway_0 10 rfl rfl)
theorem dX5_takeAway_11 : decode cX5_takeAway 11 = .ok (.iastore, 1) := dk_79 (dk_at dksX5_takeAway_0 11 rfl rfl)
theorem dX5_takeAway_12 : decode cX5_takeAway 12 = .ok (.iload_n 1, 1) := dk_27 (dk_at dksX5_takeAway_0 12 rfl rfl)
theorem dX5_takeAway_13 : decode cX5_takeAway 13 = .ok (.iconst 0, 1) := dk_3 (dk_at dksX5_takeAway_0 13 rfl rfl)
theorem dX5_takeAway_14 : decode cX5_takeAway 14 = .ok (.invokestatic 92, 3) := dk_184 0 92 (dk_at dksX5_takeAway_0 14 rfl rfl)
theorem dX5_takeAway_17 : decode cX5_takeAway 17 = .ok (.istore_n 2, 1) := dk_61 (dk_at dksX5_takeAway_0 17 rfl rfl)
theorem dX5_takeAway_18 : decode cX5_takeAway 18 = .ok (.iload_n 2, 1) := dk_28 (dk_at dksX5_takeAway_0 18 rfl rfl)
theorem dX5_takeAway_19 : decode cX5_takeAway 19 = .ok (.aload_n 0, 1) := dk_42 (dk_at dksX5_takeAway_0 19 rfl rfl)
theorem dX5_takeAway_20 : decode cX5_takeAway 20 = .ok (.getfield 9, 3) := dk_180 0 9 (dk_at dksX5_takeAway_0 20 rfl rfl)
theorem dX5_takeAway_23 : decode cX5_takeAway 23 = .ok (.sipush 180, 3) := dk_17 0 180 (dk_at dksX5_takeAway_1 0 rfl rfl)
theorem dX5_takeAway_26 : decode cX5_takeAway 26 = .ok (.iaload, 1) := dk_46 (dk_at dksX5_takeAway_1 3 rfl rfl)
theorem dX5_takeAway_27 : decode cX5_takeAway 27 = .ok (.iconst 0, 1) := dk_3 (dk_at dksX5_takeAway_1 4 rfl rfl)
theorem dX5_takeAway_28 : decode cX5_takeAway 28 = .ok (.invokestatic 92, 3) := dk_184 0 92 (dk_at dksX5_takeAway_1 5 rfl rfl)
theorem dX5_takeAway_31 : decode cX5_takeAway 31 = .ok (.if_icmp .ge 24, 3) := dk_162 0 24 (dk_at dksX5_takeAway_1 8 rfl rfl)
theorem dX5_takeAway_34 : decode cX5_takeAway 34 = .ok (.aload_n 0, 1) := dk_42 (dk_at dksX5_takeAway_1 11 rfl rfl)
theorem dX5_takeAway_35 : decode cX5_takeAway 35 = .ok (.getfield 9, 3) := dk_180 0 9 (dk_at dksX5_takeAway_1 12 rfl rfl)
theorem dX5_takeAway_38 : decode cX5_takeAway 38 = .ok (.iload_n 2, 1) := dk_28 (dk_at dksX5_takeAway_1 15 rfl rfl)
theorem dX5_takeAway_39 : decode cX5_takeAway 39 = .ok (.aload_n 0, 1) := dk_42 (dk_at dksX5_takeAway_1 16 rfl rfl)
theorem dX5_takeAway_40 : decode cX5_takeAway 40 = .ok (.getfield 9, 3) := dk_180 0 9 (dk_at dksX5_takeAway_1 17 rfl rfl)
theorem dX5_takeAway_43 : decode cX5_takeAway 43 = .ok (.iload_n 2, 1) := dk_28 (dk_at dksX5_takeAway_1 20 rfl rfl)
theorem dX5_takeAway_44 : decode cX5_takeAway 44 = .ok (.bipush 7, 2) := dk_16 7 (dk_at dksX5_takeAway_1 21 rfl rfl)
theorem dX5_takeAway_46 : decode cX5_takeAway 46 = .ok (.iadd, 1) := dk_96 (dk_at dksX5_takeAway_1 23 rfl rfl)
theorem dX5_takeAway_47 : decode cX5_takeAway 47 = .ok (.iaload, 1) := dk_46 (dk_at dksX5_takeAway_2 0 rfl rfl)
theorem dX5_takeAway_48 : decode cX5_takeAway 48 = .ok (.iastore, 1) := dk_79 (dk_at dksX5_takeAway_2 1 rfl rfl)
theorem dX5_takeAway_49 : decode cX5_takeAway 49 = .ok (.iinc 2 1, 3) := dk_132 2 1 (dk_at dksX5_takeAway_2 2 rfl rfl)
theorem dX5_takeAway_52 : decode cX5_takeAway 52 = .ok (.goto (-34), 3) := dk_167 255 222 (dk_at dksX5_takeAway_2 5 rfl rfl)
theorem dX5_takeAway_55 : decode cX5_takeAway 55 = .ok (.return_, 1) := dk_177 (dk_at dksX5_takeAway_2 8 rfl rfl)
abbrev cX5_divide : ByteArray := prog_20_method_43_code
def yX5_divide : MethodName := ⟨RX5, "divide", "(II)I"⟩
def dkwX5_divide_2 : List UInt8 := [182, 0, 147, 42, 180, 0, 9, 17, 0, 180, 46, 4, 100, 172]
abbrev dktX5_divide_2 : List UInt8 := dkwX5_divide_2 ++ []
def dkwX5_divide_1 : List UInt8 := [27, 3, 184, 0, 92, 92, 46, 28, 100, 79, 42, 42, 180, 0, 9, 27, 4, 184, 0, 92, 46, 28]
abbrev dktX5_divide_1 : List UInt8 := dkwX5_divide_1 ++ dktX5_divide_2
def dkwX5_divide_0 : List UInt8 := [42, 4, 42, 27, 28, 182, 0, 162, 182, 0, 114, 153, 0, 5, 3, 172, 42, 182, 0, 166, 42, 180, 0, 9]
abbrev dktX5_divide_0 : List UInt8 := dkwX5_divide_0 ++ dktX5_divide_1
theorem dksX5_divide_0 : cX5_divide.data.toList.drop 0 = dktX5_divide_0 := by decide +kernel
theorem dksX5_divide_1 : cX5_divide.data.toList.drop 24 = dktX5_divide_1 := dk_seg dksX5_divide_0 24 rfl rfl
theorem dksX5_divide_2 : cX5_divide.data.toList.drop 46 = dktX5_divide_2 := dk_seg dksX5_divide_1 22 rfl rfl
theorem dX5_divide_0 : decode cX5_divide 0 = .ok (.aload_n 0, 1) := dk_42 (dk_at dksX5_divide_0 0 rfl rfl)
theorem dX5_divide_1 : decode cX5_divide 1 = .ok (.iconst 1, 1) := dk_4 (dk_at dksX5_divide_0 1 rfl rfl)
theorem dX5_divide_2 : decode cX5_divide 2 = .ok (.aload_n 0, 1) := dk_42 (dk_at dksX5_divide_0 2 rfl rfl)
theorem dX5_divide_3 : decode cX5_divide 3 = .ok (.iload_n 1, 1) := dk_27 (dk_at dksX5_divide_0 3 rfl rfl)
theorem dX5_divide_4 : decode cX5_divide 4 = .ok (.iload_n 2, 1) := dk_28 (dk_at dksX5_divide_0 4 rfl rfl)
theorem dX5_divide_5 : decode cX5_divide 5 = .ok (.invokevirtual 162, 3) := dk_182 0 162 (dk_at dksX5_divide_0 5 rfl rfl)
theorem dX5_divide_8 : decode cX5_divide 8 = .ok (.invokevirtual 114, 3) := dk_182 0 114 (dk_at dksX5_divide_0 8 rfl rfl)
theorem dX5_divide_11 : decode cX5_divide 11 = .ok (.ifCond .eq 5, 3) := dk_153 0 5 (dk_at dksX5_divide_0 11 rfl rfl)
theorem dX5_divide_14 : decode cX5_divide 14 = .ok (.iconst 0, 1) := dk_3 (dk_at dksX5_divide_0 14 rfl rfl)
theorem dX5_divide_15 : decode cX5_divide 15 = .ok (.ireturn, 1) := dk_172 (dk_at dksX5_divide_0 15 rfl rfl)
theorem dX5_divide_16 : decode cX5_divide 16 = .ok (.aload_n 0, 1) := dk_42 (dk_at dksX5_divide_0 16 rfl rfl)
theorem dX5_divide_17 : decode cX5_divide 17 = .ok (.invokevirtual 166, 3) := dk_182 0 166 (dk_at dksX5_divide_0 17 rfl rfl)
theorem dX5_divide_20 : decode cX5_divide 20 = .ok (.aload_n 0, 1) := dk_42 (dk_at dksX5_divide_0 20 rfl rfl)
theorem dX5_divide_21 : decode cX5_divide 21 = .ok (.getfield 9, 3) := dk_180 0 9 (dk_at dksX5_divide_0 21 rfl rfl)
theorem dX5_divide_24 : decode cX5_divide 24 = .ok (.iload_n 1, 1) := dk_27 (dk_at dksX5_divide_1 0 rfl rfl)
theorem dX5_divide_25 : decode cX5_divide 25 = .ok (.iconst 0, 1) := dk_3 (dk_at dksX5_divide_1 1 rfl rfl)
theorem dX5_divide_26 : decode cX5_divide 26 = .ok (.invokestatic 92, 3) := dk_184 0 92 (dk_at dksX5_divide_1 2 rfl rfl)
theorem dX5_divide_29 : decode cX5_divide 29 = .ok (.dup2, 1) := dk_92 (dk_at dksX5_divide_1 5 rfl rfl)
theorem dX5_divide_30 : decode cX5_divide 30 = .ok (.iaload, 1) := dk_46 (dk_at dksX5_divide_1 6 rfl rfl)
theorem dX5_divide_31 : decode cX5_divide 31 = .ok (.iload_n 2, 1) := dk_28 (dk_at dksX5_divide_1 7 rfl rfl)
theorem dX5_divide_32 : decode cX5_divide 32 = .ok (.isub, 1) := dk_100 (dk_at dksX5_divide_1 8 rfl rfl)
theorem dX5_divide_33 : decode cX5_divide 33 = .ok (.iastore, 1) := dk_79 (dk_at dksX5_divide_1 9 rfl rfl)
theorem dX5_divide_34 : decode cX5_divide 34 = .ok (.aload_n 0, 1) := dk_42 (dk_at dksX5_divide_1 10 rfl rfl)
theorem dX5_divide_35 : decode cX5_divide 35 = .ok (.aload_n 0, 1) := dk_42 (dk_at dksX5_divide_1 11 rfl rfl)
theorem dX5_divide_36 : decode cX5_divide 36 = .ok (.getfield 9, 3) := dk_180 0 9 (dk_at dksX5_divide_1 12 rfl rfl)
theorem dX5_divide_39 : decode cX5_divide 39 = .ok (.iload_n 1, 1) := dk_27 (dk_at dksX5_divide_1 15 rfl rfl)
theorem dX5_divide_40 : decode cX5_divide 40 = .ok (.iconst 1, 1) := dk_4 (dk_at dksX5_divide_1 16 rfl rfl)
theorem dX5_divide_41 : decode cX5_divide 41 = .ok (.invokestatic 92, 3) := dk_184 0 92 (dk_at dksX5_divide_1 17 rfl rfl)
theorem dX5_divide_44 : decode cX5_divide 44 = .ok (.iaload, 1) := dk_46 (dk_at dksX5_divide_1 20 rfl rfl)
theorem dX5_divide_45 : decode cX5_divide 45 = .ok (.iload_n 2, 1) := dk_28 (dk_at dksX5_divide_1 21 rfl rfl)
theorem dX5_divide_46 : decode cX5_divide 46 = .ok (.invokevirtual 147, 3) := dk_182 0 147 (dk_at dksX5_divide_2 0 rfl rfl)
theorem dX5_divide_49 : decode cX5_divide 49 = .ok (.aload_n 0, 1) := dk_42 (dk_at dksX5_divide_2 3 rfl rfl)
theorem dX5_divide_50 : decode cX5_divide 50 = .ok (.getfield 9, 3) := dk_180 0 9 (dk_at dksX5_divide_2 4 rfl rfl)
theorem dX5_divide_53 : decode cX5_divide 53 = .ok (.sipush 180, 3) := dk_17 0 180 (dk_at dksX5_divide_2 7 rfl rfl)
theorem dX5_divide_56 : decode cX5_divide 56 = .ok (.iaload, 1) := dk_46 (dk_at dksX5_divide_2 10 rfl rfl)
theorem dX5_divide_57 : decode cX5_divide 57 = .ok (.iconst 1, 1) := dk_4 (dk_at dksX5_divide_2 11 rfl rfl)
theorem dX5_divide_58 : decode cX5_divide 58 = .ok (.isub, 1) := dk_100 (dk_at dksX5_divide_2 12 rfl rfl)
theorem dX5_divide_59 : decode cX5_divide 59 = .ok (.ireturn, 1) := dk_172 (dk_at dksX5_divide_2 13 rfl rfl)
abbrev cX5_isDivideRefused : ByteArray := prog_20_method_42_code
def yX5_isDivideRefused : MethodName := ⟨RX5, "isDivideRefused", "(II)Z"⟩
def dkwX5_isDivideRefused_4 : List UInt8 := [167, 0, 4, 3, 172]
abbrev dktX5_isDivideRefused_4 : List UInt8 := dkwX5_isDivideRefused_4 ++ []
def dkwX5_isDivideRefused_3 : List UInt8 := [182, 0, 110, 154, 0, 20, 42, 42, 180, 0, 9, 27, 4, 184, 0, 92, 46, 182, 0, 144, 153, 0, 7, 4]
abbrev dktX5_isDivideRefused_3 : List UInt8 := dkwX5_isDivideRefused_3 ++ dktX5_isDivideRefused_4
def dkwX5_isDivideRefused_2 : List UInt8 := [16, 17, 28, 182, 0, 110, 154, 0, 40, 42, 29, 4, 162, 0, 7, 4, 167, 0, 4, 3, 16, 17, 29]
abbrev dktX5_isDivideRefused_2 : List UInt8 := dkwX5_isDivideRefused_2 ++ dktX5_isDivideRefused_3
def dkwX5_isDivideRefused_1 : List UInt8 := [184, 0, 92, 46, 28, 100, 62, 42, 28, 4, 16, 30, 184, 0, 88, 154, 0, 7, 4, 167, 0, 4, 3]
abbrev dktX5_isDivideRefused_1 : List UInt8 := dkwX5_isDivideRefused_1 ++ dktX5_isDivideRefused_2
def dkwX5_isDivideRefused_0 : List UInt8 := [42, 27, 182, 0, 153, 154, 0, 11, 42, 27, 182, 0, 156, 153, 0, 5, 4, 172, 42, 180, 0, 9, 27, 3]
abbrev dktX5_isDivideRefused_0 : List UInt8 := dkwX5_isDivideRefused_0 ++ dktX5_isDivideRefused_1
theorem dksX5_isDivideRefused_0 : cX5_isDivideRefused.data.toList.drop 0 = dktX5_isDivideRefused_0 := by decide +kernel
theorem dksX5_isDivideRefused_1 : cX5_isDivideRefused.data.toList.drop 24 = dktX5_isDivideRefused_1 := dk_seg dksX5_isDivideRefused_0 24 rfl rfl
theorem dksX5_isDivideRefused_2 : cX5_isDivideRefused.data.toList.drop 47 = dktX5_isDivideRefused_2 := dk_seg dksX5_isDivideRefused_1 23 rfl rfl
theorem dksX5_isDivideRefused_3 : cX5_isDivideRefused.data.toList.drop 70 = dktX5_isDivideRefused_3 := dk_seg dksX5_isDivideRefused_2 23 rfl rfl
theorem dksX5_isDivideRefused_4 : cX5_isDivideRefused.data.toList.drop 94 = dktX5_isDivideRefused_4 := dk_seg dksX5_isDivideRefused_3 24 rfl rfl
theorem dX5_isDivideRefused_0 : decode cX5_isDivideRefused 0 = .ok (.aload_n 0, 1) := dk_42 (dk_at dksX5_isDivideRefused_0 0 rfl rfl)
theorem dX5_isDivideRefused_1 : decode cX5_isDivideRefused 1 = .ok (.iload_n 1, 1) := dk_27 (dk_at dksX5_isDivideRefused_0 1 rfl rfl)
theorem dX5_isDivideRefused_2 : decode cX5_isDivideRefused 2 = .ok (.invokevirtual 153, 3) := dk_182 0 153 (dk_at dksX5_isDivideRefused_0 2 rfl rfl)
theorem dX5_isDivideRefused_5 : decode cX5_isDivideRefused 5 = .ok (.ifCond .ne 11, 3) := dk_154 0 11 (dk_at dksX5_isDivideRefused_0 5 rfl rfl)
theorem dX5_isDivideRefused_8 : decode cX5_isDivideRefused 8 = .ok (.aload_n 0, 1) := dk_42 (dk_at dksX5_isDivideRefused_0 8 rfl rfl)
theorem dX5_isDivideRefused_9 : decode cX5_isDivideRefused 9 = .ok (.iload_n 1, 1) := dk_27 (dk_at dksX5_isDivideRefused_0 9 rfl rfl)
theorem dX5_isDivideRefused_10 : decode cX5_isDivideRefused 10 = .ok (.invokevirtual 156, 3) := dk_182 0 156 (dk_at dksX5_isDivideRefused_0 10 rfl rfl)
theorem dX5_isDivideRefused_13 : decode cX5_isDivideRefused 13 = .ok (.ifCond .eq 5, 3) := dk_153 0 5 (dk_at dksX5_isDivideRefused_0 13 rfl rfl)
theorem dX5_isDivideRefused_16 : decode cX5_isDivideRefused 16 = .ok (.iconst 1, 1) := dk_4 (dk_at dksX5_isDivideRefused_0 16 rfl rfl)
theorem dX5_isDivideRefused_17 : decode cX5_isDivideRefused 17 = .ok (.ireturn, 1) := dk_172 (dk_at dksX5_isDivideRefused_0 17 rfl rfl)
theorem dX5_isDivideRefused_18 : decode cX5_isDivideRefused 18 = .ok (.aload_n 0, 1) := dk_42 (dk_at dksX5_isDivideRefused_0 18 rfl rfl)
theorem dX5_isDivideRefused_19 : decode cX5_isDivideRefused 19 = .ok (.getfield 9, 3) := dk_180 0 9 (dk_at dksX5_isDivideRefused_0 19 rfl rfl)
theorem dX5_isDivideRefused_22 : decode cX5_isDivideRefused 22 = .ok (.iload_n 1, 1) := dk_27 (dk_at dksX5_isDivideRefused_0 22 rfl rfl)
theorem dX5_isDivideRefused_23 : decode cX5_isDivideRefused 23 = .ok (.iconst 0, 1) := dk_3 (dk_at dksX5_isDivideRefused_0 23 rfl rfl)
theorem dX5_isDivideRefused_24 : decode cX5_isDivideRefused 24 = .ok (.invokestatic 92, 3) := dk_184 0 92 (dk_at dksX5_isDivideRefused_1 0 rfl rfl)
theorem dX5_isDivideRefused_27 : decode cX5_isDivideRefused 27 = .ok (.iaload, 1) := dk_46 (dk_at dksX5_isDivideRefused_1 3 rfl rfl)
theorem dX5_isDivideRefused_28 : decode cX5_isDivideRefused 28 = .ok (.iload_n 2, 1) := dk_28 (dk_at dksX5_isDivideRefused_1 4 rfl rfl)
theorem dX5_isDivideRefused_29 : decode cX5_isDivideRefused 29 = .ok (.isub, 1) := dk_100 (dk_at dksX5_isDivideRefused_1 5 rfl rfl)
theorem dX5_isDivideRefused_30 : decode cX5_isDivideRefused 30 = .ok (.istore_n 3, 1) := dk_62 (dk_at dksX5_isDivideRefused_1 6 rfl rfl)
theorem dX5_isDivideRefused_31 : decode cX5_isDivideRefused 31 = .ok (.aload_n 0, 1) := dk_42 (dk_at dksX5_isDivideRefused_1 7 rfl rfl)
theorem dX5_isDivideRefused_32 : decode cX5_isDivideRefused 32 = .ok (.iload_n 2, 1) := dk_28 (dk_at dksX5_isDivideRefused_1 8 rfl rfl)
theorem dX5_isDivideRefused_33 : decode cX5_isDivideRefused 33 = .ok (.iconst 1, 1) := dk_4 (dk_at dksX5_isDivideRefused_1 9 rfl rfl)
theorem dX5_isDivideRefused_34 : decode cX5_isDivideRefused 34 = .ok (.bipush 30, 2) := dk_16 30 (dk_at dksX5_isDivideRefused_1 10 rfl rfl)
theorem dX5_isDivideRefused_36 : decode cX5_isDivideRefused 36 = .ok (.invokestatic 88, 3) := dk_184 0 88 (dk_at dksX5_isDivideRefused_1 12 rfl rfl)
theorem dX5_isDivideRefused_39 : decode cX5_isDivideRefused 39 = .ok (.ifCond .ne 7, 3) := dk_154 0 7 (dk_at dksX5_isDivideRefused_1 15 rfl rfl)
theorem dX5_isDivideRefused_42 : decode cX5_isDivideRefused 42 = .ok (.iconst 1, 1) := dk_4 (dk_at dksX5_isDivideRefused_1 18 rfl rfl)
theorem dX5_isDivideRefused_43 : decode cX5_isDivideRefused 43 = .ok (.goto 4, 3) := dk_167 0 4 (dk_at dksX5_isDivideRefused_1 19 rfl rfl)
theorem dX5_isDivideRefused_46 : decode cX5_isDivideRefused 46 = .ok (.iconst 0, 1) := dk_3 (dk_at dksX5_isDivideRefused_1 22 rfl rfl)
theorem dX5_isDivideRefused_47 : decode cX5_isDivideRefused 47 = .ok (.bipush 17, 2) := dk_16 17 (dk_at dksX5_isDivideRefused_2 0 rfl rfl)
theorem dX5_isDivideRefused_49 : decode cX5_isDivideRefused 49 = .ok (.iload_n 2, 1) := dk_28 (dk_at dksX5_isDivideRefused_2 2 rfl rfl)
theorem dX5_isDivideRefused_50 : decode cX5_isDivideRefused 50 = .ok (.invokevirtual 110, 3) := dk_182 0 110 (dk_at dksX5_isDivideRefused_2 3 rfl rfl)
theorem dX5_isDivideRefused_53 : decode cX5_isDivideRefused 53 = .ok (.ifCond .ne 40, 3) := dk_154 0 40 (dk_at dksX5_isDivideRefused_2 6 rfl rfl)
theorem dX5_isDivideRefused_56 : decode cX5_isDivideRefused 56 = .ok (.aload_n 0, 1) := dk_42 (dk_at dksX5_isDivideRefused_2 9 rfl rfl)
theorem dX5_isDivideRefused_57 : decode cX5_isDivideRefused 57 = .ok (.iload_n 3, 1) := dk_29 (dk_at dksX5_isDivideRefused_2 10 rfl rfl)
theorem dX5_isDivideRefused_58 : decode cX5_isDivideRefused 58 = .ok (.iconst 1, 1) := dk_4 (dk_at dksX5_isDivideRefused_2 11 rfl rfl)
theorem dX5_isDivideRefused_59 : decode cX5_isDivideRefused 59 = .ok (.if_icmp .ge 7, 3) := dk_162 0 7 (dk_at dksX5_isDivideRefused_2 12 rfl rfl)
theorem dX5_isDivideRefused_62 : decode cX5_isDivideRefused 62 = .ok (.iconst 1, 1) := dk_4 (dk_at dksX5_isDivideRefused_2 15 rfl rfl)
theorem dX5_isDivideRefused_63 : decode cX5_isDivideRefused 63 = .ok (.goto 4, 3) := dk_167 0 4 (dk_at dksX5_isDivideRefused_2 16 rfl rfl)
theorem dX5_isDivideRefused_66 : decode cX5_isDivideRefused 66 = .ok (.iconst 0, 1) := dk_3 (dk_at dksX5_isDivideRefused_2 19 rfl rfl)
theorem dX5_isDivideRefused_67 : decode cX5_isDivideRefused 67 = .ok (.bipush 17, 2) := dk_16 17 (dk_at dksX5_isDivideRefused_2 20 rfl rfl)
theorem dX5_isDivideRefused_69 : decode cX5_isDivideRefused 69 = .ok (.iload_n 3, 1) := dk_29 (dk_at dksX5_isDivideRefused_2 22 rfl rfl)
theorem dX5_isDivideRefused_70 : decode cX5_isDivideRefused 70 = .ok (.invokevirtual 110, 3) := dk_182 0 110 (dk_at dksX5_isDivideRefused_3 0 rfl rfl)
theorem dX5_isDivideRefused_73 : decode cX5_isDivideRefused 73 = .ok (.ifCond .ne 20, 3) := dk_154 0 20 (dk_at dksX5_isDivideRefused_3 3 rfl rfl)
theorem dX5_isDivideRefused_76 : decode cX5_isDivideRefused 76 = .ok (.aload_n 0, 1) := dk_42 (dk_at dksX5_isDivideRefused_3 6 rfl rfl)
theorem dX5_isDivideRefused_77 : decode cX5_isDivideRefused 77 = .ok (.aload_n 0, 1) := dk_42 (dk_at dksX5_isDivideRefused_3 7 rfl rfl)
theorem dX5_isDivideRefused_78 : decode cX5_isDivideRefused 78 = .ok (.getfield 9, 3) := dk_180 0 9 (dk_at dksX5_isDivideRefused_3 8 rfl rfl)
theorem dX5_isDivideRefused_81 : decode cX5_isDivideRefused 81 = .ok (.iload_n 1, 1) := dk_27 (dk_at dksX5_isDivideRefused_3 11 rfl rfl)
theorem dX5_isDivideRefused_82 : decode cX5_isDivideRefused 82 = .ok (.iconst 1, 1) := dk_4 (dk_at dksX5_isDivideRefused_3 12 rfl rfl)
theorem dX5_isDivideRefused_83 : decode cX5_isDivideRefused 83 = .ok (.invokestatic 92, 3) := dk_184 0 92 (dk_at dksX5_isDivideRefused_3 13 rfl rfl)
theorem dX5_isDivideRefused_86 : decode cX5_isDivideRefused 86 = .ok (.iaload, 1) := dk_46 (dk_at dksX5_isDivideRefused_3 16 rfl rfl)
theorem dX5_isDivideRefused_87 : decode cX5_isDivideRefused 87 = .ok (.invokevirtual 144, 3) := dk_182 0 144 (dk_at dksX5_isDivideRefused_3 17 rfl rfl)
theorem dX5_isDivideRefused_90 : decode cX5_isDivideRefused 90 = .ok (.ifCond .eq 7, 3) := dk_153 0 7 (dk_at dksX5_isDivideRefused_3 20 rfl rfl)
theorem dX5_isDivideRefused_93 : decode cX5_isDivideRefused 93 = .ok (.iconst 1, 1) := dk_4 (dk_at dksX5_isDivideRefused_3 23 rfl rfl)
theorem dX5_isDivideRefused_94 : decode cX5_isDivideRefused 94 = .ok (.goto 4, 3) := dk_167 0 4 (dk_at dksX5_isDivideRefused_4 0 rfl rfl)
theorem dX5_isDivideRefused_97 : decode cX5_isDivideRefused 97 = .ok (.iconst 0, 1) := dk_3 (dk_at dksX5_isDivideRefused_4 3 rfl rfl)
theorem dX5_isDivideRefused_98 : decode cX5_isDivideRefused 98 = .ok (.ireturn, 1) := dk_172 (dk_at dksX5_isDivideRefused_4 4 rfl rfl)
abbrev cX5_change : ByteArray := prog_20_method_7_code
def yX5_change : MethodName := ⟨RX5, "change", "()V"⟩
def dkwX5_change_0 : List UInt8 := [42, 180, 0, 62, 154, 0, 11, 42, 42, 180, 0, 9, 182, 0, 66, 177]
abbrev dktX5_change_0 : List UInt8 := dkwX5_change_0 ++ []
theorem dksX5_change_0 : cX5_change.data.toList.drop 0 = dktX5_change_0 := by decide +kernel
theorem dX5_change_0 : decode cX5_change 0 = .ok (.aload_n 0, 1) := dk_42 (dk_at dksX5_change_0 0 rfl rfl)
theorem dX5_change_1 : decode cX5_change 1 = .ok (.getfield 62, 3) := dk_180 0 62 (dk_at dksX5_change_0 1 rfl rfl)
theorem dX5_change_4 : decode cX5_change 4 = .ok (.ifCond .ne 11, 3) := dk_154 0 11 (dk_at dksX5_change_0 4 rfl rfl)
theorem dX5_change_7 : decode cX5_change 7 = .ok (.aload_n 0, 1) := dk_42 (dk_at dksX5_change_0 7 rfl rfl)
theorem dX5_change_8 : decode cX5_change 8 = .ok (.aload_n 0, 1) := dk_42 (dk_at dksX5_change_0 8 rfl rfl)
theorem dX5_change_9 : decode cX5_change 9 = .ok (.getfield 9, 3) := dk_180 0 9 (dk_at dksX5_change_0 9 rfl rfl)
theorem dX5_change_12 : decode cX5_change 12 = .ok (.invokevirtual 66, 3) := dk_182 0 66 (dk_at dksX5_change_0 12 rfl rfl)
theorem dX5_change_15 : decode cX5_change 15 = .ok (.return_, 1) := dk_177 (dk_at dksX5_change_0 15 rfl rfl)
abbrev cX5_couple : ByteArray := prog_20_method_45_code
def yX5_couple : MethodName := ⟨RX5, "couple", "(II)I"⟩
def dkwX5_couple_3 : List UInt8 := [42, 28, 182, 0, 159, 29, 172]
abbrev dktX5_couple_3 : List UInt8 := dkwX5_couple_3 ++ []
def dkwX5_couple_2 : List UInt8 := [46, 42, 180, 0, 9, 28, 3, 184, 0, 92, 46, 96, 62, 42, 180, 0, 9, 27, 3, 184, 0, 92, 29, 79]
abbrev dktX5_couple_2 : List UInt8 := dkwX5_couple_2 ++ dktX5_couple_3
def dkwX5_couple_1 : List UInt8 := [182, 0, 169, 182, 0, 114, 153, 0, 5, 3, 172, 42, 182, 0, 166, 42, 180, 0, 9, 27, 3, 184, 0, 92]
abbrev dktX5_couple_1 : List UInt8 := dkwX5_couple_1 ++ dktX5_couple_2
def dkwX5_couple_0 : List UInt8 := [42, 4, 27, 28, 160, 0, 7, 4, 167, 0, 4, 3, 182, 0, 84, 154, 0, 17, 42, 5, 42, 27, 28]
abbrev dktX5_couple_0 : List UInt8 := dkwX5_couple_0 ++ dktX5_couple_1
theorem dksX5_couple_0 : cX5_couple.data.toList.drop 0 = dktX5_couple_0 := by decide +kernel
theorem dksX5_couple_1 : cX5_couple.data.toList.drop 23 = dktX5_couple_1 := dk_seg dksX5_couple_0 23 rfl rfl
theorem dksX5_couple_2 : cX5_couple.data.toList.drop 47 = dktX5_couple_2 := dk_seg dksX5_couple_1 24 rfl rfl
theorem dksX5_couple_3 : cX5_couple.data.toList.drop 71 = dktX5_couple_3 := dk_seg dksX5_couple_2 24 rfl rfl
theorem dX5_couple_0 : decode cX5_couple 0 = .ok (.aload_n 0, 1) := dk_42 (dk_at dksX5_couple_0 0 rfl rfl)
theorem dX5_couple_1 : decode cX5_couple 1 = .ok (.iconst 1, 1) := dk_4 (dk_at dksX5_couple_0 1 rfl rfl)
theorem dX5_couple_2 : decode cX5_couple 2 = .ok (.iload_n 1, 1) := dk_27 (dk_at dksX5_couple_0 2 rfl rfl)
theorem dX5_couple_3 : decode cX5_couple 3 = .ok (.iload_n 2, 1) := dk_28 (dk_at dksX5_couple_0 3 rfl rfl)
theorem dX5_couple_4 : decode cX5_couple 4 = .ok (.if_icmp .ne 7, 3) := dk_160 0 7 (dk_at dksX5_couple_0 4 rfl rfl)
theorem dX5_couple_7 : decode cX5_couple 7 = .ok (.iconst 1, 1) := dk_4 (dk_at dksX5_couple_0 7 rfl rfl)
theorem dX5_couple_8 : decode cX5_couple 8 = .ok (.goto 4, 3) := dk_167 0 4 (dk_at dksX5_couple_0 8 rfl rfl)
theorem dX5_couple_11 : decode cX5_couple 11 = .ok (.iconst 0, 1) := dk_3 (dk_at dksX5_couple_0 11 rfl rfl)
theorem dX5_couple_12 : decode cX5_couple 12 = .ok (.invokevirtual 84, 3) := dk_182 0 84 (dk_at dksX5_couple_0 12 rfl rfl)
theorem dX5_couple_15 : decode cX5_couple 15 = .ok (.ifCond .ne 17, 3) := dk_154 0 17 (dk_at dksX5_couple_0 15 rfl rfl)
theorem dX5_couple_18 : decode cX5_couple 18 = .ok (.aload_n 0, 1) := dk_42 (dk_at dksX5_couple_0 18 rfl rfl)
theorem dX5_couple_19 : decode cX5_couple 19 = .ok (.iconst 2, 1) := dk_5 (dk_at dksX5_couple_0 19 rfl rfl)
theorem dX5_couple_20 : decode cX5_couple 20 = .ok (.aload_n 0, 1) := dk_42 (dk_at dksX5_couple_0 20 rfl rfl)
theorem dX5_couple_21 : decode cX5_couple 21 = .ok (.iload_n 1, 1) := dk_27 (dk_at dksX5_couple_0 21 rfl rfl)
theorem dX5_couple_22 : decode cX5_couple 22 = .ok (.iload_n 2, 1) := dk_28 (dk_at dksX5_couple_0 22 rfl rfl)
theorem dX5_couple_23 : decode cX5_couple 23 = .ok (.invokevirtual 169, 3) := dk_182 0 169 (dk_at dksX5_couple_1 0 rfl rfl)
theorem dX5_couple_26 : decode cX5_couple 26 = .ok (.invokevirtual 114, 3) := dk_182 0 114 (dk_at dksX5_couple_1 3 rfl rfl)
theorem dX5_couple_29 : decode cX5_couple 29 = .ok (.ifCond .eq 5, 3) := dk_153 0 5 (dk_at dksX5_couple_1 6 rfl rfl)
theorem dX5_couple_32 : decode cX5_couple 32 = .ok (.iconst 0, 1) := dk_3 (dk_at dksX5_couple_1 9 rfl rfl)
theorem dX5_couple_33 : decode cX5_couple 33 = .ok (.ireturn, 1) := dk_172 (dk_at dksX5_couple_1 10 rfl rfl)
theorem dX5_couple_34 : decode cX5_couple 34 = .ok (.aload_n 0, 1) := dk_42 (dk_at dksX5_couple_1 11 rfl rfl)
theorem dX5_couple_35 : decode cX5_couple 35 = .ok (.invokevirtual 166, 3) := dk_182 0 166 (dk_at dksX5_couple_1 12 rfl rfl)
theorem dX5_couple_38 : decode cX5_couple 38 = .ok (.aload_n 0, 1) := dk_42 (dk_at dksX5_couple_1 15 rfl rfl)
theorem dX5_couple_39 : decode cX5_couple 39 = .ok (.getfield 9, 3) := dk_180 0 9 (dk_at dksX5_couple_1 16 rfl rfl)
theorem dX5_couple_42 : decode cX5_couple 42 = .ok (.iload_n 1, 1) := dk_27 (dk_at dksX5_couple_1 19 rfl rfl)
theorem dX5_couple_43 : decode cX5_couple 43 = .ok (.iconst 0, 1) := dk_3 (dk_at dksX5_couple_1 20 rfl rfl)
theorem dX5_couple_44 : decode cX5_couple 44 = .ok (.invokestatic 92, 3) := dk_184 0 92 (dk_at dksX5_couple_1 21 rfl rfl)
theorem dX5_couple_47 : decode cX5_couple 47 = .ok (.iaload, 1) := dk_46 (dk_at dksX5_couple_2 0 rfl rfl)
theorem dX5_couple_48 : decode cX5_couple 48 = .ok (.aload_n 0, 1) := dk_42 (dk_at dksX5_couple_2 1 rfl rfl)
theorem dX5_couple_49 : decode cX5_couple 49 = .ok (.getfield 9, 3) := dk_180 0 9 (dk_at dksX5_couple_2 2 rfl rfl)
theorem dX5_couple_52 : decode cX5_couple 52 = .ok (.iload_n 2, 1) := dk_28 (dk_at dksX5_couple_2 5 rfl rfl)
theorem dX5_couple_53 : decode cX5_couple 53 = .ok (.iconst 0, 1) := dk_3 (dk_at dksX5_couple_2 6 rfl rfl)
theorem dX5_couple_54 : decode cX5_couple 54 = .ok (.invokestatic 92, 3) := dk_184 0 92 (dk_at dksX5_couple_2 7 rfl rfl)
theorem dX5_couple_57 : decode cX5_couple 57 = .ok (.iaload, 1) := dk_46 (dk_at dksX5_couple_2 10 rfl rfl)
theorem dX5_couple_58 : decode cX5_couple 58 = .ok (.iadd, 1) := dk_96 (dk_at dksX5_couple_2 11 rfl rfl)
theorem dX5_couple_59 : decode cX5_couple 59 = .ok (.istore_n 3, 1) := dk_62 (dk_at dksX5_couple_2 12 rfl rfl)
theorem dX5_couple_60 : decode cX5_couple 60 = .ok (.aload_n 0, 1) := dk_42 (dk_at dksX5_couple_2 13 rfl rfl)
theorem dX5_couple_61 : decode cX5_couple 61 = .ok (.getfield 9, 3) := dk_180 0 9 (dk_at dksX5_couple_2 14 rfl rfl)
theorem dX5_couple_64 : decode cX5_couple 64 = .ok (.iload_n 1, 1) := dk_27 (dk_at dksX5_couple_2 17 rfl rfl)
theorem dX5_couple_65 : decode cX5_couple 65 = .ok (.iconst 0, 1) := dk_3 (dk_at dksX5_couple_2 18 rfl rfl)
theorem dX5_couple_66 : decode cX5_couple 66 = .ok (.invokestatic 92, 3) := dk_184 0 92 (dk_at dksX5_couple_2 19 rfl rfl)
theorem dX5_couple_69 : decode cX5_couple 69 = .ok (.iload_n 3, 1) := dk_29 (dk_at dksX5_couple_2 22 rfl rfl)
theorem dX5_couple_70 : decode cX5_couple 70 = .ok (.iastore, 1) := dk_79 (dk_at dksX5_couple_2 23 rfl rfl)
theorem dX5_couple_71 : decode cX5_couple 71 = .ok (.aload_n 0, 1) := dk_42 (dk_at dksX5_couple_3 0 rfl rfl)
theorem dX5_couple_72 : decode cX5_couple 72 = .ok (.iload_n 2, 1) := dk_28 (dk_at dksX5_couple_3 1 rfl rfl)
theorem dX5_couple_73 : decode cX5_couple 73 = .ok (.invokevirtual 159, 3) := dk_182 0 159 (dk_at dksX5_couple_3 2 rfl rfl)
theorem dX5_couple_76 : decode cX5_couple 76 = .ok (.iload_n 3, 1) := dk_29 (dk_at dksX5_couple_3 5 rfl rfl)
theorem dX5_couple_77 : decode cX5_couple 77 = .ok (.ireturn, 1) := dk_172 (dk_at dksX5_couple_3 6 rfl rfl)
abbrev cX5_isCoupleRefused : ByteArray := prog_20_method_44_code
def yX5_isCoupleRefused : MethodName := ⟨RX5, "isCoupleRefused", "(II)Z"⟩
def dkwX5_isCoupleRefused_5 : List UInt8 := [153, 0, 7, 4, 167, 0, 4, 3, 172]
abbrev dktX5_isCoupleRefused_5 : List UInt8 := dkwX5_isCoupleRefused_5 ++ []
def dkwX5_isCoupleRefused_4 : List UInt8 := [154, 0, 26, 42, 21, 4, 16, 30, 164, 0, 7, 4, 167, 0, 4, 3, 16, 17, 21, 4, 182, 0, 110]
abbrev dktX5_isCoupleRefused_4 : List UInt8 := dkwX5_isCoupleRefused_4 ++ dktX5_isCoupleRefused_5
def dkwX5_isCoupleRefused_3 : List UInt8 := [42, 180, 0, 9, 27, 4, 184, 0, 92, 46, 159, 0, 7, 4, 167, 0, 4, 3, 16, 16, 29, 182, 0, 110]
abbrev dktX5_isCoupleRefused_3 : List UInt8 := dkwX5_isCoupleRefused_3 ++ dktX5_isCoupleRefused_4
def dkwX5_isCoupleRefused_2 : List UInt8 := [180, 0, 9, 27, 3, 184, 0, 92, 46, 42, 180, 0, 9, 28, 3, 184, 0, 92, 46, 96, 54, 4, 42, 29]
abbrev dktX5_isCoupleRefused_2 : List UInt8 := dkwX5_isCoupleRefused_2 ++ dktX5_isCoupleRefused_3
def dkwX5_isCoupleRefused_1 : List UInt8 := [42, 28, 182, 0, 156, 153, 0, 5, 4, 172, 42, 180, 0, 9, 28, 4, 184, 0, 92, 46, 62, 42]
abbrev dktX5_isCoupleRefused_1 : List UInt8 := dkwX5_isCoupleRefused_1 ++ dktX5_isCoupleRefused_2
def dkwX5_isCoupleRefused_0 : List UInt8 := [42, 27, 182, 0, 153, 154, 0, 27, 42, 28, 182, 0, 153, 154, 0, 19, 42, 27, 182, 0, 156, 154, 0, 11]
abbrev dktX5_isCoupleRefused_0 : List UInt8 := dkwX5_isCoupleRefused_0 ++ dktX5_isCoupleRefused_1
theorem dksX5_isCoupleRefused_0 : cX5_isCoupleRefused.data.toList.drop 0 = dktX5_isCoupleRefused_0 := by decide +kernel
theorem dksX5_isCoupleRefused_1 : cX5_isCoupleRefused.data.toList.drop 24 = dktX5_isCoupleRefused_1 := dk_seg dksX5_isCoupleRefused_0 24 rfl rfl
theorem dksX5_isCoupleRefused_2 : cX5_isCoupleRefused.data.toList.drop 46 = dktX5_isCoupleRefused_2 := dk_seg dksX5_isCoupleRefused_1 22 rfl rfl
theorem dksX5_isCoupleRefused_3 : cX5_isCoupleRefused.data.toList.drop 70 = dktX5_isCoupleRefused_3 := dk_seg dksX5_isCoupleRefused_2 24 rfl rfl
theorem dksX5_isCoupleRefused_4 : cX5_isCoupleRefused.data.toList.drop 94 = dktX5_isCoupleRefused_4 := dk_seg dksX5_isCoupleRefused_3 24 rfl rfl
theorem dksX5_isCoupleRefused_5 : cX5_isCoupleRefused.data.toList.drop 117 = dktX5_isCoupleRefused_5 := dk_seg dksX5_isCoupleRefused_4 23 rfl rfl
theorem dX5_isCoupleRefused_0 : decode cX5_isCoupleRefused 0 = .ok (.aload_n 0, 1) := dk_42 (dk_at dksX5_isCoupleRefused_0 0 rfl rfl)
theorem dX5_isCoupleRefused_1 : decode cX5_isCoupleRefused 1 = .ok (.iload_n 1, 1) := dk_27 (dk_at dksX5_isCoupleRefused_0 1 rfl rfl)
theorem dX5_isCoupleRefused_2 : decode cX5_isCoupleRefused 2 = .ok (.invokevirtual 153, 3) := dk_182 0 153 (dk_at dksX5_isCoupleRefused_0 2 rfl rfl)
theorem dX5_isCoupleRefused_5 : decode cX5_isCoupleRefused 5 = .ok (.ifCond .ne 27, 3) := dk_154 0 27 (dk_at dksX5_isCoupleRefused_0 5 rfl rfl)
theorem dX5_isCoupleRefused_8 : decode cX5_isCoupleRefused 8 = .ok (.aload_n 0, 1) := dk_42 (dk_at dksX5_isCoupleRefused_0 8 rfl rfl)
theorem dX5_isCoupleRefused_9 : decode cX5_isCoupleRefused 9 = .ok (.iload_n 2, 1) := dk_28 (dk_at dksX5_isCoupleRefused_0 9 rfl rfl)
theorem dX5_isCoupleRefused_10 : decode cX5_isCoupleRefused 10 = .ok (.invokevirtual 153, 3) := dk_182 0 153 (dk_at dksX5_isCoupleRefused_0 10 rfl rfl)
theorem dX5_isCoupleRefused_13 : decode cX5_isCoupleRefused 13 = .ok (.ifCond .ne 19, 3) := dk_154 0 19 (dk_at dksX5_isCoupleRefused_0 13 rfl rfl)
theorem dX5_isCoupleRefused_16 : decode cX5_isCoupleRefused 16 = .ok (.aload_n 0, 1) := dk_42 (dk_at dksX5_isCoupleRefused_0 16 rfl rfl)
theorem dX5_isCoupleRefused_17 : decode cX5_isCoupleRefused 17 = .ok (.iload_n 1, 1) := dk_27 (dk_at dksX5_isCoupleRefused_0 17 rfl rfl)
theorem dX5_isCoupleRefused_18 : decode cX5_isCoupleRefused 18 = .ok (.invokevirtual 156, 3) := dk_182 0 156 (dk_at dksX5_isCoupleRefused_0 18 rfl rfl)
theorem dX5_isCoupleRefused_21 : decode cX5_isCoupleRefused 21 = .ok (.ifCond .ne 11, 3) := dk_154 0 11 (dk_at dksX5_isCoupleRefused_0 21 rfl rfl)
theorem dX5_isCoupleRefused_24 : decode cX5_isCoupleRefused 24 = .ok (.aload_n 0, 1) := dk_42 (dk_at dksX5_isCoupleRefused_1 0 rfl rfl)
theorem dX5_isCoupleRefused_25 : decode cX5_isCoupleRefused 25 = .ok (.iload_n 2, 1) := dk_28 (dk_at dksX5_isCoupleRefused_1 1 rfl rfl)
theorem dX5_isCoupleRefused_26 : decode cX5_isCoupleRefused 26 = .ok (.invokevirtual 156, 3) := dk_182 0 156 (dk_at dksX5_isCoupleRefused_1 2 rfl rfl)
theorem dX5_isCoupleRefused_29 : decode cX5_isCoupleRefused 29 = .ok (.ifCond .eq 5, 3) := dk_153 0 5 (dk_at dksX5_isCoupleRefused_1 5 rfl rfl)
theorem dX5_isCoupleRefused_32 : decode cX5_isCoupleRefused 32 = .ok (.iconst 1, 1) := dk_4 (dk_at dksX5_isCoupleRefused_1 8 rfl rfl)
theorem dX5_isCoupleRefused_33 : decode cX5_isCoupleRefused 33 = .ok (.ireturn, 1) := dk_172 (dk_at dksX5_isCoupleRefused_1 9 rfl rfl)
theorem dX5_isCoupleRefused_34 : decode cX5_isCoupleRefused 34 = .ok (.aload_n 0, 1) := dk_42 (dk_at dksX5_isCoupleRefused_1 10 rfl rfl)
theorem dX5_isCoupleRefused_35 : decode cX5_isCoupleRefused 35 = .ok (.getfield 9, 3) := dk_180 0 9 (dk_at dksX5_isCoupleRefused_1 11 rfl rfl)
theorem dX5_isCoupleRefused_38 : decode cX5_isCoupleRefused 38 = .ok (.iload_n 2, 1) := dk_28 (dk_at dksX5_isCoupleRefused_1 14 rfl rfl)
theorem dX5_isCoupleRefused_39 : decode cX5_isCoupleRefused 39 = .ok (.iconst 1, 1) := dk_4 (dk_at dksX5_isCoupleRefused_1 15 rfl rfl)
theorem dX5_isCoupleRefused_40 : decode cX5_isCoupleRefused 40 = .ok (.invokestatic 92, 3) := dk_184 0 92 (dk_at dksX5_isCoupleRefused_1 16 rfl rfl)
theorem dX5_isCoupleRefused_43 : decode cX5_isCoupleRefused 43 = .ok (.iaload, 1) := dk_46 (dk_at dksX5_isCoupleRefused_1 19 rfl rfl)
theorem dX5_isCoupleRefused_44 : decode cX5_isCoupleRefused 44 = .ok (.istore_n 3, 1) := dk_62 (dk_at dksX5_isCoupleRefused_1 20 rfl rfl)
theorem dX5_isCoupleRefused_45 : decode cX5_isCoupleRefused 45 = .ok (.aload_n 0, 1) := dk_42 (dk_at dksX5_isCoupleRefused_1 21 rfl rfl)
theorem dX5_isCoupleRefused_46 : decode cX5_isCoupleRefused 46 = .ok (.getfield 9, 3) := dk_180 0 9 (dk_at dksX5_isCoupleRefused_2 0 rfl rfl)
theorem dX5_isCoupleRefused_49 : decode cX5_isCoupleRefused 49 = .ok (.iload_n 1, 1) := dk_27 (dk_at dksX5_isCoupleRefused_2 3 rfl rfl)
theorem dX5_isCoupleRefused_50 : decode cX5_isCoupleRefused 50 = .ok (.iconst 0, 1) := dk_3 (dk_at dksX5_isCoupleRefused_2 4 rfl rfl)
theorem dX5_isCoupleRefused_51 : decode cX5_isCoupleRefused 51 = .ok (.invokestatic 92, 3) := dk_184 0 92 (dk_at dksX5_isCoupleRefused_2 5 rfl rfl)
theorem dX5_isCoupleRefused_54 : decode cX5_isCoupleRefused 54 = .ok (.iaload, 1) := dk_46 (dk_at dksX5_isCoupleRefused_2 8 rfl rfl)
theorem dX5_isCoupleRefused_55 : decode cX5_isCoupleRefused 55 = .ok (.aload_n 0, 1) := dk_42 (dk_at dksX5_isCoupleRefused_2 9 rfl rfl)
theorem dX5_isCoupleRefused_56 : decode cX5_isCoupleRefused 56 = .ok (.getfield 9, 3) := dk_180 0 9 (dk_at dksX5_isCoupleRefused_2 10 rfl rfl)
theorem dX5_isCoupleRefused_59 : decode cX5_isCoupleRefused 59 = .ok (.iload_n 2, 1) := dk_28 (dk_at dksX5_isCoupleRefused_2 13 rfl rfl)
theorem dX5_isCoupleRefused_60 : decode cX5_isCoupleRefused 60 = .ok (.iconst 0, 1) := dk_3 (dk_at dksX5_isCoupleRefused_2 14 rfl rfl)
theorem dX5_isCoupleRefused_61 : decode cX5_isCoupleRefused 61 = .ok (.invokestatic 92, 3) := dk_184 0 92 (dk_at dksX5_isCoupleRefused_2 15 rfl rfl)
theorem dX5_isCoupleRefused_64 : decode cX5_isCoupleRefused 64 = .ok (.iaload, 1) := dk_46 (dk_at dksX5_isCoupleRefused_2 18 rfl rfl)
theorem dX5_isCoupleRefused_65 : decode cX5_isCoupleRefused 65 = .ok (.iadd, 1) := dk_96 (dk_at dksX5_isCoupleRefused_2 19 rfl rfl)
theorem dX5_isCoupleRefused_66 : decode cX5_isCoupleRefused 66 = .ok (.istore 4, 2) := dk_54 4 (dk_at dksX5_isCoupleRefused_2 20 rfl rfl)
theorem dX5_isCoupleRefused_68 : decode cX5_isCoupleRefused 68 = .ok (.aload_n 0, 1) := dk_42 (dk_at dksX5_isCoupleRefused_2 22 rfl rfl)
theorem dX5_isCoupleRefused_69 : decode cX5_isCoupleRefused 69 = .ok (.iload_n 3, 1) := dk_29 (dk_at dksX5_isCoupleRefused_2 23 rfl rfl)
theorem dX5_isCoupleRefused_70 : decode cX5_isCoupleRefused 70 = .ok (.aload_n 0, 1) := dk_42 (dk_at dksX5_isCoupleRefused_3 0 rfl rfl)
theorem dX5_isCoupleRefused_71 : decode cX5_isCoupleRefused 71 = .ok (.getfield 9, 3) := dk_180 0 9 (dk_at dksX5_isCoupleRefused_3 1 rfl rfl)
theorem dX5_isCoupleRefused_74 : decode cX5_isCoupleRefused 74 = .ok (.iload_n 1, 1) := dk_27 (dk_at dksX5_isCoupleRefused_3 4 rfl rfl)
theorem dX5_isCoupleRefused_75 : decode cX5_isCoupleRefused 75 = .ok (.iconst 1, 1) := dk_4 (dk_at dksX5_isCoupleRefused_3 5 rfl rfl)
theorem dX5_isCoupleRefused_76 : decode cX5_isCoupleRefused 76 = .ok (.invokestatic 92, 3) := dk_184 0 92 (dk_at dksX5_isCoupleRefused_3 6 rfl rfl)
theorem dX5_isCoupleRefused_79 : decode cX5_isCoupleRefused 79 = .ok (.iaload, 1) := dk_46 (dk_at dksX5_isCoupleRefused_3 9 rfl rfl)
theorem dX5_isCoupleRefused_80 : decode cX5_isCoupleRefused 80 = .ok (.if_icmp .eq 7, 3) := dk_159 0 7 (dk_at dksX5_isCoupleRefused_3 10 rfl rfl)
theorem dX5_isCoupleRefused_83 : decode cX5_isCoupleRefused 83 = .ok (.iconst 1, 1) := dk_4 (dk_at dksX5_isCoupleRefused_3 13 rfl rfl)
theorem dX5_isCoupleRefused_84 : decode cX5_isCoupleRefused 84 = .ok (.goto 4, 3) := dk_167 0 4 (dk_at dksX5_isCoupleRefused_3 14 rfl rfl)
theorem dX5_isCoupleRefused_87 : decode cX5_isCoupleRefused 87 = .ok (.iconst 0, 1) := dk_3 (dk_at dksX5_isCoupleRefused_3 17 rfl rfl)
theorem dX5_isCoupleRefused_88 : decode cX5_isCoupleRefused 88 = .ok (.bipush 16, 2) := dk_16 16 (dk_at dksX5_isCoupleRefused_3 18 rfl rfl)
theorem dX5_isCoupleRefused_90 : decode cX5_isCoupleRefused 90 = .ok (.iload_n 3, 1) := dk_29 (dk_at dksX5_isCoupleRefused_3 20 rfl rfl)
theorem dX5_isCoupleRefused_91 : decode cX5_isCoupleRefused 91 = .ok (.invokevirtual 110, 3) := dk_182 0 110 (dk_at dksX5_isCoupleRefused_3 21 rfl rfl)
theorem dX5_isCoupleRefused_94 : decode cX5_isCoupleRefused 94 = .ok (.ifCond .ne 26, 3) := dk_154 0 26 (dk_at dksX5_isCoupleRefused_4 0 rfl rfl)
theorem dX5_isCoupleRefused_97 : decode cX5_isCoupleRefused 97 = .ok (.aload_n 0, 1) := dk_42 (dk_at dksX5_isCoupleRefused_4 3 rfl rfl)
theorem dX5_isCoupleRefused_98 : decode cX5_isCoupleRefused 98 = .ok (.iload 4, 2) := dk_21 4 (dk_at dksX5_isCoupleRefused_4 4 rfl rfl)
theorem dX5_isCoupleRefused_100 : decode cX5_isCoupleRefused 100 = .ok (.bipush 30, 2) := dk_16 30 (dk_at dksX5_isCoupleRefused_4 6 rfl rfl)
theorem dX5_isCoupleRefused_102 : decode cX5_isCoupleRefused 102 = .ok (.if_icmp .le 7, 3) := dk_164 0 7 (dk_at dksX5_isCoupleRefused_4 8 rfl rfl)
theorem dX5_isCoupleRefused_105 : decode cX5_isCoupleRefused 105 = .ok (.iconst 1, 1) := dk_4 (dk_at dksX5_isCoupleRefused_4 11 rfl rfl)
theorem dX5_isCoupleRefused_106 : decode cX5_isCoupleRefused 106 = .ok (.goto 4, 3) := dk_167 0 4 (dk_at dksX5_isCoupleRefused_4 12 rfl rfl)
theorem dX5_isCoupleRefused_109 : decode cX5_isCoupleRefused 109 = .ok (.iconst 0, 1) := dk_3 (dk_at dksX5_isCoupleRefused_4 15 rfl rfl)
theorem dX5_isCoupleRefused_110 : decode cX5_isCoupleRefused 110 = .ok (.bipush 17, 2) := dk_16 17 (dk_at dksX5_isCoupleRefused_4 16 rfl rfl)
theorem dX5_isCoupleRefused_112 : decode cX5_isCoupleRefused 112 = .ok (.iload 4, 2) := dk_21 4 (dk_at dksX5_isCoupleRefused_4 18 rfl rfl)
theorem dX5_isCoupleRefused_114 : decode cX5_isCoupleRefused 114 = .ok (.invokevirtual 110, 3) := dk_182 0 110 (dk_at dksX5_isCoupleRefused_4 20 rfl rfl)
theorem dX5_isCoupleRefused_117 : decode cX5_isCoupleRefused 117 = .ok (.ifCond .eq 7, 3) := dk_153 0 7 (dk_at dksX5_isCoupleRefused_5 0 rfl rfl)
theorem dX5_isCoupleRefused_120 : decode cX5_isCoupleRefused 120 = .ok (.iconst 1, 1) := dk_4 (dk_at dksX5_isCoupleRefused_5 3 rfl rfl)
theorem dX5_isCoupleRefused_121 : decode cX5_isCoupleRefused 121 = .ok (.goto 4, 3) := dk_167 0 4 (dk_at dksX5_isCoupleRefused_5 4 rfl rfl)
theorem dX5_isCoupleRefused_124 : decode cX5_isCoupleRefused 124 = .ok (.iconst 0, 1) := dk_3 (dk_at dksX5_isCoupleRefused_5 7 rfl rfl)
theorem dX5_isCoupleRefused_125 : decode cX5_isCoupleRefused 125 = .ok (.ireturn, 1) := dk_172 (dk_at dksX5_isCoupleRefused_5 8 rfl rfl)
abbrev cX5_trainOf : ByteArray := prog_20_method_46_code
def yX5_trainOf : MethodName := ⟨RX5, "trainOf", "(II)I"⟩
def dkwX5_trainOf_2 : List UInt8 := [180, 0, 9, 27, 28, 184, 0, 92, 46, 172]
abbrev dktX5_trainOf_2 : List UInt8 := dkwX5_trainOf_2 ++ []
def dkwX5_trainOf_1 : List UInt8 := [3, 16, 6, 184, 0, 88, 154, 0, 7, 4, 167, 0, 4, 3, 182, 0, 84, 153, 0, 5, 3, 172, 42]
abbrev dktX5_trainOf_1 : List UInt8 := dkwX5_trainOf_1 ++ dktX5_trainOf_2
def dkwX5_trainOf_0 : List UInt8 := [42, 4, 42, 27, 182, 0, 150, 154, 0, 7, 4, 167, 0, 4, 3, 182, 0, 84, 154, 0, 26, 42, 5, 28]
abbrev dktX5_trainOf_0 : List UInt8 := dkwX5_trainOf_0 ++ dktX5_trainOf_1
theorem dksX5_trainOf_0 : cX5_trainOf.data.toList.drop 0 = dktX5_trainOf_0 := by decide +kernel
theorem dksX5_trainOf_1 : cX5_trainOf.data.toList.drop 24 = dktX5_trainOf_1 := dk_seg dksX5_trainOf_0 24 rfl rfl
theorem dksX5_trainOf_2 : cX5_trainOf.data.toList.drop 47 = dktX5_trainOf_2 := dk_seg dksX5_trainOf_1 23 rfl rfl
theorem dX5_trainOf_0 : decode cX5_trainOf 0 = .ok (.aload_n 0, 1) := dk_42 (dk_at dksX5_trainOf_0 0 rfl rfl)
theorem dX5_trainOf_1 : decode cX5_trainOf 1 = .ok (.iconst 1, 1) := dk_4 (dk_at dksX5_trainOf_0 1 rfl rfl)
theorem dX5_trainOf_2 : decode cX5_trainOf 2 = .ok (.aload_n 0, 1) := dk_42 (dk_at dksX5_trainOf_0 2 rfl rfl)
theorem dX5_trainOf_3 : decode cX5_trainOf 3 = .ok (.iload_n 1, 1) := dk_27 (dk_at dksX5_trainOf_0 3 rfl rfl)
theorem dX5_trainOf_4 : decode cX5_trainOf 4 = .ok (.invokevirtual 150, 3) := dk_182 0 150 (dk_at dksX5_trainOf_0 4 rfl rfl)
theorem dX5_trainOf_7 : decode cX5_trainOf 7 = .ok (.ifCond .ne 7, 3) := dk_154 0 7 (dk_at dksX5_trainOf_0 7 rfl rfl)
theorem dX5_trainOf_10 : decode cX5_trainOf 10 = .ok (.iconst 1, 1) := dk_4 (dk_at dksX5_trainOf_0 10 rfl rfl)
theorem dX5_trainOf_11 : decode cX5_trainOf 11 = .ok (.goto 4, 3) := dk_167 0 4 (dk_at dksX5_trainOf_0 11 rfl rfl)
theorem dX5_trainOf_14 : decode cX5_trainOf 14 = .ok (.iconst 0, 1) := dk_3 (dk_at dksX5_trainOf_0 14 rfl rfl)
theorem dX5_trainOf_15 : decode cX5_trainOf 15 = .ok (.invokevirtual 84, 3) := dk_182 0 84 (dk_at dksX5_trainOf_0 15 rfl rfl)
theorem dX5_trainOf_18 : decode cX5_trainOf 18 = .ok (.ifCond .ne 26, 3) := dk_154 0 26 (dk_at dksX5_trainOf_0 18 rfl rfl)
theorem dX5_trainOf_21 : decode cX5_trainOf 21 = .ok (.aload_n 0, 1) := dk_42 (dk_at dksX5_trainOf_0 21 rfl rfl)
theorem dX5_trainOf_22 : decode cX5_trainOf 22 = .ok (.iconst 2, 1) := dk_5 (dk_at dksX5_trainOf_0 22 rfl rfl)
theorem dX5_trainOf_23 : decode cX5_trainOf 23 = .ok (.iload_n 2, 1) := dk_28 (dk_at dksX5_trainOf_0 23 rfl rfl)
theorem dX5_trainOf_24 : decode cX5_trainOf 24 = .ok (.iconst 0, 1) := dk_3 (dk_at dksX5_trainOf_1 0 rfl rfl)
theorem dX5_trainOf_25 : decode cX5_trainOf 25 = .ok (.bipush 6, 2) := dk_16 6 (dk_at dksX5_trainOf_1 1 rfl rfl)
theorem dX5_trainOf_27 : decode cX5_trainOf 27 = .ok (.invokestatic 88, 3) := dk_184 0 88 (dk_at dksX5_trainOf_1 3 rfl rfl)
theorem dX5_trainOf_30 : decode cX5_trainOf 30 = .ok (.ifCond .ne 7, 3) := dk_154 0 7 (dk_at dksX5_trainOf_1 6 rfl rfl)
theorem dX5_trainOf_33 : decode cX5_trainOf 33 = .ok (.iconst 1, 1) := dk_4 (dk_at dksX5_trainOf_1 9 rfl rfl)
theorem dX5_trainOf_34 : decode cX5_trainOf 34 = .ok (.goto 4, 3) := dk_167 0 4 (dk_at dksX5_trainOf_1 10 rfl rfl)
theorem dX5_trainOf_37 : decode cX5_trainOf 37 = .ok (.iconst 0, 1) := dk_3 (dk_at dksX5_trainOf_1 13 rfl rfl)
theorem dX5_trainOf_38 : decode cX5_trainOf 38 = .ok (.invokevirtual 84, 3) := dk_182 0 84 (dk_at dksX5_trainOf_1 14 rfl rfl)
theorem dX5_trainOf_41 : decode cX5_trainOf 41 = .ok (.ifCond .eq 5, 3) := dk_153 0 5 (dk_at dksX5_trainOf_1 17 rfl rfl)
theorem dX5_trainOf_44 : decode cX5_trainOf 44 = .ok (.iconst 0, 1) := dk_3 (dk_at dksX5_trainOf_1 20 rfl rfl)
theorem dX5_trainOf_45 : decode cX5_trainOf 45 = .ok (.ireturn, 1) := dk_172 (dk_at dksX5_trainOf_1 21 rfl rfl)
theorem dX5_trainOf_46 : decode cX5_trainOf 46 = .ok (.aload_n 0, 1) := dk_42 (dk_at dksX5_trainOf_1 22 rfl rfl)
theorem dX5_trainOf_47 : decode cX5_trainOf 47 = .ok (.getfield 9, 3) := dk_180 0 9 (dk_at dksX5_trainOf_2 0 rfl rfl)
theorem dX5_trainOf_50 : decode cX5_trainOf 50 = .ok (.iload_n 1, 1) := dk_27 (dk_at dksX5_trainOf_2 3 rfl rfl)
theorem dX5_trainOf_51 : decode cX5_trainOf 51 = .ok (.iload_n 2, 1) := dk_28 (dk_at dksX5_trainOf_2 4 rfl rfl)
theorem dX5_trainOf_52 : decode cX5_trainOf 52 = .ok (.invokestatic 92, 3) := dk_184 0 92 (dk_at dksX5_trainOf_2 5 rfl rfl)
theorem dX5_trainOf_55 : decode cX5_trainOf 55 = .ok (.iaload, 1) := dk_46 (dk_at dksX5_trainOf_2 8 rfl rfl)
theorem dX5_trainOf_56 : decode cX5_trainOf 56 = .ok (.ireturn, 1) := dk_172 (dk_at dksX5_trainOf_2 9 rfl rfl)
abbrev cX5_send : ByteArray := prog_20_method_53_code
def yX5_send : MethodName := ⟨RX5, "send", "(II)I"⟩
def dkwX5_send_10 : List UInt8 := [42, 29, 3, 27, 182, 0, 102, 21, 6, 172]
abbrev dktX5_send_10 : List UInt8 := dkwX5_send_10 ++ []
def dkwX5_send_9 : List UInt8 := [180, 0, 9, 21, 4, 29, 21, 4, 160, 0, 7, 6, 167, 0, 4, 7, 184, 0, 117, 92, 46, 4, 100, 79]
abbrev dktX5_send_9 : List UInt8 := dkwX5_send_9 ++ dktX5_send_10
def dkwX5_send_8 : List UInt8 := [184, 0, 92, 21, 7, 79, 42, 180, 0, 9, 21, 7, 3, 184, 0, 99, 2, 79, 167, 0, 28, 42]
abbrev dktX5_send_8 : List UInt8 := dkwX5_send_8 ++ dktX5_send_9
def dkwX5_send_7 : List UInt8 := [167, 0, 4, 4, 79, 21, 5, 153, 0, 38, 42, 21, 4, 182, 0, 135, 54, 7, 42, 180, 0, 9, 27, 8]
abbrev dktX5_send_7 : List UInt8 := dkwX5_send_7 ++ dktX5_send_8
def dkwX5_send_6 : List UInt8 := [184, 0, 92, 21, 6, 79, 42, 180, 0, 9, 27, 16, 6, 184, 0, 92, 21, 5, 153, 0, 7, 3]
abbrev dktX5_send_6 : List UInt8 := dkwX5_send_6 ++ dktX5_send_7
def dkwX5_send_5 : List UInt8 := [184, 0, 92, 21, 4, 79, 42, 180, 0, 9, 27, 6, 184, 0, 92, 28, 79, 42, 180, 0, 9, 27, 7]
abbrev dktX5_send_5 : List UInt8 := dkwX5_send_5 ++ dktX5_send_6
def dkwX5_send_4 : List UInt8 := [4, 167, 0, 4, 3, 96, 79, 42, 180, 0, 9, 27, 4, 184, 0, 92, 2, 79, 42, 180, 0, 9, 27, 5]
abbrev dktX5_send_4 : List UInt8 := dkwX5_send_4 ++ dktX5_send_5
def dkwX5_send_3 : List UInt8 := [182, 0, 187, 54, 6, 42, 180, 0, 9, 17, 0, 184, 92, 46, 42, 27, 21, 4, 182, 0, 175, 153, 0, 7]
abbrev dktX5_send_3 : List UInt8 := dkwX5_send_3 ++ dktX5_send_4
def dkwX5_send_2 : List UInt8 := [21, 4, 8, 184, 0, 117, 46, 4, 160, 0, 7, 4, 167, 0, 4, 3, 54, 5, 42, 27, 21, 4]
abbrev dktX5_send_2 : List UInt8 := dkwX5_send_2 ++ dktX5_send_3
def dkwX5_send_1 : List UInt8 := [27, 4, 184, 0, 92, 46, 62, 29, 28, 162, 0, 7, 29, 167, 0, 4, 28, 54, 4, 42, 180, 0, 9]
abbrev dktX5_send_1 : List UInt8 := dkwX5_send_1 ++ dktX5_send_2
def dkwX5_send_0 : List UInt8 := [42, 4, 42, 27, 28, 182, 0, 184, 182, 0, 114, 153, 0, 5, 3, 172, 42, 182, 0, 166, 42, 180, 0, 9]
abbrev dktX5_send_0 : List UInt8 := dkwX5_send_0 ++ dktX5_send_1
theorem dksX5_send_0 : cX5_send.data.toList.drop 0 = dktX5_send_0 := by decide +kernel
theorem dksX5_send_1 : cX5_send.data.toList.drop 24 = dktX5_send_1 := dk_seg dksX5_send_0 24 rfl rfl
theorem dksX5_send_2 : cX5_send.data.toList.drop 47 = dktX5_send_2 := dk_seg dksX5_send_1 23 rfl rfl
theorem dksX5_send_3 : cX5_send.data.toList.drop 69 = dktX5_send_3 := dk_seg dksX5_send_2 22 rfl rfl
theorem dksX5_send_4 : cX5_send.data.toList.drop 93 = dktX5_send_4 := dk_seg dksX5_send_3 24 rfl rfl
theorem dksX5_send_5 : cX5_send.data.toList.drop 117 = dktX5_send_5 := dk_seg dksX5_send_4 24 rfl rfl
theorem dksX5_send_6 : cX5_send.data.toList.drop 140 = dktX5_send_6 := dk_seg dksX5_send_5 23 rfl rfl
theorem dksX5_send_7 : cX5_send.data.toList.drop 162 = dktX5_send_7 := dk_seg dksX5_send_6 22 rfl rfl
theorem dksX5_send_8 : cX5_send.data.toList.drop 186 = dktX5_send_8 := dk_seg dksX5_send_7 24 rfl rfl
theorem dksX5_send_9 : cX5_send.data.toList.drop 208 = dktX5_send_9 := dk_seg dksX5_send_8 22 rfl rfl
theorem dksX5_send_10 : cX5_send.data.toList.drop 232 = dktX5_send_10 := dk_seg dksX5_send_9 24 rfl rfl
theorem dX5_send_0 : decode cX5_send 0 = .ok (.aload_n 0, 1) := dk_42 (dk_at dksX5_send_0 0 rfl rfl)
theorem dX5_send_1 : decode cX5_send 1 = .ok (.iconst 1, 1) := dk_4 (dk_at dksX5_send_0 1 rfl rfl)
theorem dX5_send_2 : decode cX5_send 2 = .ok (.aload_n 0, 1) := dk_42 (dk_at dksX5_send_0 2 rfl rfl)
theorem dX5_send_3 : decode cX5_send 3 = .ok (.iload_n 1, 1) := dk_27 (dk_at dksX5_send_0 3 rfl rfl)
theorem dX5_send_4 : decode cX5_send 4 = .ok (.iload_n 2, 1) := dk_28 (dk_at dksX5_send_0 4 rfl rfl)
theorem dX5_send_5 : decode cX5_send 5 = .ok (.invokevirtual 184, 3) := dk_182 0 184 (dk_at dksX5_send_0 5 rfl rfl)
theorem dX5_send_8 : decode cX5_send 8 = .ok (.invokevirtual 114, 3) := dk_182 0 114 (dk_at dksX5_send_0 8 rfl rfl)
theorem dX5_send_11 : decode cX5_send 11 = .ok (.ifCond .eq 5, 3) := dk_153 0 5 (dk_at dksX5_send_0 11 rfl rfl)
theorem dX5_send_14 : decode cX5_send 14 = .ok (.iconst 0, 1) := dk_3 (dk_at dksX5_send_0 14 rfl rfl)
theorem dX5_send_15 : decode cX5_send 15 = .ok (.ireturn, 1) := dk_172 (dk_at dksX5_send_0 15 rfl rfl)
theorem dX5_send_16 : decode cX5_send 16 = .ok (.aload_n 0, 1) := dk_42 (dk_at dksX5_send_0 16 rfl rfl)
theorem dX5_send_17 : decode cX5_send 17 = .ok (.invokevirtual 166, 3) := dk_182 0 166 (dk_at dksX5_send_0 17 rfl rfl)
theorem dX5_send_20 : decode cX5_send 20 = .ok (.aload_n 0, 1) := dk_42 (dk_at dksX5_send_0 20 rfl rfl)
theorem dX5_send_21 : decode cX5_send 21 = .ok (.getfield 9, 3) := dk_180 0 9 (dk_at dksX5_send_0 21 rfl rfl)
theorem dX5_send_24 : decode cX5_send 24 = .ok (.iload_n 1, 1) := dk_27 (dk_at dksX5_send_1 0 rfl rfl)
theorem dX5_send_25 : decode cX5_send 25 = .ok (.iconst 1, 1) := dk_4 (dk_at dksX5_send_1 1 rfl rfl)
theorem dX5_send_26 : decode cX5_send 26 = .ok (.invokestatic 92, 3) := dk_184 0 92 (dk_at dksX5_send_1 2 rfl rfl)
theorem dX5_send_29 : decode cX5_send 29 = .ok (.iaload, 1) := dk_46 (dk_at dksX5_send_1 5 rfl rfl)
theorem dX5_send_30 : decode cX5_send 30 = .ok (.istore_n 3, 1) := dk_62 (dk_at dksX5_send_1 6 rfl rfl)
theorem dX5_send_31 : decode cX5_send 31 = .ok (.iload_n 3, 1) := dk_29 (dk_at dksX5_send_1 7 rfl rfl)
theorem dX5_send_32 : decode cX5_send 32 = .ok (.iload_n 2, 1) := dk_28 (dk_at dksX5_send_1 8 rfl rfl)
theorem dX5_send_33 : decode cX5_send 33 = .ok (.if_icmp .ge 7, 3) := dk_162 0 7 (dk_at dksX5_send_1 9 rfl rfl)
theorem dX5_send_36 : decode cX5_send 36 = .ok (.iload_n 3, 1) := dk_29 (dk_at dksX5_send_1 12 rfl rfl)
theorem dX5_send_37 : decode cX5_send 37 = .ok (.goto 4, 3) := dk_167 0 4 (dk_at dksX5_send_1 13 rfl rfl)
theorem dX5_send_40 : decode cX5_send 40 = .ok (.iload_n 2, 1) := dk_28 (dk_at dksX5_send_1 16 rfl rfl)
theorem dX5_send_41 : decode cX5_send 41 = .ok (.istore 4, 2) := dk_54 4 (dk_at dksX5_send_1 17 rfl rfl)
theorem dX5_send_43 : decode cX5_send 43 = .ok (.aload_n 0, 1) := dk_42 (dk_at dksX5_send_1 19 rfl rfl)
theorem dX5_send_44 : decode cX5_send 44 = .ok (.getfield 9, 3) := dk_180 0 9 (dk_at dksX5_send_1 20 rfl rfl)
theorem dX5_send_47 : decode cX5_send 47 = .ok (.iload 4, 2) := dk_21 4 (dk_at dksX5_send_2 0 rfl rfl)
theorem dX5_send_49 : decode cX5_send 49 = .ok (.iconst 5, 1) := dk_8 (dk_at dksX5_send_2 2 rfl rfl)
theorem dX5_send_50 : decode cX5_send 50 = .ok (.invokestatic 117, 3) := dk_184 0 117 (dk_at dksX5_send_2 3 rfl rfl)
theorem dX5_send_53 : decode cX5_send 53 = .ok (.iaload, 1) := dk_46 (dk_at dksX5_send_2 6 rfl rfl)
theorem dX5_send_54 : decode cX5_send 54 = .ok (.iconst 1, 1) := dk_4 (dk_at dksX5_send_2 7 rfl rfl)
theorem dX5_send_55 : decode cX5_send 55 = .ok (.if_icmp .ne 7, 3) := dk_160 0 7 (dk_at dksX5_send_2 8 rfl rfl)
theorem dX5_send_58 : decode cX5_send 58 = .ok (.iconst 1, 1) := dk_4 (dk_at dksX5_send_2 11 rfl rfl)
theorem dX5_send_59 : decode cX5_send 59 = .ok (.goto 4, 3) := dk_167 0 4 (dk_at dksX5_send_2 12 rfl rfl)
theorem dX5_send_62 : decode cX5_send 62 = .ok (.iconst 0, 1) := dk_3 (dk_at dksX5_send_2 15 rfl rfl)
theorem dX5_send_63 : decode cX5_send 63 = .ok (.istore 5, 2) := dk_54 5 (dk_at dksX5_send_2 16 rfl rfl)
theorem dX5_send_65 : decode cX5_send 65 = .ok (.aload_n 0, 1) := dk_42 (dk_at dksX5_send_2 18 rfl rfl)
theorem dX5_send_66 : decode cX5_send 66 = .ok (.iload_n 1, 1) := dk_27 (dk_at dksX5_send_2 19 rfl rfl)
theorem dX5_send_67 : decode cX5_send 67 = .ok (.iload 4, 2) := dk_21 4 (dk_at dksX5_send_2 20 rfl rfl)
theorem dX5_send_69 : decode cX5_send 69 = .ok (.invokevirtual 187, 3) := dk_182 0 187 (dk_at dksX5_send_3 0 rfl rfl)
theorem dX5_send_72 : decode cX5_send 72 = .ok (.istore 6, 2) := dk_54 6 (dk_at dksX5_send_3 3 rfl rfl)
theorem dX5_send_74 : decode cX5_send 74 = .ok (.aload_n 0, 1) := dk_42 (dk_at dksX5_send_3 5 rfl rfl)
theorem dX5_send_75 : decode cX5_send 75 = .ok (.getfield 9, 3) := dk_180 0 9 (dk_at dksX5_send_3 6 rfl rfl)
theorem dX5_send_78 : decode cX5_send 78 = .ok (.sipush 184, 3) := dk_17 0 184 (dk_at dksX5_send_3 9 rfl rfl)
theorem dX5_send_81 : decode cX5_send 81 = .ok (.dup2, 1) := dk_92 (dk_at dksX5_send_3 12 rfl rfl)
theorem dX5_send_82 : decode cX5_send 82 = .ok (.iaload, 1) := dk_46 (dk_at dksX5_send_3 13 rfl rfl)
theorem dX5_send_83 : decode cX5_send 83 = .ok (.aload_n 0, 1) := dk_42 (dk_at dksX5_send_3 14 rfl rfl)
theorem dX5_send_84 : decode cX5_send 84 = .ok (.iload_n 1, 1) := dk_27 (dk_at dksX5_send_3 15 rfl rfl)
theorem dX5_send_85 : decode cX5_send 85 = .ok (.iload 4, 2) := dk_21 4 (dk_at dksX5_send_3 16 rfl rfl)
theorem dX5_send_87 : decode cX5_send 87 = .ok (.invokevirtual 175, 3) := dk_182 0 175 (dk_at dksX5_send_3 18 rfl rfl)
theorem dX5_send_90 : decode cX5_send 90 = .ok (.ifCond .eq 7, 3) := dk_153 0 7 (dk_at dksX5_send_3 21 rfl rfl)
theorem dX5_send_93 : decode cX5_send 93 = .ok (.iconst 1, 1) := dk_4 (dk_at dksX5_send_4 0 rfl rfl)
theorem dX5_send_94 : decode cX5_send 94 = .ok (.goto 4, 3) := dk_167 0 4 (dk_at dksX5_send_4 1 rfl rfl)
theorem dX5_send_97 : decode cX5_send 97 = .ok (.iconst 0, 1) := dk_3 (dk_at dksX5_send_4 4 rfl rfl)
theorem dX5_send_98 : decode cX5_send 98 = .ok (.iadd, 1) := dk_96 (dk_at dksX5_send_4 5 rfl rfl)
theorem dX5_send_99 : decode cX5_send 99 = .ok (.iastore, 1) := dk_79 (dk_at dksX5_send_4 6 rfl rfl)
theorem dX5_send_100 : decode cX5_send 100 = .ok (.aload_n 0, 1) := dk_42 (dk_at dksX5_send_4 7 rfl rfl)
theorem dX5_send_101 : decode cX5_send 101 = .ok (.getfield 9, 3) := dk_180 0 9 (dk_at dksX5_send_4 8 rfl rfl)
theorem dX5_send_104 : decode cX5_send 104 = .ok (.iload_n 1, 1) := dk_27 (dk_at dksX5_send_4 11 rfl rfl)
theorem dX5_send_105 : decode cX5_send 105 = .ok (.iconst 1, 1) := dk_4 (dk_at dksX5_send_4 12 rfl rfl)
theorem dX5_send_106 : decode cX5_send 106 = .ok (.invokestatic 92, 3) := dk_184 0 92 (dk_at dksX5_send_4 13 rfl rfl)
theorem dX5_send_109 : decode cX5_send 109 = .ok (.iconst (-1), 1) := dk_2 (dk_at dksX5_send_4 16 rfl rfl)
theorem dX5_send_110 : decode cX5_send 110 = .ok (.iastore, 1) := dk_79 (dk_at dksX5_send_4 17 rfl rfl)
theorem dX5_send_111 : decode cX5_send 111 = .ok (.aload_n 0, 1) := dk_42 (dk_at dksX5_send_4 18 rfl rfl)
theorem dX5_send_112 : decode cX5_send 112 = .ok (.getfield 9, 3) := dk_180 0 9 (dk_at dksX5_send_4 19 rfl rfl)
theorem dX5_send_115 : decode cX5_send 115 = .ok (.iload_n 1, 1) := dk_27 (dk_at dksX5_send_4 22 rfl rfl)
theorem dX5_send_116 : decode cX5_send 116 = .ok (.iconst 2, 1) := dk_5 (dk_at dksX5_send_4 23 rfl rfl)
theorem dX5_send_117 : decode cX5_send 117 = .ok (.invokestatic 92, 3) := dk_184 0 92 (dk_at dksX5_send_5 0 rfl rfl)
theorem dX5_send_120 : decode cX5_send 120 = .ok (.iload 4, 2) := dk_21 4 (dk_at dksX5_send_5 3 rfl rfl)
theorem dX5_send_122 : decode cX5_send 122 = .ok (.iastore, 1) := dk_79 (dk_at dksX5_send_5 5 rfl rfl)
theorem dX5_send_123 : decode cX5_send 123 = .ok (.aload_n 0, 1) := dk_42 (dk_at dksX5_send_5 6 rfl rfl)
theorem dX5_send_124 : decode cX5_send 124 = .ok (.getfield 9, 3) := dk_180 0 9 (dk_at dksX5_send_5 7 rfl rfl)
theorem dX5_send_127 : decode cX5_send 127 = .ok (.iload_n 1, 1) := dk_27 (dk_at dksX5_send_5 10 rfl rfl)
theorem dX5_send_128 : decode cX5_send 128 = .ok (.iconst 3, 1) := dk_6 (dk_at dksX5_send_5 11 rfl rfl)
theorem dX5_send_129 : decode cX5_send 129 = .ok (.invokestatic 92, 3) := dk_184 0 92 (dk_at dksX5_send_5 12 rfl rfl)
theorem dX5_send_132 : decode cX5_send 132 = .ok (.iload_n 2, 1) := dk_28 (dk_at dksX5_send_5 15 rfl rfl)
theorem dX5_send_133 : decode cX5_send 133 = .ok (.iastore, 1) := dk_79 (dk_at dksX5_send_5 16 rfl rfl)
theorem dX5_send_134 : decode cX5_send 134 = .ok (.aload_n 0, 1) := dk_42 (dk_at dksX5_send_5 17 rfl rfl)
theorem dX5_send_135 : decode cX5_send 135 = .ok (.getfield 9, 3) := dk_180 0 9 (dk_at dksX5_send_5 18 rfl rfl)
theorem dX5_send_138 : decode cX5_send 138 = .ok (.iload_n 1, 1) := dk_27 (dk_at dksX5_send_5 21 rfl rfl)
theorem dX5_send_139 : decode cX5_send 139 = .ok (.iconst 4, 1) := dk_7 (dk_at dksX5_send_5 22 rfl rfl)
theorem dX5_send_140 : decode cX5_send 140 = .ok (.invokestatic 92, 3) := dk_184 0 92 (dk_at dksX5_send_6 0 rfl rfl)
theorem dX5_send_143 : decode cX5_send 143 = .ok (.iload 6, 2) := dk_21 6 (dk_at dksX5_send_6 3 rfl rfl)
theorem dX5_send_145 : decode cX5_send 145 = .ok (.iastore, 1) := dk_79 (dk_at dksX5_send_6 5 rfl rfl)
theorem dX5_send_146 : decode cX5_send 146 = .ok (.aload_n 0, 1) := dk_42 (dk_at dksX5_send_6 6 rfl rfl)
theorem dX5_send_147 : decode cX5_send 147 = .ok (.getfield 9, 3) := dk_180 0 9 (dk_at dksX5_send_6 7 rfl rfl)
theorem dX5_send_150 : decode cX5_send 150 = .ok (.iload_n 1, 1) := dk_27 (dk_at dksX5_send_6 10 rfl rfl)
theorem dX5_send_151 : decode cX5_send 151 = .ok (.bipush 6, 2) := dk_16 6 (dk_at dksX5_send_6 11 rfl rfl)
theorem dX5_send_153 : decode cX5_send 153 = .ok (.invokestatic 92, 3) := dk_184 0 92 (dk_at dksX5_send_6 13 rfl rfl)
theorem dX5_send_156 : decode cX5_send 156 = .ok (.iload 5, 2) := dk_21 5 (dk_at dksX5_send_6 16 rfl rfl)
theorem dX5_send_158 : decode cX5_send 158 = .ok (.ifCond .eq 7, 3) := dk_153 0 7 (dk_at dksX5_send_6 18 rfl rfl)
theorem dX5_send_161 : decode cX5_send 161 = .ok (.iconst 0, 1) := dk_3 (dk_at dksX5_send_6 21 rfl rfl)
theorem dX5_send_162 : decode cX5_send 162 = .ok (.goto 4, 3) := dk_167 0 4 (dk_at dksX5_send_7 0 rfl rfl)
theorem dX5_send_165 : decode cX5_send 165 = .ok (.iconst 1, 1) := dk_4 (dk_at dksX5_send_7 3 rfl rfl)
theorem dX5_send_166 : decode cX5_send 166 = .ok (.iastore, 1) := dk_79 (dk_at dksX5_send_7 4 rfl rfl)
theorem dX5_send_167 : decode cX5_send 167 = .ok (.iload 5, 2) := dk_21 5 (dk_at dksX5_send_7 5 rfl rfl)
theorem dX5_send_169 : decode cX5_send 169 = .ok (.ifCond .eq 38, 3) := dk_153 0 38 (dk_at dksX5_send_7 7 rfl rfl)
theorem dX5_send_172 : decode cX5_send 172 = .ok (.aload_n 0, 1) := dk_42 (dk_at dksX5_send_7 10 rfl rfl)
theorem dX5_send_173 : decode cX5_send 173 = .ok (.iload 4, 2) := dk_21 4 (dk_at dksX5_send_7 11 rfl rfl)
theorem dX5_send_175 : decode cX5_send 175 = .ok (.invokevirtual 135, 3) := dk_182 0 135 (dk_at dksX5_send_7 13 rfl rfl)
theorem dX5_send_178 : decode cX5_send 178 = .ok (.istore 7, 2) := dk_54 7 (dk_at dksX5_send_7 16 rfl rfl)
theorem dX5_send_180 : decode cX5_send 180 = .ok (.aload_n 0, 1) := dk_42 (dk_at dksX5_send_7 18 rfl rfl)
theorem dX5_send_181 : decode cX5_send 181 = .ok (.getfield 9, 3) := dk_180 0 9 (dk_at dksX5_send_7 19 rfl rfl)
theorem dX5_send_184 : decode cX5_send 184 = .ok (.iload_n 1, 1) := dk_27 (dk_at dksX5_send_7 22 rfl rfl)
theorem dX5_send_185 : decode cX5_send 185 = .ok (.iconst 5, 1) := dk_8 (dk_at dksX5_send_7 23 rfl rfl)
theorem dX5_send_186 : decode cX5_send 186 = .ok (.invokestatic 92, 3) := dk_184 0 92 (dk_at dksX5_send_8 0 rfl rfl)
theorem dX5_send_189 : decode cX5_send 189 = .ok (.iload 7, 2) := dk_21 7 (dk_at dksX5_send_8 3 rfl rfl)
theorem dX5_send_191 : decode cX5_send 191 = .ok (.iastore, 1) := dk_79 (dk_at dksX5_send_8 5 rfl rfl)
theorem dX5_send_192 : decode cX5_send 192 = .ok (.aload_n 0, 1) := dk_42 (dk_at dksX5_send_8 6 rfl rfl)
theorem dX5_send_193 : decode cX5_send 193 = .ok (.getfield 9, 3) := dk_180 0 9 (dk_at dksX5_send_8 7 rfl rfl)
theorem dX5_send_196 : decode cX5_send 196 = .ok (.iload 7, 2) := dk_21 7 (dk_at dksX5_send_8 10 rfl rfl)
theorem dX5_send_198 : decode cX5_send 198 = .ok (.iconst 0, 1) := dk_3 (dk_at dksX5_send_8 12 rfl rfl)
theorem dX5_send_199 : decode cX5_send 199 = .ok (.invokestatic 99, 3) := dk_184 0 99 (dk_at dksX5_send_8 13 rfl rfl)
theorem dX5_send_202 : decode cX5_send 202 = .ok (.iconst (-1), 1) := dk_2 (dk_at dksX5_send_8 16 rfl rfl)
theorem dX5_send_203 : decode cX5_send 203 = .ok (.iastore, 1) := dk_79 (dk_at dksX5_send_8 17 rfl rfl)
theorem dX5_send_204 : decode cX5_send 204 = .ok (.goto 28, 3) := dk_167 0 28 (dk_at dksX5_send_8 18 rfl rfl)
theorem dX5_send_207 : decode cX5_send 207 = .ok (.aload_n 0, 1) := dk_42 (dk_at dksX5_send_8 21 rfl rfl)
theorem dX5_send_208 : decode cX5_send 208 = .ok (.getfield 9, 3) := dk_180 0 9 (dk_at dksX5_send_9 0 rfl rfl)
theorem dX5_send_211 : decode cX5_send 211 = .ok (.iload 4, 2) := dk_21 4 (dk_at dksX5_send_9 3 rfl rfl)
theorem dX5_send_213 : decode cX5_send 213 = .ok (.iload_n 3, 1) := dk_29 (dk_at dksX5_send_9 5 rfl rfl)
theorem dX5_send_214 : decode cX5_send 214 = .ok (.iload 4, 2) := dk_21 4 (dk_at dksX5_send_9 6 rfl rfl)
theorem dX5_send_216 : decode cX5_send 216 = .ok (.if_icmp .ne 7, 3) := dk_160 0 7 (dk_at dksX5_send_9 8 rfl rfl)
theorem dX5_send_219 : decode cX5_send 219 = .ok (.iconst 3, 1) := dk_6 (dk_at dksX5_send_9 11 rfl rfl)
theorem dX5_send_220 : decode cX5_send 220 = .ok (.goto 4, 3) := dk_167 0 4 (dk_at dksX5_send_9 12 rfl rfl)
theorem dX5_send_223 : decode cX5_send 223 = .ok (.iconst 4, 1) := dk_7 (dk_at dksX5_send_9 15 rfl rfl)
theorem dX5_send_224 : decode cX5_send 224 = .ok (.invokestatic 117, 3) := dk_184 0 117 (dk_at dksX5_send_9 16 rfl rfl)
theorem dX5_send_227 : decode cX5_send 227 = .ok (.dup2, 1) := dk_92 (dk_at dksX5_send_9 19 rfl rfl)
theorem dX5_send_228 : decode cX5_send 228 = .ok (.iaload, 1) := dk_46 (dk_at dksX5_send_9 20 rfl rfl)
theorem dX5_send_229 : decode cX5_send 229 = .ok (.iconst 1, 1) := dk_4 (dk_at dksX5_send_9 21 rfl rfl)
theorem dX5_send_230 : decode cX5_send 230 = .ok (.isub, 1) := dk_100 (dk_at dksX5_send_9 22 rfl rfl)
theorem dX5_send_231 : decode cX5_send 231 = .ok (.iastore, 1) := dk_79 (dk_at dksX5_send_9 23 rfl rfl)
theorem dX5_send_232 : decode cX5_send 232 = .ok (.aload_n 0, 1) := dk_42 (dk_at dksX5_send_10 0 rfl rfl)
theorem dX5_send_233 : decode cX5_send 233 = .ok (.iload_n 3, 1) := dk_29 (dk_at dksX5_send_10 1 rfl rfl)
theorem dX5_send_234 : decode cX5_send 234 = .ok (.iconst 0, 1) := dk_3 (dk_at dksX5_send_10 2 rfl rfl)
theorem dX5_send_235 : decode cX5_send 235 = .ok (.iload_n 1, 1) := dk_27 (dk_at dksX5_send_10 3 rfl rfl)
theorem dX5_send_236 : decode cX5_send 236 = .ok (.invokevirtual 102, 3) := dk_182 0 102 (dk_at dksX5_send_10 4 rfl rfl)
theorem dX5_send_239 : decode cX5_send 239 = .ok (.iload 6, 2) := dk_21 6 (dk_at dksX5_send_10 7 rfl rfl)
theorem dX5_send_241 : decode cX5_send 241 = .ok (.ireturn, 1) := dk_172 (dk_at dksX5_send_10 9 rfl rfl)
abbrev cX5_isSendRefused : ByteArray := prog_20_method_52_code
def yX5_isSendRefused : MethodName := ⟨RX5, "isSendRefused", "(II)Z"⟩
def dkwX5_isSendRefused_4 : List UInt8 := [29, 28, 162, 0, 7, 29, 167, 0, 4, 28, 182, 0, 181, 153, 0, 7, 4, 167, 0, 4, 3, 172]
abbrev dktX5_isSendRefused_4 : List UInt8 := dkwX5_isSendRefused_4 ++ []
def dkwX5_isSendRefused_3 : List UInt8 := [54, 4, 42, 21, 4, 154, 0, 7, 4, 167, 0, 4, 3, 8, 29, 182, 0, 110, 154, 0, 22, 42, 27, 29]
abbrev dktX5_isSendRefused_3 : List UInt8 := dkwX5_isSendRefused_3 ++ dktX5_isSendRefused_4
def dkwX5_isSendRefused_2 : List UInt8 := [184, 0, 92, 46, 62, 29, 28, 4, 100, 159, 0, 10, 29, 28, 4, 96, 160, 0, 7, 4, 167, 0, 4, 3]
abbrev dktX5_isSendRefused_2 : List UInt8 := dkwX5_isSendRefused_2 ++ dktX5_isSendRefused_3
def dkwX5_isSendRefused_1 : List UInt8 := [182, 0, 110, 154, 0, 11, 42, 27, 182, 0, 156, 153, 0, 5, 4, 172, 42, 180, 0, 9, 27, 4]
abbrev dktX5_isSendRefused_1 : List UInt8 := dkwX5_isSendRefused_1 ++ dktX5_isSendRefused_2
def dkwX5_isSendRefused_0 : List UInt8 := [42, 27, 182, 0, 153, 154, 0, 32, 42, 28, 184, 0, 106, 154, 0, 7, 4, 167, 0, 4, 3, 4, 28]
abbrev dktX5_isSendRefused_0 : List UInt8 := dkwX5_isSendRefused_0 ++ dktX5_isSendRefused_1
theorem dksX5_isSendRefused_0 : cX5_isSendRefused.data.toList.drop 0 = dktX5_isSendRefused_0 := by decide +kernel
theorem dksX5_isSendRefused_1 : cX5_isSendRefused.data.toList.drop 23 = dktX5_isSendRefused_1 := dk_seg dksX5_isSendRefused_0 23 rfl rfl
theorem dksX5_isSendRefused_2 : cX5_isSendRefused.data.toList.drop 45 = dktX5_isSendRefused_2 := dk_seg dksX5_isSendRefused_1 22 rfl rfl
theorem dksX5_isSendRefused_3 : cX5_isSendRefused.data.toList.drop 69 = dktX5_isSendRefused_3 := dk_seg dksX5_isSendRefused_2 24 rfl rfl
theorem dksX5_isSendRefused_4 : cX5_isSendRefused.data.toList.drop 93 = dktX5_isSendRefused_4 := dk_seg dksX5_isSendRefused_3 24 rfl rfl
theorem dX5_isSendRefused_0 : decode cX5_isSendRefused 0 = .ok (.aload_n 0, 1) := dk_42 (dk_at dksX5_isSendRefused_0 0 rfl rfl)
theorem dX5_isSendRefused_1 : decode cX5_isSendRefused 1 = .ok (.iload_n 1, 1) := dk_27 (dk_at dksX5_isSendRefused_0 1 rfl rfl)
theorem dX5_isSendRefused_2 : decode cX5_isSendRefused 2 = .ok (.invokevirtual 153, 3) := dk_182 0 153 (dk_at dksX5_isSendRefused_0 2 rfl rfl)
theorem dX5_isSendRefused_5 : decode cX5_isSendRefused 5 = .ok (.ifCond .ne 32, 3) := dk_154 0 32 (dk_at dksX5_isSendRefused_0 5 rfl rfl)
theorem dX5_isSendRefused_8 : decode cX5_isSendRefused 8 = .ok (.aload_n 0, 1) := dk_42 (dk_at dksX5_isSendRefused_0 8 rfl rfl)
theorem dX5_isSendRefused_9 : decode cX5_isSendRefused 9 = .ok (.iload_n 2, 1) := dk_28 (dk_at dksX5_isSendRefused_0 9 rfl rfl)
theorem dX5_isSendRefused_10 : decode cX5_isSendRefused 10 = .ok (.invokestatic 106, 3) := dk_184 0 106 (dk_at dksX5_isSendRefused_0 10 rfl rfl)
theorem dX5_isSendRefused_13 : decode cX5_isSendRefused 13 = .ok (.ifCond .ne 7, 3) := dk_154 0 7 (dk_at dksX5_isSendRefused_0 13 rfl rfl)
theorem dX5_isSendRefused_16 : decode cX5_isSendRefused 16 = .ok (.iconst 1, 1) := dk_4 (dk_at dksX5_isSendRefused_0 16 rfl rfl)
theorem dX5_isSendRefused_17 : decode cX5_isSendRefused 17 = .ok (.goto 4, 3) := dk_167 0 4 (dk_at dksX5_isSendRefused_0 17 rfl rfl)
theorem dX5_isSendRefused_20 : decode cX5_isSendRefused 20 = .ok (.iconst 0, 1) := dk_3 (dk_at dksX5_isSendRefused_0 20 rfl rfl)
theorem dX5_isSendRefused_21 : decode cX5_isSendRefused 21 = .ok (.iconst 1, 1) := dk_4 (dk_at dksX5_isSendRefused_0 21 rfl rfl)
theorem dX5_isSendRefused_22 : decode cX5_isSendRefused 22 = .ok (.iload_n 2, 1) := dk_28 (dk_at dksX5_isSendRefused_0 22 rfl rfl)
theorem dX5_isSendRefused_23 : decode cX5_isSendRefused 23 = .ok (.invokevirtual 110, 3) := dk_182 0 110 (dk_at dksX5_isSendRefused_1 0 rfl rfl)
theorem dX5_isSendRefused_26 : decode cX5_isSendRefused 26 = .ok (.ifCond .ne 11, 3) := dk_154 0 11 (dk_at dksX5_isSendRefused_1 3 rfl rfl)
theorem dX5_isSendRefused_29 : decode cX5_isSendRefused 29 = .ok (.aload_n 0, 1) := dk_42 (dk_at dksX5_isSendRefused_1 6 rfl rfl)
theorem dX5_isSendRefused_30 : decode cX5_isSendRefused 30 = .ok (.iload_n 1, 1) := dk_27 (dk_at dksX5_isSendRefused_1 7 rfl rfl)
theorem dX5_isSendRefused_31 : decode cX5_isSendRefused 31 = .ok (.invokevirtual 156, 3) := dk_182 0 156 (dk_at dksX5_isSendRefused_1 8 rfl rfl)
theorem dX5_isSendRefused_34 : decode cX5_isSendRefused 34 = .ok (.ifCond .eq 5, 3) := dk_153 0 5 (dk_at dksX5_isSendRefused_1 11 rfl rfl)
theorem dX5_isSendRefused_37 : decode cX5_isSendRefused 37 = .ok (.iconst 1, 1) := dk_4 (dk_at dksX5_isSendRefused_1 14 rfl rfl)
theorem dX5_isSendRefused_38 : decode cX5_isSendRefused 38 = .ok (.ireturn, 1) := dk_172 (dk_at dksX5_isSendRefused_1 15 rfl rfl)
theorem dX5_isSendRefused_39 : decode cX5_isSendRefused 39 = .ok (.aload_n 0, 1) := dk_42 (dk_at dksX5_isSendRefused_1 16 rfl rfl)
theorem dX5_isSendRefused_40 : decode cX5_isSendRefused 40 = .ok (.getfield 9, 3) := dk_180 0 9 (dk_at dksX5_isSendRefused_1 17 rfl rfl)
theorem dX5_isSendRefused_43 : decode cX5_isSendRefused 43 = .ok (.iload_n 1, 1) := dk_27 (dk_at dksX5_isSendRefused_1 20 rfl rfl)
theorem dX5_isSendRefused_44 : decode cX5_isSendRefused 44 = .ok (.iconst 1, 1) := dk_4 (dk_at dksX5_isSendRefused_1 21 rfl rfl)
theorem dX5_isSendRefused_45 : decode cX5_isSendRefused 45 = .ok (.invokestatic 92, 3) := dk_184 0 92 (dk_at dksX5_isSendRefused_2 0 rfl rfl)
theorem dX5_isSendRefused_48 : decode cX5_isSendRefused 48 = .ok (.iaload, 1) := dk_46 (dk_at dksX5_isSendRefused_2 3 rfl rfl)
theorem dX5_isSendRefused_49 : decode cX5_isSendRefused 49 = .ok (.istore_n 3, 1) := dk_62 (dk_at dksX5_isSendRefused_2 4 rfl rfl)
theorem dX5_isSendRefused_50 : decode cX5_isSendRefused 50 = .ok (.iload_n 3, 1) := dk_29 (dk_at dksX5_isSendRefused_2 5 rfl rfl)
theorem dX5_isSendRefused_51 : decode cX5_isSendRefused 51 = .ok (.iload_n 2, 1) := dk_28 (dk_at dksX5_isSendRefused_2 6 rfl rfl)
theorem dX5_isSendRefused_52 : decode cX5_isSendRefused 52 = .ok (.iconst 1, 1) := dk_4 (dk_at dksX5_isSendRefused_2 7 rfl rfl)
theorem dX5_isSendRefused_53 : decode cX5_isSendRefused 53 = .ok (.isub, 1) := dk_100 (dk_at dksX5_isSendRefused_2 8 rfl rfl)
theorem dX5_isSendRefused_54 : decode cX5_isSendRefused 54 = .ok (.if_icmp .eq 10, 3) := dk_159 0 10 (dk_at dksX5_isSendRefused_2 9 rfl rfl)
theorem dX5_isSendRefused_57 : decode cX5_isSendRefused 57 = .ok (.iload_n 3, 1) := dk_29 (dk_at dksX5_isSendRefused_2 12 rfl rfl)
theorem dX5_isSendRefused_58 : decode cX5_isSendRefused 58 = .ok (.iload_n 2, 1) := dk_28 (dk_at dksX5_isSendRefused_2 13 rfl rfl)
theorem dX5_isSendRefused_59 : decode cX5_isSendRefused 59 = .ok (.iconst 1, 1) := dk_4 (dk_at dksX5_isSendRefused_2 14 rfl rfl)
theorem dX5_isSendRefused_60 : decode cX5_isSendRefused 60 = .ok (.iadd, 1) := dk_96 (dk_at dksX5_isSendRefused_2 15 rfl rfl)
theorem dX5_isSendRefused_61 : decode cX5_isSendRefused 61 = .ok (.if_icmp .ne 7, 3) := dk_160 0 7 (dk_at dksX5_isSendRefused_2 16 rfl rfl)
theorem dX5_isSendRefused_64 : decode cX5_isSendRefused 64 = .ok (.iconst 1, 1) := dk_4 (dk_at dksX5_isSendRefused_2 19 rfl rfl)
theorem dX5_isSendRefused_65 : decode cX5_isSendRefused 65 = .ok (.goto 4, 3) := dk_167 0 4 (dk_at dksX5_isSendRefused_2 20 rfl rfl)
theorem dX5_isSendRefused_68 : decode cX5_isSendRefused 68 = .ok (.iconst 0, 1) := dk_3 (dk_at dksX5_isSendRefused_2 23 rfl rfl)
theorem dX5_isSendRefused_69 : decode cX5_isSendRefused 69 = .ok (.istore 4, 2) := dk_54 4 (dk_at dksX5_isSendRefused_3 0 rfl rfl)
theorem dX5_isSendRefused_71 : decode cX5_isSendRefused 71 = .ok (.aload_n 0, 1) := dk_42 (dk_at dksX5_isSendRefused_3 2 rfl rfl)
theorem dX5_isSendRefused_72 : decode cX5_isSendRefused 72 = .ok (.iload 4, 2) := dk_21 4 (dk_at dksX5_isSendRefused_3 3 rfl rfl)
theorem dX5_isSendRefused_74 : decode cX5_isSendRefused 74 = .ok (.ifCond .ne 7, 3) := dk_154 0 7 (dk_at dksX5_isSendRefused_3 5 rfl rfl)
theorem dX5_isSendRefused_77 : decode cX5_isSendRefused 77 = .ok (.iconst 1, 1) := dk_4 (dk_at dksX5_isSendRefused_3 8 rfl rfl)
theorem dX5_isSendRefused_78 : decode cX5_isSendRefused 78 = .ok (.goto 4, 3) := dk_167 0 4 (dk_at dksX5_isSendRefused_3 9 rfl rfl)
theorem dX5_isSendRefused_81 : decode cX5_isSendRefused 81 = .ok (.iconst 0, 1) := dk_3 (dk_at dksX5_isSendRefused_3 12 rfl rfl)
theorem dX5_isSendRefused_82 : decode cX5_isSendRefused 82 = .ok (.iconst 5, 1) := dk_8 (dk_at dksX5_isSendRefused_3 13 rfl rfl)
theorem dX5_isSendRefused_83 : decode cX5_isSendRefused 83 = .ok (.iload_n 3, 1) := dk_29 (dk_at dksX5_isSendRefused_3 14 rfl rfl)
theorem dX5_isSendRefused_84 : decode cX5_isSendRefused 84 = .ok (.invokevirtual 110, 3) := dk_182 0 110 (dk_at dksX5_isSendRefused_3 15 rfl rfl)
theorem dX5_isSendRefused_87 : decode cX5_isSendRefused 87 = .ok (.ifCond .ne 22, 3) := dk_154 0 22 (dk_at dksX5_isSendRefused_3 18 rfl rfl)
theorem dX5_isSendRefused_90 : decode cX5_isSendRefused 90 = .ok (.aload_n 0, 1) := dk_42 (dk_at dksX5_isSendRefused_3 21 rfl rfl)
theorem dX5_isSendRefused_91 : decode cX5_isSendRefused 91 = .ok (.iload_n 1, 1) := dk_27 (dk_at dksX5_isSendRefused_3 22 rfl rfl)
theorem dX5_isSendRefused_92 : decode cX5_isSendRefused 92 = .ok (.iload_n 3, 1) := dk_29 (dk_at dksX5_isSendRefused_3 23 rfl rfl)
theorem dX5_isSendRefused_93 : decode cX5_isSendRefused 93 = .ok (.iload_n 3, 1) := dk_29 (dk_at dksX5_isSendRefused_4 0 rfl rfl)
theorem dX5_isSendRefused_94 : decode cX5_isSendRefused 94 = .ok (.iload_n 2, 1) := dk_28 (dk_at dksX5_isSendRefused_4 1 rfl rfl)
theorem dX5_isSendRefused_95 : decode cX5_isSendRefused 95 = .ok (.if_icmp .ge 7, 3) := dk_162 0 7 (dk_at dksX5_isSendRefused_4 2 rfl rfl)
theorem dX5_isSendRefused_98 : decode cX5_isSendRefused 98 = .ok (.iload_n 3, 1) := dk_29 (dk_at dksX5_isSendRefused_4 5 rfl rfl)
theorem dX5_isSendRefused_99 : decode cX5_isSendRefused 99 = .ok (.goto 4, 3) := dk_167 0 4 (dk_at dksX5_isSendRefused_4 6 rfl rfl)
theorem dX5_isSendRefused_102 : decode cX5_isSendRefused 102 = .ok (.iload_n 2, 1) := dk_28 (dk_at dksX5_isSendRefused_4 9 rfl rfl)
theorem dX5_isSendRefused_103 : decode cX5_isSendRefused 103 = .ok (.invokevirtual 181, 3) := dk_182 0 181 (dk_at dksX5_isSendRefused_4 10 rfl rfl)
theorem dX5_isSendRefused_106 : decode cX5_isSendRefused 106 = .ok (.ifCond .eq 7, 3) := dk_153 0 7 (dk_at dksX5_isSendRefused_4 13 rfl rfl)
theorem dX5_isSendRefused_109 : decode cX5_isSendRefused 109 = .ok (.iconst 1, 1) := dk_4 (dk_at dksX5_isSendRefused_4 16 rfl rfl)
theorem dX5_isSendRefused_110 : decode cX5_isSendRefused 110 = .ok (.goto 4, 3) := dk_167 0 4 (dk_at dksX5_isSendRefused_4 17 rfl rfl)
theorem dX5_isSendRefused_113 : decode cX5_isSendRefused 113 = .ok (.iconst 0, 1) := dk_3 (dk_at dksX5_isSendRefused_4 20 rfl rfl)
theorem dX5_isSendRefused_114 : decode cX5_isSendRefused 114 = .ok (.ireturn, 1) := dk_172 (dk_at dksX5_isSendRefused_4 21 rfl rfl)
abbrev cX5_isBarred : ByteArray := prog_20_method_51_code
def yX5_isBarred : MethodName := ⟨RX5, "isBarred", "(III)Z"⟩
def dkwX5_isBarred_5 : List UInt8 := [182, 0, 110, 172]
abbrev dktX5_isBarred_5 : List UInt8 := dkwX5_isBarred_5 ++ []
def dkwX5_isBarred_4 : List UInt8 := [180, 0, 9, 21, 4, 3, 184, 0, 44, 46, 161, 0, 7, 4, 167, 0, 4, 3, 16, 8, 21, 4]
abbrev dktX5_isBarred_4 : List UInt8 := dkwX5_isBarred_4 ++ dktX5_isBarred_5
def dkwX5_isBarred_3 : List UInt8 := [182, 0, 110, 153, 0, 5, 4, 172, 42, 42, 21, 4, 182, 0, 95, 42, 21, 4, 182, 0, 129, 96, 42]
abbrev dktX5_isBarred_3 : List UInt8 := dkwX5_isBarred_3 ++ dktX5_isBarred_4
def dkwX5_isBarred_2 : List UInt8 := [27, 3, 184, 0, 92, 46, 4, 96, 5, 108, 21, 5, 164, 0, 7, 4, 167, 0, 4, 3, 16, 9, 21, 5]
abbrev dktX5_isBarred_2 : List UInt8 := dkwX5_isBarred_2 ++ dktX5_isBarred_3
def dkwX5_isBarred_1 : List UInt8 := [54, 5, 42, 29, 182, 0, 126, 154, 0, 47, 42, 29, 28, 182, 0, 178, 154, 0, 38, 42, 42, 180, 0, 9]
abbrev dktX5_isBarred_1 : List UInt8 := dkwX5_isBarred_1 ++ dktX5_isBarred_2
def dkwX5_isBarred_0 : List UInt8 := [28, 29, 160, 0, 9, 29, 4, 96, 167, 0, 4, 29, 54, 4, 42, 180, 0, 9, 29, 5, 184, 0, 117, 46]
abbrev dktX5_isBarred_0 : List UInt8 := dkwX5_isBarred_0 ++ dktX5_isBarred_1
theorem dksX5_isBarred_0 : cX5_isBarred.data.toList.drop 0 = dktX5_isBarred_0 := by decide +kernel
theorem dksX5_isBarred_1 : cX5_isBarred.data.toList.drop 24 = dktX5_isBarred_1 := dk_seg dksX5_isBarred_0 24 rfl rfl
theorem dksX5_isBarred_2 : cX5_isBarred.data.toList.drop 48 = dktX5_isBarred_2 := dk_seg dksX5_isBarred_1 24 rfl rfl
theorem dksX5_isBarred_3 : cX5_isBarred.data.toList.drop 72 = dktX5_isBarred_3 := dk_seg dksX5_isBarred_2 24 rfl rfl
theorem dksX5_isBarred_4 : cX5_isBarred.data.toList.drop 95 = dktX5_isBarred_4 := dk_seg dksX5_isBarred_3 23 rfl rfl
theorem dksX5_isBarred_5 : cX5_isBarred.data.toList.drop 117 = dktX5_isBarred_5 := dk_seg dksX5_isBarred_4 22 rfl rfl
theorem dX5_isBarred_0 : decode cX5_isBarred 0 = .ok (.iload_n 2, 1) := dk_28 (dk_at dksX5_isBarred_0 0 rfl rfl)
theorem dX5_isBarred_1 : decode cX5_isBarred 1 = .ok (.iload_n 3, 1) := dk_29 (dk_at dksX5_isBarred_0 1 rfl rfl)
theorem dX5_isBarred_2 : decode cX5_isBarred 2 = .ok (.if_icmp .ne 9, 3) := dk_160 0 9 (dk_at dksX5_isBarred_0 2 rfl rfl)
theorem dX5_isBarred_5 : decode cX5_isBarred 5 = .ok (.iload_n 3, 1) := dk_29 (dk_at dksX5_isBarred_0 5 rfl rfl)
theorem dX5_isBarred_6 : decode cX5_isBarred 6 = .ok (.iconst 1, 1) := dk_4 (dk_at dksX5_isBarred_0 6 rfl rfl)
theorem dX5_isBarred_7 : decode cX5_isBarred 7 = .ok (.iadd, 1) := dk_96 (dk_at dksX5_isBarred_0 7 rfl rfl)
theorem dX5_isBarred_8 : decode cX5_isBarred 8 = .ok (.goto 4, 3) := dk_167 0 4 (dk_at dksX5_isBarred_0 8 rfl rfl)
theorem dX5_isBarred_11 : decode cX5_isBarred 11 = .ok (.iload_n 3, 1) := dk_29 (dk_at dksX5_isBarred_0 11 rfl rfl)
theorem dX5_isBarred_12 : decode cX5_isBarred 12 = .ok (.istore 4, 2) := dk_54 4 (dk_at dksX5_isBarred_0 12 rfl rfl)
theorem dX5_isBarred_14 : decode cX5_isBarred 14 = .ok (.aload_n 0, 1) := dk_42 (dk_at dksX5_isBarred_0 14 rfl rfl)
theorem dX5_isBarred_15 : decode cX5_isBarred 15 = .ok (.getfield 9, 3) := dk_180 0 9 (dk_at dksX5_isBarred_0 15 rfl rfl)
theorem dX5_isBarred_18 : decode cX5_isBarred 18 = .ok (.iload_n 3, 1) := dk_29 (dk_at dksX5_isBarred_0 18 rfl rfl)
theorem dX5_isBarred_19 : decode cX5_isBarred 19 = .ok (.iconst 2, 1) := dk_5 (dk_at dksX5_isBarred_0 19 rfl rfl)
theorem dX5_isBarred_20 : decode cX5_isBarred 20 = .ok (.invokestatic 117, 3) := dk_184 0 117 (dk_at dksX5_isBarred_0 20 rfl rfl)
theorem dX5_isBarred_23 : decode cX5_isBarred 23 = .ok (.iaload, 1) := dk_46 (dk_at dksX5_isBarred_0 23 rfl rfl)
theorem dX5_isBarred_24 : decode cX5_isBarred 24 = .ok (.istore 5, 2) := dk_54 5 (dk_at dksX5_isBarred_1 0 rfl rfl)
theorem dX5_isBarred_26 : decode cX5_isBarred 26 = .ok (.aload_n 0, 1) := dk_42 (dk_at dksX5_isBarred_1 2 rfl rfl)
theorem dX5_isBarred_27 : decode cX5_isBarred 27 = .ok (.iload_n 3, 1) := dk_29 (dk_at dksX5_isBarred_1 3 rfl rfl)
theorem dX5_isBarred_28 : decode cX5_isBarred 28 = .ok (.invokevirtual 126, 3) := dk_182 0 126 (dk_at dksX5_isBarred_1 4 rfl rfl)
theorem dX5_isBarred_31 : decode cX5_isBarred 31 = .ok (.ifCond .ne 47, 3) := dk_154 0 47 (dk_at dksX5_isBarred_1 7 rfl rfl)
theorem dX5_isBarred_34 : decode cX5_isBarred 34 = .ok (.aload_n 0, 1) := dk_42 (dk_at dksX5_isBarred_1 10 rfl rfl)
theorem dX5_isBarred_35 : decode cX5_isBarred 35 = .ok (.iload_n 3, 1) := dk_29 (dk_at dksX5_isBarred_1 11 rfl rfl)
theorem dX5_isBarred_36 : decode cX5_isBarred 36 = .ok (.iload_n 2, 1) := dk_28 (dk_at dksX5_isBarred_1 12 rfl rfl)
theorem dX5_isBarred_37 : decode cX5_isBarred 37 = .ok (.invokevirtual 178, 3) := dk_182 0 178 (dk_at dksX5_isBarred_1 13 rfl rfl)
theorem dX5_isBarred_40 : decode cX5_isBarred 40 = .ok (.ifCond .ne 38, 3) := dk_154 0 38 (dk_at dksX5_isBarred_1 16 rfl rfl)
theorem dX5_isBarred_43 : decode cX5_isBarred 43 = .ok (.aload_n 0, 1) := dk_42 (dk_at dksX5_isBarred_1 19 rfl rfl)
theorem dX5_isBarred_44 : decode cX5_isBarred 44 = .ok (.aload_n 0, 1) := dk_42 (dk_at dksX5_isBarred_1 20 rfl rfl)
theorem dX5_isBarred_45 : decode cX5_isBarred 45 = .ok (.getfield 9, 3) := dk_180 0 9 (dk_at dksX5_isBarred_1 21 rfl rfl)
theorem dX5_isBarred_48 : decode cX5_isBarred 48 = .ok (.iload_n 1, 1) := dk_27 (dk_at dksX5_isBarred_2 0 rfl rfl)
theorem dX5_isBarred_49 : decode cX5_isBarred 49 = .ok (.iconst 0, 1) := dk_3 (dk_at dksX5_isBarred_2 1 rfl rfl)
theorem dX5_isBarred_50 : decode cX5_isBarred 50 = .ok (.invokestatic 92, 3) := dk_184 0 92 (dk_at dksX5_isBarred_2 2 rfl rfl)
theorem dX5_isBarred_53 : decode cX5_isBarred 53 = .ok (.iaload, 1) := dk_46 (dk_at dksX5_isBarred_2 5 rfl rfl)
theorem dX5_isBarred_54 : decode cX5_isBarred 54 = .ok (.iconst 1, 1) := dk_4 (dk_at dksX5_isBarred_2 6 rfl rfl)
theorem dX5_isBarred_55 : decode cX5_isBarred 55 = .ok (.iadd, 1) := dk_96 (dk_at dksX5_isBarred_2 7 rfl rfl)
theorem dX5_isBarred_56 : decode cX5_isBarred 56 = .ok (.iconst 2, 1) := dk_5 (dk_at dksX5_isBarred_2 8 rfl rfl)
theorem dX5_isBarred_57 : decode cX5_isBarred 57 = .ok (.idiv, 1) := dk_108 (dk_at dksX5_isBarred_2 9 rfl rfl)
theorem dX5_isBarred_58 : decode cX5_isBarred 58 = .ok (.iload 5, 2) := dk_21 5 (dk_at dksX5_isBarred_2 10 rfl rfl)
theorem dX5_isBarred_60 : decode cX5_isBarred 60 = .ok (.if_icmp .le 7, 3) := dk_164 0 7 (dk_at dksX5_isBarred_2 12 rfl rfl)
theorem dX5_isBarred_63 : decode cX5_isBarred 63 = .ok (.iconst 1, 1) := dk_4 (dk_at dksX5_isBarred_2 15 rfl rfl)
theorem dX5_isBarred_64 : decode cX5_isBarred 64 = .ok (.goto 4, 3) := dk_167 0 4 (dk_at dksX5_isBarred_2 16 rfl rfl)
theorem dX5_isBarred_67 : decode cX5_isBarred 67 = .ok (.iconst 0, 1) := dk_3 (dk_at dksX5_isBarred_2 19 rfl rfl)
theorem dX5_isBarred_68 : decode cX5_isBarred 68 = .ok (.bipush 9, 2) := dk_16 9 (dk_at dksX5_isBarred_2 20 rfl rfl)
theorem dX5_isBarred_70 : decode cX5_isBarred 70 = .ok (.iload 5, 2) := dk_21 5 (dk_at dksX5_isBarred_2 22 rfl rfl)
theorem dX5_isBarred_72 : decode cX5_isBarred 72 = .ok (.invokevirtual 110, 3) := dk_182 0 110 (dk_at dksX5_isBarred_3 0 rfl rfl)
theorem dX5_isBarred_75 : decode cX5_isBarred 75 = .ok (.ifCond .eq 5, 3) := dk_153 0 5 (dk_at dksX5_isBarred_3 3 rfl rfl)
theorem dX5_isBarred_78 : decode cX5_isBarred 78 = .ok (.iconst 1, 1) := dk_4 (dk_at dksX5_isBarred_3 6 rfl rfl)
theorem dX5_isBarred_79 : decode cX5_isBarred 79 = .ok (.ireturn, 1) := dk_172 (dk_at dksX5_isBarred_3 7 rfl rfl)
theorem dX5_isBarred_80 : decode cX5_isBarred 80 = .ok (.aload_n 0, 1) := dk_42 (dk_at dksX5_isBarred_3 8 rfl rfl)
theorem dX5_isBarred_81 : decode cX5_isBarred 81 = .ok (.aload_n 0, 1) := dk_42 (dk_at dksX5_isBarred_3 9 rfl rfl)
theorem dX5_isBarred_82 : decode cX5_isBarred 82 = .ok (.iload 4, 2) := dk_21 4 (dk_at dksX5_isBarred_3 10 rfl rfl)
theorem dX5_isBarred_84 : decode cX5_isBarred 84 = .ok (.invokevirtual 95, 3) := dk_182 0 95 (dk_at dksX5_isBarred_3 12 rfl rfl)
theorem dX5_isBarred_87 : decode cX5_isBarred 87 = .ok (.aload_n 0, 1) := dk_42 (dk_at dksX5_isBarred_3 15 rfl rfl)
theorem dX5_isBarred_88 : decode cX5_isBarred 88 = .ok (.iload 4, 2) := dk_21 4 (dk_at dksX5_isBarred_3 16 rfl rfl)
theorem dX5_isBarred_90 : decode cX5_isBarred 90 = .ok (.invokevirtual 129, 3) := dk_182 0 129 (dk_at dksX5_isBarred_3 18 rfl rfl)
theorem dX5_isBarred_93 : decode cX5_isBarred 93 = .ok (.iadd, 1) := dk_96 (dk_at dksX5_isBarred_3 21 rfl rfl)
theorem dX5_isBarred_94 : decode cX5_isBarred 94 = .ok (.aload_n 0, 1) := dk_42 (dk_at dksX5_isBarred_3 22 rfl rfl)
theorem dX5_isBarred_95 : decode cX5_isBarred 95 = .ok (.getfield 9, 3) := dk_180 0 9 (dk_at dksX5_isBarred_4 0 rfl rfl)
theorem dX5_isBarred_98 : decode cX5_isBarred 98 = .ok (.iload 4, 2) := dk_21 4 (dk_at dksX5_isBarred_4 3 rfl rfl)
theorem dX5_isBarred_100 : decode cX5_isBarred 100 = .ok (.iconst 0, 1) := dk_3 (dk_at dksX5_isBarred_4 5 rfl rfl)
theorem dX5_isBarred_101 : decode cX5_isBarred 101 = .ok (.invokestatic 44, 3) := dk_184 0 44 (dk_at dksX5_isBarred_4 6 rfl rfl)
theorem dX5_isBarred_104 : decode cX5_isBarred 104 = .ok (.iaload, 1) := dk_46 (dk_at dksX5_isBarred_4 9 rfl rfl)
theorem dX5_isBarred_105 : decode cX5_isBarred 105 = .ok (.if_icmp .lt 7, 3) := dk_161 0 7 (dk_at dksX5_isBarred_4 10 rfl rfl)
theorem dX5_isBarred_108 : decode cX5_isBarred 108 = .ok (.iconst 1, 1) := dk_4 (dk_at dksX5_isBarred_4 13 rfl rfl)
theorem dX5_isBarred_109 : decode cX5_isBarred 109 = .ok (.goto 4, 3) := dk_167 0 4 (dk_at dksX5_isBarred_4 14 rfl rfl)
theorem dX5_isBarred_112 : decode cX5_isBarred 112 = .ok (.iconst 0, 1) := dk_3 (dk_at dksX5_isBarred_4 17 rfl rfl)
theorem dX5_isBarred_113 : decode cX5_isBarred 113 = .ok (.bipush 8, 2) := dk_16 8 (dk_at dksX5_isBarred_4 18 rfl rfl)
theorem dX5_isBarred_115 : decode cX5_isBarred 115 = .ok (.iload 4, 2) := dk_21 4 (dk_at dksX5_isBarred_4 20 rfl rfl)
theorem dX5_isBarred_117 : decode cX5_isBarred 117 = .ok (.invokevirtual 110, 3) := dk_182 0 110 (dk_at dksX5_isBarred_5 0 rfl rfl)
theorem dX5_isBarred_120 : decode cX5_isBarred 120 = .ok (.ireturn, 1) := dk_172 (dk_at dksX5_isBarred_5 3 rfl rfl)
abbrev cX5_hasNoToken : ByteArray := prog_20_method_47_code
def yX5_hasNoToken : MethodName := ⟨RX5, "hasNoToken", "(II)Z"⟩
def dkwX5_hasNoToken_9 : List UInt8 := [182, 0, 73, 4, 172]
abbrev dktX5_hasNoToken_9 : List UInt8 := dkwX5_hasNoToken_9 ++ []
def dkwX5_hasNoToken_8 : List UInt8 := [16, 20, 29, 153, 0, 9, 27, 4, 96, 167, 0, 4, 27, 182, 0, 73, 167, 0, 11, 42, 16, 21, 21, 5]
abbrev dktX5_hasNoToken_8 : List UInt8 := dkwX5_hasNoToken_8 ++ dktX5_hasNoToken_9
def dkwX5_hasNoToken_7 : List UInt8 := [16, 23, 27, 182, 0, 73, 167, 0, 44, 42, 180, 0, 9, 27, 3, 184, 0, 117, 46, 154, 0, 23, 42]
abbrev dktX5_hasNoToken_7 : List UInt8 := dkwX5_hasNoToken_7 ++ dktX5_hasNoToken_8
def dkwX5_hasNoToken_6 : List UInt8 := [167, 0, 74, 21, 6, 153, 0, 28, 42, 16, 10, 27, 182, 0, 73, 42, 27, 182, 0, 172, 154, 0, 54, 42]
abbrev dktX5_hasNoToken_6 : List UInt8 := dkwX5_hasNoToken_6 ++ dktX5_hasNoToken_7
def dkwX5_hasNoToken_5 : List UInt8 := [16, 7, 27, 182, 0, 73, 21, 6, 153, 0, 19, 21, 7, 155, 0, 14, 42, 16, 22, 21, 7, 182, 0, 73]
abbrev dktX5_hasNoToken_5 : List UInt8 := dkwX5_hasNoToken_5 ++ dktX5_hasNoToken_6
def dkwX5_hasNoToken_4 : List UInt8 := [184, 0, 99, 46, 28, 160, 0, 13, 167, 0, 8, 21, 4, 158, 0, 5, 3, 172, 42, 3, 181, 0, 70, 42]
abbrev dktX5_hasNoToken_4 : List UInt8 := dkwX5_hasNoToken_4 ++ dktX5_hasNoToken_5
def dkwX5_hasNoToken_3 : List UInt8 := [42, 27, 182, 0, 135, 54, 7, 21, 6, 153, 0, 26, 21, 7, 155, 0, 28, 42, 180, 0, 9, 21, 7, 3]
abbrev dktX5_hasNoToken_3 : List UInt8 := dkwX5_hasNoToken_3 ++ dktX5_hasNoToken_4
def dkwX5_hasNoToken_2 : List UInt8 := [46, 54, 5, 42, 180, 0, 9, 27, 8, 184, 0, 117, 46, 4, 160, 0, 7, 4, 167, 0, 4, 3, 54, 6]
abbrev dktX5_hasNoToken_2 : List UInt8 := dkwX5_hasNoToken_2 ++ dktX5_hasNoToken_3
def dkwX5_hasNoToken_1 : List UInt8 := [7, 184, 0, 117, 46, 54, 4, 42, 180, 0, 9, 27, 29, 153, 0, 7, 7, 167, 0, 4, 6, 184, 0, 117]
abbrev dktX5_hasNoToken_1 : List UInt8 := dkwX5_hasNoToken_1 ++ dktX5_hasNoToken_2
def dkwX5_hasNoToken_0 : List UInt8 := [28, 27, 160, 0, 7, 4, 167, 0, 4, 3, 62, 42, 180, 0, 9, 27, 29, 153, 0, 7, 6, 167, 0, 4]
abbrev dktX5_hasNoToken_0 : List UInt8 := dkwX5_hasNoToken_0 ++ dktX5_hasNoToken_1
theorem dksX5_hasNoToken_0 : cX5_hasNoToken.data.toList.drop 0 = dktX5_hasNoToken_0 := by decide +kernel
theorem dksX5_hasNoToken_1 : cX5_hasNoToken.data.toList.drop 24 = dktX5_hasNoToken_1 := dk_seg dksX5_hasNoToken_0 24 rfl rfl
theorem dksX5_hasNoToken_2 : cX5_hasNoToken.data.toList.drop 48 = dktX5_hasNoToken_2 := dk_seg dksX5_hasNoToken_1 24 rfl rfl
theorem dksX5_hasNoToken_3 : cX5_hasNoToken.data.toList.drop 72 = dktX5_hasNoToken_3 := dk_seg dksX5_hasNoToken_2 24 rfl rfl
theorem dksX5_hasNoToken_4 : cX5_hasNoToken.data.toList.drop 96 = dktX5_hasNoToken_4 := dk_seg dksX5_hasNoToken_3 24 rfl rfl
theorem dksX5_hasNoToken_5 : cX5_hasNoToken.data.toList.drop 120 = dktX5_hasNoToken_5 := dk_seg dksX5_hasNoToken_4 24 rfl rfl
theorem dksX5_hasNoToken_6 : cX5_hasNoToken.data.toList.drop 144 = dktX5_hasNoToken_6 := dk_seg dksX5_hasNoToken_5 24 rfl rfl
theorem dksX5_hasNoToken_7 : cX5_hasNoToken.data.toList.drop 168 = dktX5_hasNoToken_7 := dk_seg dksX5_hasNoToken_6 24 rfl rfl
theorem dksX5_hasNoToken_8 : cX5_hasNoToken.data.toList.drop 191 = dktX5_hasNoToken_8 := dk_seg dksX5_hasNoToken_7 23 rfl rfl
theorem dksX5_hasNoToken_9 : cX5_hasNoToken.data.toList.drop 215 = dktX5_hasNoToken_9 := dk_seg dksX5_hasNoToken_8 24 rfl rfl
theorem dX5_hasNoToken_0 : decode cX5_hasNoToken 0 = .ok (.iload_n 2, 1) := dk_28 (dk_at dksX5_hasNoToken_0 0 rfl rfl)
theorem dX5_hasNoToken_1 : decode cX5_hasNoToken 1 = .ok (.iload_n 1, 1) := dk_27 (dk_at dksX5_hasNoToken_0 1 rfl rfl)
theorem dX5_hasNoToken_2 : decode cX5_hasNoToken 2 = .ok (.if_icmp .ne 7, 3) := dk_160 0 7 (dk_at dksX5_hasNoToken_0 2 rfl rfl)
theorem dX5_hasNoToken_5 : decode cX5_hasNoToken 5 = .ok (.iconst 1, 1) := dk_4 (dk_at dksX5_hasNoToken_0 5 rfl rfl)
theorem dX5_hasNoToken_6 : decode cX5_hasNoToken 6 = .ok (.goto 4, 3) := dk_167 0 4 (dk_at dksX5_hasNoToken_0 6 rfl rfl)
theorem dX5_hasNoToken_9 : decode cX5_hasNoToken 9 = .ok (.iconst 0, 1) := dk_3 (dk_at dksX5_hasNoToken_0 9 rfl rfl)
theorem dX5_hasNoToken_10 : decode cX5_hasNoToken 10 = .ok (.istore_n 3, 1) := dk_62 (dk_at dksX5_hasNoToken_0 10 rfl rfl)
theorem dX5_hasNoToken_11 : decode cX5_hasNoToken 11 = .ok (.aload_n 0, 1) := dk_42 (dk_at dksX5_hasNoToken_0 11 rfl rfl)
theorem dX5_hasNoToken_12 : decode cX5_hasNoToken 12 = .ok (.getfield 9, 3) := dk_180 0 9 (dk_at dksX5_hasNoToken_0 12 rfl rfl)
theorem dX5_hasNoToken_15 : decode cX5_hasNoToken 15 = .ok (.iload_n 1, 1) := dk_27 (dk_at dksX5_hasNoToken_0 15 rfl rfl)
theorem dX5_hasNoToken_16 : decode cX5_hasNoToken 16 = .ok (.iload_n 3, 1) := dk_29 (dk_at dksX5_hasNoToken_0 16 rfl rfl)
theorem dX5_hasNoToken_17 : decode cX5_hasNoToken 17 = .ok (.ifCond .eq 7, 3) := dk_153 0 7 (dk_at dksX5_hasNoToken_0 17 rfl rfl)
theorem dX5_hasNoToken_20 : decode cX5_hasNoToken 20 = .ok (.iconst 3, 1) := dk_6 (dk_at dksX5_hasNoToken_0 20 rfl rfl)
theorem dX5_hasNoToken_21 : decode cX5_hasNoToken 21 = .ok (.goto 4, 3) := dk_167 0 4 (dk_at dksX5_hasNoToken_0 21 rfl rfl)
theorem dX5_hasNoToken_24 : decode cX5_hasNoToken 24 = .ok (.iconst 4, 1) := dk_7 (dk_at dksX5_hasNoToken_1 0 rfl rfl)
theorem dX5_hasNoToken_25 : decode cX5_hasNoToken 25 = .ok (.invokestatic 117, 3) := dk_184 0 117 (dk_at dksX5_hasNoToken_1 1 rfl rfl)
theorem dX5_hasNoToken_28 : decode cX5_hasNoToken 28 = .ok (.iaload, 1) := dk_46 (dk_at dksX5_hasNoToken_1 4 rfl rfl)
theorem dX5_hasNoToken_29 : decode cX5_hasNoToken 29 = .ok (.istore 4, 2) := dk_54 4 (dk_at dksX5_hasNoToken_1 5 rfl rfl)
theorem dX5_hasNoToken_31 : decode cX5_hasNoToken 31 = .ok (.aload_n 0, 1) := dk_42 (dk_at dksX5_hasNoToken_1 7 rfl rfl)
theorem dX5_hasNoToken_32 : decode cX5_hasNoToken 32 = .ok (.getfield 9, 3) := dk_180 0 9 (dk_at dksX5_hasNoToken_1 8 rfl rfl)
theorem dX5_hasNoToken_35 : decode cX5_hasNoToken 35 = .ok (.iload_n 1, 1) := dk_27 (dk_at dksX5_hasNoToken_1 11 rfl rfl)
theorem dX5_hasNoToken_36 : decode cX5_hasNoToken 36 = .ok (.iload_n 3, 1) := dk_29 (dk_at dksX5_hasNoToken_1 12 rfl rfl)
theorem dX5_hasNoToken_37 : decode cX5_hasNoToken 37 = .ok (.ifCond .eq 7, 3) := dk_153 0 7 (dk_at dksX5_hasNoToken_1 13 rfl rfl)
theorem dX5_hasNoToken_40 : decode cX5_hasNoToken 40 = .ok (.iconst 4, 1) := dk_7 (dk_at dksX5_hasNoToken_1 16 rfl rfl)
theorem dX5_hasNoToken_41 : decode cX5_hasNoToken 41 = .ok (.goto 4, 3) := dk_167 0 4 (dk_at dksX5_hasNoToken_1 17 rfl rfl)
theorem dX5_hasNoToken_44 : decode cX5_hasNoToken 44 = .ok (.iconst 3, 1) := dk_6 (dk_at dksX5_hasNoToken_1 20 rfl rfl)
theorem dX5_hasNoToken_45 : decode cX5_hasNoToken 45 = .ok (.invokestatic 117, 3) := dk_184 0 117 (dk_at dksX5_hasNoToken_1 21 rfl rfl)
theorem dX5_hasNoToken_48 : decode cX5_hasNoToken 48 = .ok (.iaload, 1) := dk_46 (dk_at dksX5_hasNoToken_2 0 rfl rfl)
theorem dX5_hasNoToken_49 : decode cX5_hasNoToken 49 = .ok (.istore 5, 2) := dk_54 5 (dk_at dksX5_hasNoToken_2 1 rfl rfl)
theorem dX5_hasNoToken_51 : decode cX5_hasNoToken 51 = .ok (.aload_n 0, 1) := dk_42 (dk_at dksX5_hasNoToken_2 3 rfl rfl)
theorem dX5_hasNoToken_52 : decode cX5_hasNoToken 52 = .ok (.getfield 9, 3) := dk_180 0 9 (dk_at dksX5_hasNoToken_2 4 rfl rfl)
theorem dX5_hasNoToken_55 : decode cX5_hasNoToken 55 = .ok (.iload_n 1, 1) := dk_27 (dk_at dksX5_hasNoToken_2 7 rfl rfl)
theorem dX5_hasNoToken_56 : decode cX5_hasNoToken 56 = .ok (.iconst 5, 1) := dk_8 (dk_at dksX5_hasNoToken_2 8 rfl rfl)
theorem dX5_hasNoToken_57 : decode cX5_hasNoToken 57 = .ok (.invokestatic 117, 3) := dk_184 0 117 (dk_at dksX5_hasNoToken_2 9 rfl rfl)
theorem dX5_hasNoToken_60 : decode cX5_hasNoToken 60 = .ok (.iaload, 1) := dk_46 (dk_at dksX5_hasNoToken_2 12 rfl rfl)
theorem dX5_hasNoToken_61 : decode cX5_hasNoToken 61 = .ok (.iconst 1, 1) := dk_4 (dk_at dksX5_hasNoToken_2 13 rfl rfl)
theorem dX5_hasNoToken_62 : decode cX5_hasNoToken 62 = .ok (.if_icmp .ne 7, 3) := dk_160 0 7 (dk_at dksX5_hasNoToken_2 14 rfl rfl)
theorem dX5_hasNoToken_65 : decode cX5_hasNoToken 65 = .ok (.iconst 1, 1) := dk_4 (dk_at dksX5_hasNoToken_2 17 rfl rfl)
theorem dX5_hasNoToken_66 : decode cX5_hasNoToken 66 = .ok (.goto 4, 3) := dk_167 0 4 (dk_at dksX5_hasNoToken_2 18 rfl rfl)
theorem dX5_hasNoToken_69 : decode cX5_hasNoToken 69 = .ok (.iconst 0, 1) := dk_3 (dk_at dksX5_hasNoToken_2 21 rfl rfl)
theorem dX5_hasNoToken_70 : decode cX5_hasNoToken 70 = .ok (.istore 6, 2) := dk_54 6 (dk_at dksX5_hasNoToken_2 22 rfl rfl)
theorem dX5_hasNoToken_72 : decode cX5_hasNoToken 72 = .ok (.aload_n 0, 1) := dk_42 (dk_at dksX5_hasNoToken_3 0 rfl rfl)
theorem dX5_hasNoToken_73 : decode cX5_hasNoToken 73 = .ok (.iload_n 1, 1) := dk_27 (dk_at dksX5_hasNoToken_3 1 rfl rfl)
theorem dX5_hasNoToken_74 : decode cX5_hasNoToken 74 = .ok (.invokevirtual 135, 3) := dk_182 0 135 (dk_at dksX5_hasNoToken_3 2 rfl rfl)
theorem dX5_hasNoToken_77 : decode cX5_hasNoToken 77 = .ok (.istore 7, 2) := dk_54 7 (dk_at dksX5_hasNoToken_3 5 rfl rfl)
theorem dX5_hasNoToken_79 : decode cX5_hasNoToken 79 = .ok (.iload 6, 2) := dk_21 6 (dk_at dksX5_hasNoToken_3 7 rfl rfl)
theorem dX5_hasNoToken_81 : decode cX5_hasNoToken 81 = .ok (.ifCond .eq 26, 3) := dk_153 0 26 (dk_at dksX5_hasNoToken_3 9 rfl rfl)
theorem dX5_hasNoToken_84 : decode cX5_hasNoToken 84 = .ok (.iload 7, 2) := dk_21 7 (dk_at dksX5_hasNoToken_3 12 rfl rfl)
theorem dX5_hasNoToken_86 : decode cX5_hasNoToken 86 = .ok (.ifCond .lt 28, 3) := dk_155 0 28 (dk_at dksX5_hasNoToken_3 14 rfl rfl)
theorem dX5_hasNoToken_89 : decode cX5_hasNoToken 89 = .ok (.aload_n 0, 1) := dk_42 (dk_at dksX5_hasNoToken_3 17 rfl rfl)
theorem dX5_hasNoToken_90 : decode cX5_hasNoToken 90 = .ok (.getfield 9, 3) := dk_180 0 9 (dk_at dksX5_hasNoToken_3 18 rfl rfl)
theorem dX5_hasNoToken_93 : decode cX5_hasNoToken 93 = .ok (.iload 7, 2) := dk_21 7 (dk_at dksX5_hasNoToken_3 21 rfl rfl)
theorem dX5_hasNoToken_95 : decode cX5_hasNoToken 95 = .ok (.iconst 0, 1) := dk_3 (dk_at dksX5_hasNoToken_3 23 rfl rfl)
theorem dX5_hasNoToken_96 : decode cX5_hasNoToken 96 = .ok (.invokestatic 99, 3) := dk_184 0 99 (dk_at dksX5_hasNoToken_4 0 rfl rfl)
theorem dX5_hasNoToken_99 : decode cX5_hasNoToken 99 = .ok (.iaload, 1) := dk_46 (dk_at dksX5_hasNoToken_4 3 rfl rfl)
theorem dX5_hasNoToken_100 : decode cX5_hasNoToken 100 = .ok (.iload_n 2, 1) := dk_28 (dk_at dksX5_hasNoToken_4 4 rfl rfl)
theorem dX5_hasNoToken_101 : decode cX5_hasNoToken 101 = .ok (.if_icmp .ne 13, 3) := dk_160 0 13 (dk_at dksX5_hasNoToken_4 5 rfl rfl)
theorem dX5_hasNoToken_104 : decode cX5_hasNoToken 104 = .ok (.goto 8, 3) := dk_167 0 8 (dk_at dksX5_hasNoToken_4 8 rfl rfl)
theorem dX5_hasNoToken_107 : decode cX5_hasNoToken 107 = .ok (.iload 4, 2) := dk_21 4 (dk_at dksX5_hasNoToken_4 11 rfl rfl)
theorem dX5_hasNoToken_109 : decode cX5_hasNoToken 109 = .ok (.ifCond .le 5, 3) := dk_158 0 5 (dk_at dksX5_hasNoToken_4 13 rfl rfl)
theorem dX5_hasNoToken_112 : decode cX5_hasNoToken 112 = .ok (.iconst 0, 1) := dk_3 (dk_at dksX5_hasNoToken_4 16 rfl rfl)
theorem dX5_hasNoToken_113 : decode cX5_hasNoToken 113 = .ok (.ireturn, 1) := dk_172 (dk_at dksX5_hasNoToken_4 17 rfl rfl)
theorem dX5_hasNoToken_114 : decode cX5_hasNoToken 114 = .ok (.aload_n 0, 1) := dk_42 (dk_at dksX5_hasNoToken_4 18 rfl rfl)
theorem dX5_hasNoToken_115 : decode cX5_hasNoToken 115 = .ok (.iconst 0, 1) := dk_3 (dk_at dksX5_hasNoToken_4 19 rfl rfl)
theorem dX5_hasNoToken_116 : decode cX5_hasNoToken 116 = .ok (.putfield 70, 3) := dk_181 0 70 (dk_at dksX5_hasNoToken_4 20 rfl rfl)
theorem dX5_hasNoToken_119 : decode cX5_hasNoToken 119 = .ok (.aload_n 0, 1) := dk_42 (dk_at dksX5_hasNoToken_4 23 rfl rfl)
theorem dX5_hasNoToken_120 : decode cX5_hasNoToken 120 = .ok (.bipush 7, 2) := dk_16 7 (dk_at dksX5_hasNoToken_5 0 rfl rfl)
theorem dX5_hasNoToken_122 : decode cX5_hasNoToken 122 = .ok (.iload_n 1, 1) := dk_27 (dk_at dksX5_hasNoToken_5 2 rfl rfl)
theorem dX5_hasNoToken_123 : decode cX5_hasNoToken 123 = .ok (.invokevirtual 73, 3) := dk_182 0 73 (dk_at dksX5_hasNoToken_5 3 rfl rfl)
theorem dX5_hasNoToken_126 : decode cX5_hasNoToken 126 = .ok (.iload 6, 2) := dk_21 6 (dk_at dksX5_hasNoToken_5 6 rfl rfl)
theorem dX5_hasNoToken_128 : decode cX5_hasNoToken 128 = .ok (.ifCond .eq 19, 3) := dk_153 0 19 (dk_at dksX5_hasNoToken_5 8 rfl rfl)
theorem dX5_hasNoToken_131 : decode cX5_hasNoToken 131 = .ok (.iload 7, 2) := dk_21 7 (dk_at dksX5_hasNoToken_5 11 rfl rfl)
theorem dX5_hasNoToken_133 : decode cX5_hasNoToken 133 = .ok (.ifCond .lt 14, 3) := dk_155 0 14 (dk_at dksX5_hasNoToken_5 13 rfl rfl)
theorem dX5_hasNoToken_136 : decode cX5_hasNoToken 136 = .ok (.aload_n 0, 1) := dk_42 (dk_at dksX5_hasNoToken_5 16 rfl rfl)
theorem dX5_hasNoToken_137 : decode cX5_hasNoToken 137 = .ok (.bipush 22, 2) := dk_16 22 (dk_at dksX5_hasNoToken_5 17 rfl rfl)
theorem dX5_hasNoToken_139 : decode cX5_hasNoToken 139 = .ok (.iload 7, 2) := dk_21 7 (dk_at dksX5_hasNoToken_5 19 rfl rfl)
theorem dX5_hasNoToken_141 : decode cX5_hasNoToken 141 = .ok (.invokevirtual 73, 3) := dk_182 0 73 (dk_at dksX5_hasNoToken_5 21 rfl rfl)
theorem dX5_hasNoToken_144 : decode cX5_hasNoToken 144 = .ok (.goto 74, 3) := dk_167 0 74 (dk_at dksX5_hasNoToken_6 0 rfl rfl)
theorem dX5_hasNoToken_147 : decode cX5_hasNoToken 147 = .ok (.iload 6, 2) := dk_21 6 (dk_at dksX5_hasNoToken_6 3 rfl rfl)
theorem dX5_hasNoToken_149 : decode cX5_hasNoToken 149 = .ok (.ifCond .eq 28, 3) := dk_153 0 28 (dk_at dksX5_hasNoToken_6 5 rfl rfl)
theorem dX5_hasNoToken_152 : decode cX5_hasNoToken 152 = .ok (.aload_n 0, 1) := dk_42 (dk_at dksX5_hasNoToken_6 8 rfl rfl)
theorem dX5_hasNoToken_153 : decode cX5_hasNoToken 153 = .ok (.bipush 10, 2) := dk_16 10 (dk_at dksX5_hasNoToken_6 9 rfl rfl)
theorem dX5_hasNoToken_155 : decode cX5_hasNoToken 155 = .ok (.iload_n 1, 1) := dk_27 (dk_at dksX5_hasNoToken_6 11 rfl rfl)
theorem dX5_hasNoToken_156 : decode cX5_hasNoToken 156 = .ok (.invokevirtual 73, 3) := dk_182 0 73 (dk_at dksX5_hasNoToken_6 12 rfl rfl)
theorem dX5_hasNoToken_159 : decode cX5_hasNoToken 159 = .ok (.aload_n 0, 1) := dk_42 (dk_at dksX5_hasNoToken_6 15 rfl rfl)
theorem dX5_hasNoToken_160 : decode cX5_hasNoToken 160 = .ok (.iload_n 1, 1) := dk_27 (dk_at dksX5_hasNoToken_6 16 rfl rfl)
theorem dX5_hasNoToken_161 : decode cX5_hasNoToken 161 = .ok (.invokevirtual 172, 3) := dk_182 0 172 (dk_at dksX5_hasNoToken_6 17 rfl rfl)
theorem dX5_hasNoToken_164 : decode cX5_hasNoToken 164 = .ok (.ifCond .ne 54, 3) := dk_154 0 54 (dk_at dksX5_hasNoToken_6 20 rfl rfl)
theorem dX5_hasNoToken_167 : decode cX5_hasNoToken 167 = .ok (.aload_n 0, 1) := dk_42 (dk_at dksX5_hasNoToken_6 23 rfl rfl)
theorem dX5_hasNoToken_168 : decode cX5_hasNoToken 168 = .ok (.bipush 23, 2) := dk_16 23 (dk_at dksX5_hasNoToken_7 0 rfl rfl)
theorem dX5_hasNoToken_170 : decode cX5_hasNoToken 170 = .ok (.iload_n 1, 1) := dk_27 (dk_at dksX5_hasNoToken_7 2 rfl rfl)
theorem dX5_hasNoToken_171 : decode cX5_hasNoToken 171 = .ok (.invokevirtual 73, 3) := dk_182 0 73 (dk_at dksX5_hasNoToken_7 3 rfl rfl)
theorem dX5_hasNoToken_174 : decode cX5_hasNoToken 174 = .ok (.goto 44, 3) := dk_167 0 44 (dk_at dksX5_hasNoToken_7 6 rfl rfl)
theorem dX5_hasNoToken_177 : decode cX5_hasNoToken 177 = .ok (.aload_n 0, 1) := dk_42 (dk_at dksX5_hasNoToken_7 9 rfl rfl)
theorem dX5_hasNoToken_178 : decode cX5_hasNoToken 178 = .ok (.getfield 9, 3) := dk_180 0 9 (dk_at dksX5_hasNoToken_7 10 rfl rfl)
theorem dX5_hasNoToken_181 : decode cX5_hasNoToken 181 = .ok (.iload_n 1, 1) := dk_27 (dk_at dksX5_hasNoToken_7 13 rfl rfl)
theorem dX5_hasNoToken_182 : decode cX5_hasNoToken 182 = .ok (.iconst 0, 1) := dk_3 (dk_at dksX5_hasNoToken_7 14 rfl rfl)
theorem dX5_hasNoToken_183 : decode cX5_hasNoToken 183 = .ok (.invokestatic 117, 3) := dk_184 0 117 (dk_at dksX5_hasNoToken_7 15 rfl rfl)
theorem dX5_hasNoToken_186 : decode cX5_hasNoToken 186 = .ok (.iaload, 1) := dk_46 (dk_at dksX5_hasNoToken_7 18 rfl rfl)
theorem dX5_hasNoToken_187 : decode cX5_hasNoToken 187 = .ok (.ifCond .ne 23, 3) := dk_154 0 23 (dk_at dksX5_hasNoToken_7 19 rfl rfl)
theorem dX5_hasNoToken_190 : decode cX5_hasNoToken 190 = .ok (.aload_n 0, 1) := dk_42 (dk_at dksX5_hasNoToken_7 22 rfl rfl)
theorem dX5_hasNoToken_191 : decode cX5_hasNoToken 191 = .ok (.bipush 20, 2) := dk_16 20 (dk_at dksX5_hasNoToken_8 0 rfl rfl)
theorem dX5_hasNoToken_193 : decode cX5_hasNoToken 193 = .ok (.iload_n 3, 1) := dk_29 (dk_at dksX5_hasNoToken_8 2 rfl rfl)
theorem dX5_hasNoToken_194 : decode cX5_hasNoToken 194 = .ok (.ifCond .eq 9, 3) := dk_153 0 9 (dk_at dksX5_hasNoToken_8 3 rfl rfl)
theorem dX5_hasNoToken_197 : decode cX5_hasNoToken 197 = .ok (.iload_n 1, 1) := dk_27 (dk_at dksX5_hasNoToken_8 6 rfl rfl)
theorem dX5_hasNoToken_198 : decode cX5_hasNoToken 198 = .ok (.iconst 1, 1) := dk_4 (dk_at dksX5_hasNoToken_8 7 rfl rfl)
theorem dX5_hasNoToken_199 : decode cX5_hasNoToken 199 = .ok (.iadd, 1) := dk_96 (dk_at dksX5_hasNoToken_8 8 rfl rfl)
theorem dX5_hasNoToken_200 : decode cX5_hasNoToken 200 = .ok (.goto 4, 3) := dk_167 0 4 (dk_at dksX5_hasNoToken_8 9 rfl rfl)
theorem dX5_hasNoToken_203 : decode cX5_hasNoToken 203 = .ok (.iload_n 1, 1) := dk_27 (dk_at dksX5_hasNoToken_8 12 rfl rfl)
theorem dX5_hasNoToken_204 : decode cX5_hasNoToken 204 = .ok (.invokevirtual 73, 3) := dk_182 0 73 (dk_at dksX5_hasNoToken_8 13 rfl rfl)
theorem dX5_hasNoToken_207 : decode cX5_hasNoToken 207 = .ok (.goto 11, 3) := dk_167 0 11 (dk_at dksX5_hasNoToken_8 16 rfl rfl)
theorem dX5_hasNoToken_210 : decode cX5_hasNoToken 210 = .ok (.aload_n 0, 1) := dk_42 (dk_at dksX5_hasNoToken_8 19 rfl rfl)
theorem dX5_hasNoToken_211 : decode cX5_hasNoToken 211 = .ok (.bipush 21, 2) := dk_16 21 (dk_at dksX5_hasNoToken_8 20 rfl rfl)
theorem dX5_hasNoToken_213 : decode cX5_hasNoToken 213 = .ok (.iload 5, 2) := dk_21 5 (dk_at dksX5_hasNoToken_8 22 rfl rfl)
theorem dX5_hasNoToken_215 : decode cX5_hasNoToken 215 = .ok (.invokevirtual 73, 3) := dk_182 0 73 (dk_at dksX5_hasNoToken_9 0 rfl rfl)
theorem dX5_hasNoToken_218 : decode cX5_hasNoToken 218 = .ok (.iconst 1, 1) := dk_4 (dk_at dksX5_hasNoToken_9 3 rfl rfl)
theorem dX5_hasNoToken_219 : decode cX5_hasNoToken 219 = .ok (.ireturn, 1) := dk_172 (dk_at dksX5_hasNoToken_9 4 rfl rfl)
abbrev cX5_hasSpareMan : ByteArray := prog_20_method_48_code
def yX5_hasSpareMan : MethodName := ⟨RX5, "hasSpareMan", "(I)Z"⟩
def dkwX5_hasSpareMan_2 : List UInt8 := [153, 0, 7, 4, 167, 0, 4, 3, 128, 61, 132, 3, 1, 167, 255, 200, 28, 172]
abbrev dktX5_hasSpareMan_2 : List UInt8 := dkwX5_hasSpareMan_2 ++ []
def dkwX5_hasSpareMan_1 : List UInt8 := [184, 0, 99, 46, 156, 0, 27, 42, 180, 0, 9, 29, 3, 184, 0, 99, 46, 27, 27, 4, 96, 184, 0, 88]
abbrev dktX5_hasSpareMan_1 : List UInt8 := dkwX5_hasSpareMan_1 ++ dktX5_hasSpareMan_2
def dkwX5_hasSpareMan_0 : List UInt8 := [3, 61, 3, 62, 29, 42, 180, 0, 9, 17, 0, 181, 46, 162, 0, 50, 28, 42, 180, 0, 9, 29, 4]
abbrev dktX5_hasSpareMan_0 : List UInt8 := dkwX5_hasSpareMan_0 ++ dktX5_hasSpareMan_1
theorem dksX5_hasSpareMan_0 : cX5_hasSpareMan.data.toList.drop 0 = dktX5_hasSpareMan_0 := by decide +kernel
theorem dksX5_hasSpareMan_1 : cX5_hasSpareMan.data.toList.drop 23 = dktX5_hasSpareMan_1 := dk_seg dksX5_hasSpareMan_0 23 rfl rfl
theorem dksX5_hasSpareMan_2 : cX5_hasSpareMan.data.toList.drop 47 = dktX5_hasSpareMan_2 := dk_seg dksX5_hasSpareMan_1 24 rfl rfl
theorem dX5_hasSpareMan_0 : decode cX5_hasSpareMan 0 = .ok (.iconst 0, 1) := dk_3 (dk_at dksX5_hasSpareMan_0 0 rfl rfl)
theorem dX5_hasSpareMan_1 : decode cX5_hasSpareMan 1 = .ok (.istore_n 2, 1) := dk_61 (dk_at dksX5_hasSpareMan_0 1 rfl rfl)
theorem dX5_hasSpareMan_2 : decode cX5_hasSpareMan 2 = .ok (.iconst 0, 1) := dk_3 (dk_at dksX5_hasSpareMan_0 2 rfl rfl)
theorem dX5_hasSpareMan_3 : decode cX5_hasSpareMan 3 = .ok (.istore_n 3, 1) := dk_62 (dk_at dksX5_hasSpareMan_0 3 rfl rfl)
theorem dX5_hasSpareMan_4 : decode cX5_hasSpareMan 4 = .ok (.iload_n 3, 1) := dk_29 (dk_at dksX5_hasSpareMan_0 4 rfl rfl)
theorem dX5_hasSpareMan_5 : decode cX5_hasSpareMan 5 = .ok (.aload_n 0, 1) := dk_42 (dk_at dksX5_hasSpareMan_0 5 rfl rfl)
theorem dX5_hasSpareMan_6 : decode cX5_hasSpareMan 6 = .ok (.getfield 9, 3) := dk_180 0 9 (dk_at dksX5_hasSpareMan_0 6 rfl rfl)
theorem dX5_hasSpareMan_9 : decode cX5_hasSpareMan 9 = .ok (.sipush 181, 3) := dk_17 0 181 (dk_at dksX5_hasSpareMan_0 9 rfl rfl)
theorem dX5_hasSpareMan_12 : decode cX5_hasSpareMan 12 = .ok (.iaload, 1) := dk_46 (dk_at dksX5_hasSpareMan_0 12 rfl rfl)
theorem dX5_hasSpareMan_13 : decode cX5_hasSpareMan 13 = .ok (.if_icmp .ge 50, 3) := dk_162 0 50 (dk_at dksX5_hasSpareMan_0 13 rfl rfl)
theorem dX5_hasSpareMan_16 : decode cX5_hasSpareMan 16 = .ok (.iload_n 2, 1) := dk_28 (dk_at dksX5_hasSpareMan_0 16 rfl rfl)
theorem dX5_hasSpareMan_17 : decode cX5_hasSpareMan 17 = .ok (.aload_n 0, 1) := dk_42 (dk_at dksX5_hasSpareMan_0 17 rfl rfl)
theorem dX5_hasSpareMan_18 : decode cX5_hasSpareMan 18 = .ok (.getfield 9, 3) := dk_180 0 9 (dk_at dksX5_hasSpareMan_0 18 rfl rfl)
theorem dX5_hasSpareMan_21 : decode cX5_hasSpareMan 21 = .ok (.iload_n 3, 1) := dk_29 (dk_at dksX5_hasSpareMan_0 21 rfl rfl)
theorem dX5_hasSpareMan_22 : decode cX5_hasSpareMan 22 = .ok (.iconst 1, 1) := dk_4 (dk_at dksX5_hasSpareMan_0 22 rfl rfl)
theorem dX5_hasSpareMan_23 : decode cX5_hasSpareMan 23 = .ok (.invokestatic 99, 3) := dk_184 0 99 (dk_at dksX5_hasSpareMan_1 0 rfl rfl)
theorem dX5_hasSpareMan_26 : decode cX5_hasSpareMan 26 = .ok (.iaload, 1) := dk_46 (dk_at dksX5_hasSpareMan_1 3 rfl rfl)
theorem dX5_hasSpareMan_27 : decode cX5_hasSpareMan 27 = .ok (.ifCond .ge 27, 3) := dk_156 0 27 (dk_at dksX5_hasSpareMan_1 4 rfl rfl)
theorem dX5_hasSpareMan_30 : decode cX5_hasSpareMan 30 = .ok (.aload_n 0, 1) := dk_42 (dk_at dksX5_hasSpareMan_1 7 rfl rfl)
theorem dX5_hasSpareMan_31 : decode cX5_hasSpareMan 31 = .ok (.getfield 9, 3) := dk_180 0 9 (dk_at dksX5_hasSpareMan_1 8 rfl rfl)
theorem dX5_hasSpareMan_34 : decode cX5_hasSpareMan 34 = .ok (.iload_n 3, 1) := dk_29 (dk_at dksX5_hasSpareMan_1 11 rfl rfl)
theorem dX5_hasSpareMan_35 : decode cX5_hasSpareMan 35 = .ok (.iconst 0, 1) := dk_3 (dk_at dksX5_hasSpareMan_1 12 rfl rfl)
theorem dX5_hasSpareMan_36 : decode cX5_hasSpareMan 36 = .ok (.invokestatic 99, 3) := dk_184 0 99 (dk_at dksX5_hasSpareMan_1 13 rfl rfl)
theorem dX5_hasSpareMan_39 : decode cX5_hasSpareMan 39 = .ok (.iaload, 1) := dk_46 (dk_at dksX5_hasSpareMan_1 16 rfl rfl)
theorem dX5_hasSpareMan_40 : decode cX5_hasSpareMan 40 = .ok (.iload_n 1, 1) := dk_27 (dk_at dksX5_hasSpareMan_1 17 rfl rfl)
theorem dX5_hasSpareMan_41 : decode cX5_hasSpareMan 41 = .ok (.iload_n 1, 1) := dk_27 (dk_at dksX5_hasSpareMan_1 18 rfl rfl)
theorem dX5_hasSpareMan_42 : decode cX5_hasSpareMan 42 = .ok (.iconst 1, 1) := dk_4 (dk_at dksX5_hasSpareMan_1 19 rfl rfl)
theorem dX5_hasSpareMan_43 : decode cX5_hasSpareMan 43 = .ok (.iadd, 1) := dk_96 (dk_at dksX5_hasSpareMan_1 20 rfl rfl)
theorem dX5_hasSpareMan_44 : decode cX5_hasSpareMan 44 = .ok (.invokestatic 88, 3) := dk_184 0 88 (dk_at dksX5_hasSpareMan_1 21 rfl rfl)
theorem dX5_hasSpareMan_47 : decode cX5_hasSpareMan 47 = .ok (.ifCond .eq 7, 3) := dk_153 0 7 (dk_at dksX5_hasSpareMan_2 0 rfl rfl)
theorem dX5_hasSpareMan_50 : decode cX5_hasSpareMan 50 = .ok (.iconst 1, 1) := dk_4 (dk_at dksX5_hasSpareMan_2 3 rfl rfl)
theorem dX5_hasSpareMan_51 : decode cX5_hasSpareMan 51 = .ok (.goto 4, 3) := dk_167 0 4 (dk_at dksX5_hasSpareMan_2 4 rfl rfl)
theorem dX5_hasSpareMan_54 : decode cX5_hasSpareMan 54 = .ok (.iconst 0, 1) := dk_3 (dk_at dksX5_hasSpareMan_2 7 rfl rfl)
theorem dX5_hasSpareMan_55 : decode cX5_hasSpareMan 55 = .ok (.ior, 1) := dk_128 (dk_at dksX5_hasSpareMan_2 8 rfl rfl)
theorem dX5_hasSpareMan_56 : decode cX5_hasSpareMan 56 = .ok (.istore_n 2, 1) := dk_61 (dk_at dksX5_hasSpareMan_2 9 rfl rfl)
theorem dX5_hasSpareMan_57 : decode cX5_hasSpareMan 57 = .ok (.iinc 3 1, 3) := dk_132 3 1 (dk_at dksX5_hasSpareMan_2 10 rfl rfl)
theorem dX5_hasSpareMan_60 : decode cX5_hasSpareMan 60 = .ok (.goto (-56), 3) := dk_167 255 200 (dk_at dksX5_hasSpareMan_2 13 rfl rfl)
theorem dX5_hasSpareMan_63 : decode cX5_hasSpareMan 63 = .ok (.iload_n 2, 1) := dk_28 (dk_at dksX5_hasSpareMan_2 16 rfl rfl)
theorem dX5_hasSpareMan_64 : decode cX5_hasSpareMan 64 = .ok (.ireturn, 1) := dk_172 (dk_at dksX5_hasSpareMan_2 17 rfl rfl)
abbrev cX5_needed : ByteArray := prog_20_method_50_code
def yX5_needed : MethodName := ⟨RX5, "needed", "(II)I"⟩
def dkwX5_needed_1 : List UInt8 := [104, 172]
abbrev dktX5_needed_1 : List UInt8 := dkwX5_needed_1 ++ []
def dkwX5_needed_0 : List UInt8 := [42, 180, 0, 9, 28, 4, 184, 0, 117, 46, 42, 27, 28, 182, 0, 175, 153, 0, 7, 6, 167, 0, 4, 4]
abbrev dktX5_needed_0 : List UInt8 := dkwX5_needed_0 ++ dktX5_needed_1
theorem dksX5_needed_0 : cX5_needed.data.toList.drop 0 = dktX5_needed_0 := by decide +kernel
theorem dksX5_needed_1 : cX5_needed.data.toList.drop 24 = dktX5_needed_1 := dk_seg dksX5_needed_0 24 rfl rfl
theorem dX5_needed_0 : decode cX5_needed 0 = .ok (.aload_n 0, 1) := dk_42 (dk_at dksX5_needed_0 0 rfl rfl)
theorem dX5_needed_1 : decode cX5_needed 1 = .ok (.getfield 9, 3) := dk_180 0 9 (dk_at dksX5_needed_0 1 rfl rfl)
theorem dX5_needed_4 : decode cX5_needed 4 = .ok (.iload_n 2, 1) := dk_28 (dk_at dksX5_needed_0 4 rfl rfl)
theorem dX5_needed_5 : decode cX5_needed 5 = .ok (.iconst 1, 1) := dk_4 (dk_at dksX5_needed_0 5 rfl rfl)
theorem dX5_needed_6 : decode cX5_needed 6 = .ok (.invokestatic 117, 3) := dk_184 0 117 (dk_at dksX5_needed_0 6 rfl rfl)
theorem dX5_needed_9 : decode cX5_needed 9 = .ok (.iaload, 1) := dk_46 (dk_at dksX5_needed_0 9 rfl rfl)
theorem dX5_needed_10 : decode cX5_needed 10 = .ok (.aload_n 0, 1) := dk_42 (dk_at dksX5_needed_0 10 rfl rfl)
theorem dX5_needed_11 : decode cX5_needed 11 = .ok (.iload_n 1, 1) := dk_27 (dk_at dksX5_needed_0 11 rfl rfl)
theorem dX5_needed_12 : decode cX5_needed 12 = .ok (.iload_n 2, 1) := dk_28 (dk_at dksX5_needed_0 12 rfl rfl)
theorem dX5_needed_13 : decode cX5_needed 13 = .ok (.invokevirtual 175, 3) := dk_182 0 175 (dk_at dksX5_needed_0 13 rfl rfl)
theorem dX5_needed_16 : decode cX5_needed 16 = .ok (.ifCond .eq 7, 3) := dk_153 0 7 (dk_at dksX5_needed_0 16 rfl rfl)
theorem dX5_needed_19 : decode cX5_needed 19 = .ok (.iconst 3, 1) := dk_6 (dk_at dksX5_needed_0 19 rfl rfl)
theorem dX5_needed_20 : decode cX5_needed 20 = .ok (.goto 4, 3) := dk_167 0 4 (dk_at dksX5_needed_0 20 rfl rfl)
theorem dX5_needed_23 : decode cX5_needed 23 = .ok (.iconst 1, 1) := dk_4 (dk_at dksX5_needed_0 23 rfl rfl)
theorem dX5_needed_24 : decode cX5_needed 24 = .ok (.imul, 1) := dk_104 (dk_at dksX5_needed_1 0 rfl rfl)
theorem dX5_needed_25 : decode cX5_needed 25 = .ok (.ireturn, 1) := dk_172 (dk_at dksX5_needed_1 1 rfl rfl)
abbrev cX5_isByHalves : ByteArray := prog_20_method_49_code
def yX5_isByHalves : MethodName := ⟨RX5, "isByHalves", "(II)Z"⟩
def dkwX5_isByHalves_1 : List UInt8 := [167, 0, 4, 3, 172]
abbrev dktX5_isByHalves_1 : List UInt8 := dkwX5_isByHalves_1 ++ []
def dkwX5_isByHalves_0 : List UInt8 := [42, 180, 0, 9, 27, 3, 184, 0, 92, 46, 42, 180, 0, 9, 28, 5, 184, 0, 117, 46, 164, 0, 7, 4]
abbrev dktX5_isByHalves_0 : List UInt8 := dkwX5_isByHalves_0 ++ dktX5_isByHalves_1
theorem dksX5_isByHalves_0 : cX5_isByHalves.data.toList.drop 0 = dktX5_isByHalves_0 := by decide +kernel
theorem dksX5_isByHalves_1 : cX5_isByHalves.data.toList.drop 24 = dktX5_isByHalves_1 := dk_seg dksX5_isByHalves_0 24 rfl rfl
theorem dX5_isByHalves_0 : decode cX5_isByHalves 0 = .ok (.aload_n 0, 1) := dk_42 (dk_at dksX5_isByHalves_0 0 rfl rfl)
theorem dX5_isByHalves_1 : decode cX5_isByHalves 1 = .ok (.getfield 9, 3) := dk_180 0 9 (dk_at dksX5_isByHalves_0 1 rfl rfl)
theorem dX5_isByHalves_4 : decode cX5_isByHalves 4 = .ok (.iload_n 1, 1) := dk_27 (dk_at dksX5_isByHalves_0 4 rfl rfl)
theorem dX5_isByHalves_5 : decode cX5_isByHalves 5 = .ok (.iconst 0, 1) := dk_3 (dk_at dksX5_isByHalves_0 5 rfl rfl)
theorem dX5_isByHalves_6 : decode cX5_isByHalves 6 = .ok (.invokestatic 92, 3) := dk_184 0 92 (dk_at dksX5_isByHalves_0 6 rfl rfl)
theorem dX5_isByHalves_9 : decode cX5_isByHalves 9 = .ok (.iaload, 1) := dk_46 (dk_at dksX5_isByHalves_0 9 rfl rfl)
theorem dX5_isByHalves_10 : decode cX5_isByHalves 10 = .ok (.aload_n 0, 1) := dk_42 (dk_at dksX5_isByHalves_0 10 rfl rfl)
theorem dX5_isByHalves_11 : decode cX5_isByHalves 11 = .ok (.getfield 9, 3) := dk_180 0 9 (dk_at dksX5_isByHalves_0 11 rfl rfl)
theorem dX5_isByHalves_14 : decode cX5_isByHalves 14 = .ok (.iload_n 2, 1) := dk_28 (dk_at dksX5_isByHalves_0 14 rfl rfl)
theorem dX5_isByHalves_15 : decode cX5_isByHalves 15 = .ok (.iconst 2, 1) := dk_5 (dk_at dksX5_isByHalves_0 15 rfl rfl)
theorem dX5_isByHalves_16 : decode cX5_isByHalves 16 = .ok (.invokestatic 117, 3) := dk_184 0 117 (dk_at dksX5_isByHalves_0 16 rfl rfl)
theorem dX5_isByHalves_19 : decode cX5_isByHalves 19 = .ok (.iaload, 1) := dk_46 (dk_at dksX5_isByHalves_0 19 rfl rfl)
theorem dX5_isByHalves_20 : decode cX5_isByHalves 20 = .ok (.if_icmp .le 7, 3) := dk_164 0 7 (dk_at dksX5_isByHalves_0 20 rfl rfl)
theorem dX5_isByHalves_23 : decode cX5_isByHalves 23 = .ok (.iconst 1, 1) := dk_4 (dk_at dksX5_isByHalves_0 23 rfl rfl)
theorem dX5_isByHalves_24 : decode cX5_isByHalves 24 = .ok (.goto 4, 3) := dk_167 0 4 (dk_at dksX5_isByHalves_1 0 rfl rfl)
theorem dX5_isByHalves_27 : decode cX5_isByHalves 27 = .ok (.iconst 0, 1) := dk_3 (dk_at dksX5_isByHalves_1 3 rfl rfl)
theorem dX5_isByHalves_28 : decode cX5_isByHalves 28 = .ok (.ireturn, 1) := dk_172 (dk_at dksX5_isByHalves_1 4 rfl rfl)
abbrev cX5_write : ByteArray := prog_20_method_25_code
def yX5_write : MethodName := ⟨RX5, "write", "(III)V"⟩
def dkwX5_write_4 : List UInt8 := [180, 0, 9, 27, 4, 184, 0, 44, 46, 8, 162, 0, 7, 4, 167, 0, 4, 3, 96, 79, 177]
abbrev dktX5_write_4 : List UInt8 := dkwX5_write_4 ++ []
def dkwX5_write_3 : List UInt8 := [42, 180, 0, 9, 21, 4, 5, 96, 29, 79, 42, 180, 0, 9, 27, 4, 184, 0, 44, 92, 46, 42]
abbrev dktX5_write_3 : List UInt8 := dkwX5_write_3 ++ dktX5_write_4
def dkwX5_write_2 : List UInt8 := [180, 0, 9, 21, 4, 42, 180, 0, 9, 17, 0, 182, 46, 79, 42, 180, 0, 9, 21, 4, 4, 96, 28, 79]
abbrev dktX5_write_2 : List UInt8 := dkwX5_write_2 ++ dktX5_write_3
def dkwX5_write_1 : List UInt8 := [21, 5, 96, 42, 180, 0, 9, 21, 4, 21, 5, 96, 6, 100, 46, 79, 132, 5, 255, 167, 255, 225, 42]
abbrev dktX5_write_1 : List UInt8 := dkwX5_write_1 ++ dktX5_write_2
def dkwX5_write_0 : List UInt8 := [27, 5, 184, 0, 44, 54, 4, 16, 14, 54, 5, 21, 5, 6, 161, 0, 31, 42, 180, 0, 9, 21, 4]
abbrev dktX5_write_0 : List UInt8 := dkwX5_write_0 ++ dktX5_write_1
theorem dksX5_write_0 : cX5_write.data.toList.drop 0 = dktX5_write_0 := by decide +kernel
theorem dksX5_write_1 : cX5_write.data.toList.drop 23 = dktX5_write_1 := dk_seg dksX5_write_0 23 rfl rfl
theorem dksX5_write_2 : cX5_write.data.toList.drop 46 = dktX5_write_2 := dk_seg dksX5_write_1 23 rfl rfl
theorem dksX5_write_3 : cX5_write.data.toList.drop 70 = dktX5_write_3 := dk_seg dksX5_write_2 24 rfl rfl
theorem dksX5_write_4 : cX5_write.data.toList.drop 92 = dktX5_write_4 := dk_seg dksX5_write_3 22 rfl rfl
theorem dX5_write_0 : decode cX5_write 0 = .ok (.iload_n 1, 1) := dk_27 (dk_at dksX5_write_0 0 rfl rfl)
theorem dX5_write_1 : decode cX5_write 1 = .ok (.iconst 2, 1) := dk_5 (dk_at dksX5_write_0 1 rfl rfl)
theorem dX5_write_2 : decode cX5_write 2 = .ok (.invokestatic 44, 3) := dk_184 0 44 (dk_at dksX5_write_0 2 rfl rfl)
theorem dX5_write_5 : decode cX5_write 5 = .ok (.istore 4, 2) := dk_54 4 (dk_at dksX5_write_0 5 rfl rfl)
theorem dX5_write_7 : decode cX5_write 7 = .ok (.bipush 14, 2) := dk_16 14 (dk_at dksX5_write_0 7 rfl rfl)
theorem dX5_write_9 : decode cX5_write 9 = .ok (.istore 5, 2) := dk_54 5 (dk_at dksX5_write_0 9 rfl rfl)
theorem dX5_write_11 : decode cX5_write 11 = .ok (.iload 5, 2) := dk_21 5 (dk_at dksX5_write_0 11 rfl rfl)
theorem dX5_write_13 : decode cX5_write 13 = .ok (.iconst 3, 1) := dk_6 (dk_at dksX5_write_0 13 rfl rfl)
theorem dX5_write_14 : decode cX5_write 14 = .ok (.if_icmp .lt 31, 3) := dk_161 0 31 (dk_at dksX5_write_0 14 rfl rfl)
theorem dX5_write_17 : decode cX5_write 17 = .ok (.aload_n 0, 1) := dk_42 (dk_at dksX5_write_0 17 rfl rfl)
theorem dX5_write_18 : decode cX5_write 18 = .ok (.getfield 9, 3) := dk_180 0 9 (dk_at dksX5_write_0 18 rfl rfl)
theorem dX5_write_21 : decode cX5_write 21 = .ok (.iload 4, 2) := dk_21 4 (dk_at dksX5_write_0 21 rfl rfl)
theorem dX5_write_23 : decode cX5_write 23 = .ok (.iload 5, 2) := dk_21 5 (dk_at dksX5_write_1 0 rfl rfl)
theorem dX5_write_25 : decode cX5_write 25 = .ok (.iadd, 1) := dk_96 (dk_at dksX5_write_1 2 rfl rfl)
theorem dX5_write_26 : decode cX5_write 26 = .ok (.aload_n 0, 1) := dk_42 (dk_at dksX5_write_1 3 rfl rfl)
theorem dX5_write_27 : decode cX5_write 27 = .ok (.getfield 9, 3) := dk_180 0 9 (dk_at dksX5_write_1 4 rfl rfl)
theorem dX5_write_30 : decode cX5_write 30 = .ok (.iload 4, 2) := dk_21 4 (dk_at dksX5_write_1 7 rfl rfl)
theorem dX5_write_32 : decode cX5_write 32 = .ok (.iload 5, 2) := dk_21 5 (dk_at dksX5_write_1 9 rfl rfl)
theorem dX5_write_34 : decode cX5_write 34 = .ok (.iadd, 1) := dk_96 (dk_at dksX5_write_1 11 rfl rfl)
theorem dX5_write_35 : decode cX5_write 35 = .ok (.iconst 3, 1) := dk_6 (dk_at dksX5_write_1 12 rfl rfl)
theorem dX5_write_36 : decode cX5_write 36 = .ok (.isub, 1) := dk_100 (dk_at dksX5_write_1 13 rfl rfl)
theorem dX5_write_37 : decode cX5_write 37 = .ok (.iaload, 1) := dk_46 (dk_at dksX5_write_1 14 rfl rfl)
theorem dX5_write_38 : decode cX5_write 38 = .ok (.iastore, 1) := dk_79 (dk_at dksX5_write_1 15 rfl rfl)
theorem dX5_write_39 : decode cX5_write 39 = .ok (.iinc 5 (-1), 3) := dk_132 5 255 (dk_at dksX5_write_1 16 rfl rfl)
theorem dX5_write_42 : decode cX5_write 42 = .ok (.goto (-31), 3) := dk_167 255 225 (dk_at dksX5_write_1 19 rfl rfl)
theorem dX5_write_45 : decode cX5_write 45 = .ok (.aload_n 0, 1) := dk_42 (dk_at dksX5_write_1 22 rfl rfl)
theorem dX5_write_46 : decode cX5_write 46 = .ok (.getfield 9, 3) := dk_180 0 9 (dk_at dksX5_write_2 0 rfl rfl)
theorem dX5_write_49 : decode cX5_write 49 = .ok (.iload 4, 2) := dk_21 4 (dk_at dksX5_write_2 3 rfl rfl)
theorem dX5_write_51 : decode cX5_write 51 = .ok (.aload_n 0, 1) := dk_42 (dk_at dksX5_write_2 5 rfl rfl)
theorem dX5_write_52 : decode cX5_write 52 = .ok (.getfield 9, 3) := dk_180 0 9 (dk_at dksX5_write_2 6 rfl rfl)
theorem dX5_write_55 : decode cX5_write 55 = .ok (.sipush 182, 3) := dk_17 0 182 (dk_at dksX5_write_2 9 rfl rfl)
theorem dX5_write_58 : decode cX5_write 58 = .ok (.iaload, 1) := dk_46 (dk_at dksX5_write_2 12 rfl rfl)
theorem dX5_write_59 : decode cX5_write 59 = .ok (.iastore, 1) := dk_79 (dk_at dksX5_write_2 13 rfl rfl)
theorem dX5_write_60 : decode cX5_write 60 = .ok (.aload_n 0, 1) := dk_42 (dk_at dksX5_write_2 14 rfl rfl)
theorem dX5_write_61 : decode cX5_write 61 = .ok (.getfield 9, 3) := dk_180 0 9 (dk_at dksX5_write_2 15 rfl rfl)
theorem dX5_write_64 : decode cX5_write 64 = .ok (.iload 4, 2) := dk_21 4 (dk_at dksX5_write_2 18 rfl rfl)
theorem dX5_write_66 : decode cX5_write 66 = .ok (.iconst 1, 1) := dk_4 (dk_at dksX5_write_2 20 rfl rfl)
theorem dX5_write_67 : decode cX5_write 67 = .ok (.iadd, 1) := dk_96 (dk_at dksX5_write_2 21 rfl rfl)
theorem dX5_write_68 : decode cX5_write 68 = .ok (.iload_n 2, 1) := dk_28 (dk_at dksX5_write_2 22 rfl rfl)
theorem dX5_write_69 : decode cX5_write 69 = .ok (.iastore, 1) := dk_79 (dk_at dksX5_write_2 23 rfl rfl)
theorem dX5_write_70 : decode cX5_write 70 = .ok (.aload_n 0, 1) := dk_42 (dk_at dksX5_write_3 0 rfl rfl)
theorem dX5_write_71 : decode cX5_write 71 = .ok (.getfield 9, 3) := dk_180 0 9 (dk_at dksX5_write_3 1 rfl rfl)
theorem dX5_write_74 : decode cX5_write 74 = .ok (.iload 4, 2) := dk_21 4 (dk_at dksX5_write_3 4 rfl rfl)
theorem dX5_write_76 : decode cX5_write 76 = .ok (.iconst 2, 1) := dk_5 (dk_at dksX5_write_3 6 rfl rfl)
theorem dX5_write_77 : decode cX5_write 77 = .ok (.iadd, 1) := dk_96 (dk_at dksX5_write_3 7 rfl rfl)
theorem dX5_write_78 : decode cX5_write 78 = .ok (.iload_n 3, 1) := dk_29 (dk_at dksX5_write_3 8 rfl rfl)
theorem dX5_write_79 : decode cX5_write 79 = .ok (.iastore, 1) := dk_79 (dk_at dksX5_write_3 9 rfl rfl)
theorem dX5_write_80 : decode cX5_write 80 = .ok (.aload_n 0, 1) := dk_42 (dk_at dksX5_write_3 10 rfl rfl)
theorem dX5_write_81 : decode cX5_write 81 = .ok (.getfield 9, 3) := dk_180 0 9 (dk_at dksX5_write_3 11 rfl rfl)
theorem dX5_write_84 : decode cX5_write 84 = .ok (.iload_n 1, 1) := dk_27 (dk_at dksX5_write_3 14 rfl rfl)
theorem dX5_write_85 : decode cX5_write 85 = .ok (.iconst 1, 1) := dk_4 (dk_at dksX5_write_3 15 rfl rfl)
theorem dX5_write_86 : decode cX5_write 86 = .ok (.invokestatic 44, 3) := dk_184 0 44 (dk_at dksX5_write_3 16 rfl rfl)
theorem dX5_write_89 : decode cX5_write 89 = .ok (.dup2, 1) := dk_92 (dk_at dksX5_write_3 19 rfl rfl)
theorem dX5_write_90 : decode cX5_write 90 = .ok (.iaload, 1) := dk_46 (dk_at dksX5_write_3 20 rfl rfl)
theorem dX5_write_91 : decode cX5_write 91 = .ok (.aload_n 0, 1) := dk_42 (dk_at dksX5_write_3 21 rfl rfl)
theorem dX5_write_92 : decode cX5_write 92 = .ok (.getfield 9, 3) := dk_180 0 9 (dk_at dksX5_write_4 0 rfl rfl)
theorem dX5_write_95 : decode cX5_write 95 = .ok (.iload_n 1, 1) := dk_27 (dk_at dksX5_write_4 3 rfl rfl)
theorem dX5_write_96 : decode cX5_write 96 = .ok (.iconst 1, 1) := dk_4 (dk_at dksX5_write_4 4 rfl rfl)
theorem dX5_write_97 : decode cX5_write 97 = .ok (.invokestatic 44, 3) := dk_184 0 44 (dk_at dksX5_write_4 5 rfl rfl)
theorem dX5_write_100 : decode cX5_write 100 = .ok (.iaload, 1) := dk_46 (dk_at dksX5_write_4 8 rfl rfl)
theorem dX5_write_101 : decode cX5_write 101 = .ok (.iconst 5, 1) := dk_8 (dk_at dksX5_write_4 9 rfl rfl)
theorem dX5_write_102 : decode cX5_write 102 = .ok (.if_icmp .ge 7, 3) := dk_162 0 7 (dk_at dksX5_write_4 10 rfl rfl)
theorem dX5_write_105 : decode cX5_write 105 = .ok (.iconst 1, 1) := dk_4 (dk_at dksX5_write_4 13 rfl rfl)
theorem dX5_write_106 : decode cX5_write 106 = .ok (.goto 4, 3) := dk_167 0 4 (dk_at dksX5_write_4 14 rfl rfl)
theorem dX5_write_109 : decode cX5_write 109 = .ok (.iconst 0, 1) := dk_3 (dk_at dksX5_write_4 17 rfl rfl)
theorem dX5_write_110 : decode cX5_write 110 = .ok (.iadd, 1) := dk_96 (dk_at dksX5_write_4 18 rfl rfl)
theorem dX5_write_111 : decode cX5_write 111 = .ok (.iastore, 1) := dk_79 (dk_at dksX5_write_4 19 rfl rfl)
theorem dX5_write_112 : decode cX5_write 112 = .ok (.return_, 1) := dk_177 (dk_at dksX5_write_4 20 rfl rfl)
abbrev cX5_pass : ByteArray := prog_20_method_56_code
def yX5_pass : MethodName := ⟨RX5, "pass", "(I)I"⟩
def dkwX5_pass_1 : List UInt8 := [172, 42, 182, 0, 166, 42, 27, 182, 0, 193, 172]
abbrev dktX5_pass_1 : List UInt8 := dkwX5_pass_1 ++ []
def dkwX5_pass_0 : List UInt8 := [42, 4, 27, 4, 16, 60, 184, 0, 88, 154, 0, 7, 4, 167, 0, 4, 3, 182, 0, 84, 153, 0, 5, 3]
abbrev dktX5_pass_0 : List UInt8 := dkwX5_pass_0 ++ dktX5_pass_1
theorem dksX5_pass_0 : cX5_pass.data.toList.drop 0 = dktX5_pass_0 := by decide +kernel
theorem dksX5_pass_1 : cX5_pass.data.toList.drop 24 = dktX5_pass_1 := dk_seg dksX5_pass_0 24 rfl rfl
theorem dX5_pass_0 : decode cX5_pass 0 = .ok (.aload_n 0, 1) := dk_42 (dk_at dksX5_pass_0 0 rfl rfl)
theorem dX5_pass_1 : decode cX5_pass 1 = .ok (.iconst 1, 1) := dk_4 (dk_at dksX5_pass_0 1 rfl rfl)
theorem dX5_pass_2 : decode cX5_pass 2 = .ok (.iload_n 1, 1) := dk_27 (dk_at dksX5_pass_0 2 rfl rfl)
theorem dX5_pass_3 : decode cX5_pass 3 = .ok (.iconst 1, 1) := dk_4 (dk_at dksX5_pass_0 3 rfl rfl)
theorem dX5_pass_4 : decode cX5_pass 4 = .ok (.bipush 60, 2) := dk_16 60 (dk_at dksX5_pass_0 4 rfl rfl)
theorem dX5_pass_6 : decode cX5_pass 6 = .ok (.invokestatic 88, 3) := dk_184 0 88 (dk_at dksX5_pass_0 6 rfl rfl)
theorem dX5_pass_9 : decode cX5_pass 9 = .ok (.ifCond .ne 7, 3) := dk_154 0 7 (dk_at dksX5_pass_0 9 rfl rfl)
theorem dX5_pass_12 : decode cX5_pass 12 = .ok (.iconst 1, 1) := dk_4 (dk_at dksX5_pass_0 12 rfl rfl)
theorem dX5_pass_13 : decode cX5_pass 13 = .ok (.goto 4, 3) := dk_167 0 4 (dk_at dksX5_pass_0 13 rfl rfl)
theorem dX5_pass_16 : decode cX5_pass 16 = .ok (.iconst 0, 1) := dk_3 (dk_at dksX5_pass_0 16 rfl rfl)
theorem dX5_pass_17 : decode cX5_pass 17 = .ok (.invokevirtual 84, 3) := dk_182 0 84 (dk_at dksX5_pass_0 17 rfl rfl)
theorem dX5_pass_20 : decode cX5_pass 20 = .ok (.ifCond .eq 5, 3) := dk_153 0 5 (dk_at dksX5_pass_0 20 rfl rfl)
theorem dX5_pass_23 : decode cX5_pass 23 = .ok (.iconst 0, 1) := dk_3 (dk_at dksX5_pass_0 23 rfl rfl)
theorem dX5_pass_24 : decode cX5_pass 24 = .ok (.ireturn, 1) := dk_172 (dk_at dksX5_pass_1 0 rfl rfl)
theorem dX5_pass_25 : decode cX5_pass 25 = .ok (.aload_n 0, 1) := dk_42 (dk_at dksX5_pass_1 1 rfl rfl)
theorem dX5_pass_26 : decode cX5_pass 26 = .ok (.invokevirtual 166, 3) := dk_182 0 166 (dk_at dksX5_pass_1 2 rfl rfl)
theorem dX5_pass_29 : decode cX5_pass 29 = .ok (.aload_n 0, 1) := dk_42 (dk_at dksX5_pass_1 5 rfl rfl)
theorem dX5_pass_30 : decode cX5_pass 30 = .ok (.iload_n 1, 1) := dk_27 (dk_at dksX5_pass_1 6 rfl rfl)
theorem dX5_pass_31 : decode cX5_pass 31 = .ok (.invokevirtual 193, 3) := dk_182 0 193 (dk_at dksX5_pass_1 7 rfl rfl)
theorem dX5_pass_34 : decode cX5_pass 34 = .ok (.ireturn, 1) := dk_172 (dk_at dksX5_pass_1 10 rfl rfl)
abbrev cX5_passMinutes : ByteArray := prog_20_method_55_code
def yX5_passMinutes : MethodName := ⟨RX5, "passMinutes", "(I)I"⟩
def dkwX5_passMinutes_5 : List UInt8 := [132, 4, 1, 167, 255, 169, 132, 3, 1, 167, 255, 143, 42, 180, 0, 9, 17, 0, 183, 46, 28, 100, 172]
abbrev dktX5_passMinutes_5 : List UInt8 := dkwX5_passMinutes_5 ++ []
def dkwX5_passMinutes_4 : List UInt8 := [180, 0, 9, 21, 4, 6, 184, 0, 92, 46, 182, 0, 141, 153, 0, 9, 42, 21, 4, 182, 0, 190]
abbrev dktX5_passMinutes_4 : List UInt8 := dkwX5_passMinutes_4 ++ dktX5_passMinutes_5
def dkwX5_passMinutes_3 : List UInt8 := [167, 0, 4, 3, 100, 79, 42, 180, 0, 9, 21, 4, 7, 184, 0, 92, 46, 154, 0, 27, 42, 42]
abbrev dktX5_passMinutes_3 : List UInt8 := dkwX5_passMinutes_3 ++ dktX5_passMinutes_4
def dkwX5_passMinutes_2 : List UInt8 := [21, 4, 7, 184, 0, 92, 92, 46, 42, 180, 0, 9, 21, 4, 7, 184, 0, 92, 46, 158, 0, 7, 4]
abbrev dktX5_passMinutes_2 : List UInt8 := dkwX5_passMinutes_2 ++ dktX5_passMinutes_3
def dkwX5_passMinutes_1 : List UInt8 := [46, 4, 96, 79, 3, 54, 4, 21, 4, 42, 180, 0, 9, 17, 0, 180, 46, 162, 0, 80, 42, 180, 0, 9]
abbrev dktX5_passMinutes_1 : List UInt8 := dkwX5_passMinutes_1 ++ dktX5_passMinutes_2
def dkwX5_passMinutes_0 : List UInt8 := [42, 180, 0, 9, 17, 0, 183, 46, 61, 3, 62, 29, 27, 162, 0, 114, 42, 180, 0, 9, 17, 0, 182, 92]
abbrev dktX5_passMinutes_0 : List UInt8 := dkwX5_passMinutes_0 ++ dktX5_passMinutes_1
theorem dksX5_passMinutes_0 : cX5_passMinutes.data.toList.drop 0 = dktX5_passMinutes_0 := by decide +kernel
theorem dksX5_passMinutes_1 : cX5_passMinutes.data.toList.drop 24 = dktX5_passMinutes_1 := dk_seg dksX5_passMinutes_0 24 rfl rfl
theorem dksX5_passMinutes_2 : cX5_passMinutes.data.toList.drop 48 = dktX5_passMinutes_2 := dk_seg dksX5_passMinutes_1 24 rfl rfl
theorem dksX5_passMinutes_3 : cX5_passMinutes.data.toList.drop 71 = dktX5_passMinutes_3 := dk_seg dksX5_passMinutes_2 23 rfl rfl
theorem dksX5_passMinutes_4 : cX5_passMinutes.data.toList.drop 93 = dktX5_passMinutes_4 := dk_seg dksX5_passMinutes_3 22 rfl rfl
theorem dksX5_passMinutes_5 : cX5_passMinutes.data.toList.drop 115 = dktX5_passMinutes_5 := dk_seg dksX5_passMinutes_4 22 rfl rfl
theorem dX5_passMinutes_0 : decode cX5_passMinutes 0 = .ok (.aload_n 0, 1) := dk_42 (dk_at dksX5_passMinutes_0 0 rfl rfl)
theorem dX5_passMinutes_1 : decode cX5_passMinutes 1 = .ok (.getfield 9, 3) := dk_180 0 9 (dk_at dksX5_passMinutes_0 1 rfl rfl)
theorem dX5_passMinutes_4 : decode cX5_passMinutes 4 = .ok (.sipush 183, 3) := dk_17 0 183 (dk_at dksX5_passMinutes_0 4 rfl rfl)
theorem dX5_passMinutes_7 : decode cX5_passMinutes 7 = .ok (.iaload, 1) := dk_46 (dk_at dksX5_passMinutes_0 7 rfl rfl)
theorem dX5_passMinutes_8 : decode cX5_passMinutes 8 = .ok (.istore_n 2, 1) := dk_61 (dk_at dksX5_passMinutes_0 8 rfl rfl)
theorem dX5_passMinutes_9 : decode cX5_passMinutes 9 = .ok (.iconst 0, 1) := dk_3 (dk_at dksX5_passMinutes_0 9 rfl rfl)
theorem dX5_passMinutes_10 : decode cX5_passMinutes 10 = .ok (.istore_n 3, 1) := dk_62 (dk_at dksX5_passMinutes_0 10 rfl rfl)
theorem dX5_passMinutes_11 : decode cX5_passMinutes 11 = .ok (.iload_n 3, 1) := dk_29 (dk_at dksX5_passMinutes_0 11 rfl rfl)
theorem dX5_passMinutes_12 : decode cX5_passMinutes 12 = .ok (.iload_n 1, 1) := dk_27 (dk_at dksX5_passMinutes_0 12 rfl rfl)
theorem dX5_passMinutes_13 : decode cX5_passMinutes 13 = .ok (.if_icmp .ge 114, 3) := dk_162 0 114 (dk_at dksX5_passMinutes_0 13 rfl rfl)
theorem dX5_passMinutes_16 : decode cX5_passMinutes 16 = .ok (.aload_n 0, 1) := dk_42 (dk_at dksX5_passMinutes_0 16 rfl rfl)
theorem dX5_passMinutes_17 : decode cX5_passMinutes 17 = .ok (.getfield 9, 3) := dk_180 0 9 (dk_at dksX5_passMinutes_0 17 rfl rfl)
theorem dX5_passMinutes_20 : decode cX5_passMinutes 20 = .ok (.sipush 182, 3) := dk_17 0 182 (dk_at dksX5_passMinutes_0 20 rfl rfl)
theorem dX5_passMinutes_23 : decode cX5_passMinutes 23 = .ok (.dup2, 1) := dk_92 (dk_at dksX5_passMinutes_0 23 rfl rfl)
theorem dX5_passMinutes_24 : decode cX5_passMinutes 24 = .ok (.iaload, 1) := dk_46 (dk_at dksX5_passMinutes_1 0 rfl rfl)
theorem dX5_passMinutes_25 : decode cX5_passMinutes 25 = .ok (.iconst 1, 1) := dk_4 (dk_at dksX5_passMinutes_1 1 rfl rfl)
theorem dX5_passMinutes_26 : decode cX5_passMinutes 26 = .ok (.iadd, 1) := dk_96 (dk_at dksX5_passMinutes_1 2 rfl rfl)
theorem dX5_passMinutes_27 : decode cX5_passMinutes 27 = .ok (.iastore, 1) := dk_79 (dk_at dksX5_passMinutes_1 3 rfl rfl)
theorem dX5_passMinutes_28 : decode cX5_passMinutes 28 = .ok (.iconst 0, 1) := dk_3 (dk_at dksX5_passMinutes_1 4 rfl rfl)
theorem dX5_passMinutes_29 : decode cX5_passMinutes 29 = .ok (.istore 4, 2) := dk_54 4 (dk_at dksX5_passMinutes_1 5 rfl rfl)
theorem dX5_passMinutes_31 : decode cX5_passMinutes 31 = .ok (.iload 4, 2) := dk_21 4 (dk_at dksX5_passMinutes_1 7 rfl rfl)
theorem dX5_passMinutes_33 : decode cX5_passMinutes 33 = .ok (.aload_n 0, 1) := dk_42 (dk_at dksX5_passMinutes_1 9 rfl rfl)
theorem dX5_passMinutes_34 : decode cX5_passMinutes 34 = .ok (.getfield 9, 3) := dk_180 0 9 (dk_at dksX5_passMinutes_1 10 rfl rfl)
theorem dX5_passMinutes_37 : decode cX5_passMinutes 37 = .ok (.sipush 180, 3) := dk_17 0 180 (dk_at dksX5_passMinutes_1 13 rfl rfl)
theorem dX5_passMinutes_40 : decode cX5_passMinutes 40 = .ok (.iaload, 1) := dk_46 (dk_at dksX5_passMinutes_1 16 rfl rfl)
theorem dX5_passMinutes_41 : decode cX5_passMinutes 41 = .ok (.if_icmp .ge 80, 3) := dk_162 0 80 (dk_at dksX5_passMinutes_1 17 rfl rfl)
theorem dX5_passMinutes_44 : decode cX5_passMinutes 44 = .ok (.aload_n 0, 1) := dk_42 (dk_at dksX5_passMinutes_1 20 rfl rfl)
theorem dX5_passMinutes_45 : decode cX5_passMinutes 45 = .ok (.getfield 9, 3) := dk_180 0 9 (dk_at dksX5_passMinutes_1 21 rfl rfl)
theorem dX5_passMinutes_48 : decode cX5_passMinutes 48 = .ok (.iload 4, 2) := dk_21 4 (dk_at dksX5_passMinutes_2 0 rfl rfl)
theorem dX5_passMinutes_50 : decode cX5_passMinutes 50 = .ok (.iconst 4, 1) := dk_7 (dk_at dksX5_passMinutes_2 2 rfl rfl)
theorem dX5_passMinutes_51 : decode cX5_passMinutes 51 = .ok (.invokestatic 92, 3) := dk_184 0 92 (dk_at dksX5_passMinutes_2 3 rfl rfl)
theorem dX5_passMinutes_54 : decode cX5_passMinutes 54 = .ok (.dup2, 1) := dk_92 (dk_at dksX5_passMinutes_2 6 rfl rfl)
theorem dX5_passMinutes_55 : decode cX5_passMinutes 55 = .ok (.iaload, 1) := dk_46 (dk_at dksX5_passMinutes_2 7 rfl rfl)
theorem dX5_passMinutes_56 : decode cX5_passMinutes 56 = .ok (.aload_n 0, 1) := dk_42 (dk_at dksX5_passMinutes_2 8 rfl rfl)
theorem dX5_passMinutes_57 : decode cX5_passMinutes 57 = .ok (.getfield 9, 3) := dk_180 0 9 (dk_at dksX5_passMinutes_2 9 rfl rfl)
theorem dX5_passMinutes_60 : decode cX5_passMinutes 60 = .ok (.iload 4, 2) := dk_21 4 (dk_at dksX5_passMinutes_2 12 rfl rfl)
theorem dX5_passMinutes_62 : decode cX5_passMinutes 62 = .ok (.iconst 4, 1) := dk_7 (dk_at dksX5_passMinutes_2 14 rfl rfl)
theorem dX5_passMinutes_63 : decode cX5_passMinutes 63 = .ok (.invokestatic 92, 3) := dk_184 0 92 (dk_at dksX5_passMinutes_2 15 rfl rfl)
theorem dX5_passMinutes_66 : decode cX5_passMinutes 66 = .ok (.iaload, 1) := dk_46 (dk_at dksX5_passMinutes_2 18 rfl rfl)
theorem dX5_passMinutes_67 : decode cX5_passMinutes 67 = .ok (.ifCond .le 7, 3) := dk_158 0 7 (dk_at dksX5_passMinutes_2 19 rfl rfl)
theorem dX5_passMinutes_70 : decode cX5_passMinutes 70 = .ok (.iconst 1, 1) := dk_4 (dk_at dksX5_passMinutes_2 22 rfl rfl)
theorem dX5_passMinutes_71 : decode cX5_passMinutes 71 = .ok (.goto 4, 3) := dk_167 0 4 (dk_at dksX5_passMinutes_3 0 rfl rfl)
theorem dX5_passMinutes_74 : decode cX5_passMinutes 74 = .ok (.iconst 0, 1) := dk_3 (dk_at dksX5_passMinutes_3 3 rfl rfl)
theorem dX5_passMinutes_75 : decode cX5_passMinutes 75 = .ok (.isub, 1) := dk_100 (dk_at dksX5_passMinutes_3 4 rfl rfl)
theorem dX5_passMinutes_76 : decode cX5_passMinutes 76 = .ok (.iastore, 1) := dk_79 (dk_at dksX5_passMinutes_3 5 rfl rfl)
theorem dX5_passMinutes_77 : decode cX5_passMinutes 77 = .ok (.aload_n 0, 1) := dk_42 (dk_at dksX5_passMinutes_3 6 rfl rfl)
theorem dX5_passMinutes_78 : decode cX5_passMinutes 78 = .ok (.getfield 9, 3) := dk_180 0 9 (dk_at dksX5_passMinutes_3 7 rfl rfl)
theorem dX5_passMinutes_81 : decode cX5_passMinutes 81 = .ok (.iload 4, 2) := dk_21 4 (dk_at dksX5_passMinutes_3 10 rfl rfl)
theorem dX5_passMinutes_83 : decode cX5_passMinutes 83 = .ok (.iconst 4, 1) := dk_7 (dk_at dksX5_passMinutes_3 12 rfl rfl)
theorem dX5_passMinutes_84 : decode cX5_passMinutes 84 = .ok (.invokestatic 92, 3) := dk_184 0 92 (dk_at dksX5_passMinutes_3 13 rfl rfl)
theorem dX5_passMinutes_87 : decode cX5_passMinutes 87 = .ok (.iaload, 1) := dk_46 (dk_at dksX5_passMinutes_3 16 rfl rfl)
theorem dX5_passMinutes_88 : decode cX5_passMinutes 88 = .ok (.ifCond .ne 27, 3) := dk_154 0 27 (dk_at dksX5_passMinutes_3 17 rfl rfl)
theorem dX5_passMinutes_91 : decode cX5_passMinutes 91 = .ok (.aload_n 0, 1) := dk_42 (dk_at dksX5_passMinutes_3 20 rfl rfl)
theorem dX5_passMinutes_92 : decode cX5_passMinutes 92 = .ok (.aload_n 0, 1) := dk_42 (dk_at dksX5_passMinutes_3 21 rfl rfl)
theorem dX5_passMinutes_93 : decode cX5_passMinutes 93 = .ok (.getfield 9, 3) := dk_180 0 9 (dk_at dksX5_passMinutes_4 0 rfl rfl)
theorem dX5_passMinutes_96 : decode cX5_passMinutes 96 = .ok (.iload 4, 2) := dk_21 4 (dk_at dksX5_passMinutes_4 3 rfl rfl)
theorem dX5_passMinutes_98 : decode cX5_passMinutes 98 = .ok (.iconst 3, 1) := dk_6 (dk_at dksX5_passMinutes_4 5 rfl rfl)
theorem dX5_passMinutes_99 : decode cX5_passMinutes 99 = .ok (.invokestatic 92, 3) := dk_184 0 92 (dk_at dksX5_passMinutes_4 6 rfl rfl)
theorem dX5_passMinutes_102 : decode cX5_passMinutes 102 = .ok (.iaload, 1) := dk_46 (dk_at dksX5_passMinutes_4 9 rfl rfl)
theorem dX5_passMinutes_103 : decode cX5_passMinutes 103 = .ok (.invokevirtual 141, 3) := dk_182 0 141 (dk_at dksX5_passMinutes_4 10 rfl rfl)
theorem dX5_passMinutes_106 : decode cX5_passMinutes 106 = .ok (.ifCond .eq 9, 3) := dk_153 0 9 (dk_at dksX5_passMinutes_4 13 rfl rfl)
theorem dX5_passMinutes_109 : decode cX5_passMinutes 109 = .ok (.aload_n 0, 1) := dk_42 (dk_at dksX5_passMinutes_4 16 rfl rfl)
theorem dX5_passMinutes_110 : decode cX5_passMinutes 110 = .ok (.iload 4, 2) := dk_21 4 (dk_at dksX5_passMinutes_4 17 rfl rfl)
theorem dX5_passMinutes_112 : decode cX5_passMinutes 112 = .ok (.invokevirtual 190, 3) := dk_182 0 190 (dk_at dksX5_passMinutes_4 19 rfl rfl)
theorem dX5_passMinutes_115 : decode cX5_passMinutes 115 = .ok (.iinc 4 1, 3) := dk_132 4 1 (dk_at dksX5_passMinutes_5 0 rfl rfl)
theorem dX5_passMinutes_118 : decode cX5_passMinutes 118 = .ok (.goto (-87), 3) := dk_167 255 169 (dk_at dksX5_passMinutes_5 3 rfl rfl)
theorem dX5_passMinutes_121 : decode cX5_passMinutes 121 = .ok (.iinc 3 1, 3) := dk_132 3 1 (dk_at dksX5_passMinutes_5 6 rfl rfl)
theorem dX5_passMinutes_124 : decode cX5_passMinutes 124 = .ok (.goto (-113), 3) := dk_167 255 143 (dk_at dksX5_passMinutes_5 9 rfl rfl)
theorem dX5_passMinutes_127 : decode cX5_passMinutes 127 = .ok (.aload_n 0, 1) := dk_42 (dk_at dksX5_passMinutes_5 12 rfl rfl)
theorem dX5_passMinutes_128 : decode cX5_passMinutes 128 = .ok (.getfield 9, 3) := dk_180 0 9 (dk_at dksX5_passMinutes_5 13 rfl rfl)
theorem dX5_passMinutes_131 : decode cX5_passMinutes 131 = .ok (.sipush 183, 3) := dk_17 0 183 (dk_at dksX5_passMinutes_5 16 rfl rfl)
theorem dX5_passMinutes_134 : decode cX5_passMinutes 134 = .ok (.iaload, 1) := dk_46 (dk_at dksX5_passMinutes_5 19 rfl rfl)
theorem dX5_passMinutes_135 : decode cX5_passMinutes 135 = .ok (.iload_n 2, 1) := dk_28 (dk_at dksX5_passMinutes_5 20 rfl rfl)
theorem dX5_passMinutes_136 : decode cX5_passMinutes 136 = .ok (.isub, 1) := dk_100 (dk_at dksX5_passMinutes_5 21 rfl rfl)
theorem dX5_passMinutes_137 : decode cX5_passMinutes 137 = .ok (.ireturn, 1) := dk_172 (dk_at dksX5_passMinutes_5 22 rfl rfl)
abbrev cX5_arrive : ByteArray := prog_20_method_54_code
def yX5_arrive : MethodName := ⟨RX5, "arrive", "(I)V"⟩
def dkwX5_arrive_5 : List UInt8 := [177]
abbrev dktX5_arrive_5 : List UInt8 := dkwX5_arrive_5 ++ []
def dkwX5_arrive_4 : List UInt8 := [27, 29, 182, 0, 138, 42, 180, 0, 9, 17, 0, 183, 92, 46, 4, 96, 79, 42, 29, 4, 27, 182, 0, 102]
abbrev dktX5_arrive_4 : List UInt8 := dkwX5_arrive_4 ++ dktX5_arrive_5
def dkwX5_arrive_3 : List UInt8 := [155, 0, 23, 42, 180, 0, 9, 42, 180, 0, 9, 27, 8, 184, 0, 92, 46, 3, 184, 0, 99, 29, 79, 42]
abbrev dktX5_arrive_3 : List UInt8 := dkwX5_arrive_3 ++ dktX5_arrive_4
def dkwX5_arrive_2 : List UInt8 := [6, 167, 0, 4, 7, 184, 0, 117, 92, 46, 4, 96, 79, 42, 180, 0, 9, 27, 8, 184, 0, 92, 46]
abbrev dktX5_arrive_2 : List UInt8 := dkwX5_arrive_2 ++ dktX5_arrive_3
def dkwX5_arrive_1 : List UInt8 := [180, 0, 9, 27, 16, 6, 184, 0, 92, 46, 4, 160, 0, 26, 42, 180, 0, 9, 28, 29, 28, 160, 0, 7]
abbrev dktX5_arrive_1 : List UInt8 := dkwX5_arrive_1 ++ dktX5_arrive_2
def dkwX5_arrive_0 : List UInt8 := [42, 180, 0, 9, 27, 5, 184, 0, 92, 46, 61, 42, 180, 0, 9, 27, 6, 184, 0, 92, 46, 62, 42]
abbrev dktX5_arrive_0 : List UInt8 := dkwX5_arrive_0 ++ dktX5_arrive_1
theorem dksX5_arrive_0 : cX5_arrive.data.toList.drop 0 = dktX5_arrive_0 := by decide +kernel
theorem dksX5_arrive_1 : cX5_arrive.data.toList.drop 23 = dktX5_arrive_1 := dk_seg dksX5_arrive_0 23 rfl rfl
theorem dksX5_arrive_2 : cX5_arrive.data.toList.drop 47 = dktX5_arrive_2 := dk_seg dksX5_arrive_1 24 rfl rfl
theorem dksX5_arrive_3 : cX5_arrive.data.toList.drop 70 = dktX5_arrive_3 := dk_seg dksX5_arrive_2 23 rfl rfl
theorem dksX5_arrive_4 : cX5_arrive.data.toList.drop 94 = dktX5_arrive_4 := dk_seg dksX5_arrive_3 24 rfl rfl
theorem dksX5_arrive_5 : cX5_arrive.data.toList.drop 118 = dktX5_arrive_5 := dk_seg dksX5_arrive_4 24 rfl rfl
theorem dX5_arrive_0 : decode cX5_arrive 0 = .ok (.aload_n 0, 1) := dk_42 (dk_at dksX5_arrive_0 0 rfl rfl)
theorem dX5_arrive_1 : decode cX5_arrive 1 = .ok (.getfield 9, 3) := dk_180 0 9 (dk_at dksX5_arrive_0 1 rfl rfl)
theorem dX5_arrive_4 : decode cX5_arrive 4 = .ok (.iload_n 1, 1) := dk_27 (dk_at dksX5_arrive_0 4 rfl rfl)
theorem dX5_arrive_5 : decode cX5_arrive 5 = .ok (.iconst 2, 1) := dk_5 (dk_at dksX5_arrive_0 5 rfl rfl)
theorem dX5_arrive_6 : decode cX5_arrive 6 = .ok (.invokestatic 92, 3) := dk_184 0 92 (dk_at dksX5_arrive_0 6 rfl rfl)
theorem dX5_arrive_9 : decode cX5_arrive 9 = .ok (.iaload, 1) := dk_46 (dk_at dksX5_arrive_0 9 rfl rfl)
theorem dX5_arrive_10 : decode cX5_arrive 10 = .ok (.istore_n 2, 1) := dk_61 (dk_at dksX5_arrive_0 10 rfl rfl)
theorem dX5_arrive_11 : decode cX5_arrive 11 = .ok (.aload_n 0, 1) := dk_42 (dk_at dksX5_arrive_0 11 rfl rfl)
theorem dX5_arrive_12 : decode cX5_arrive 12 = .ok (.getfield 9, 3) := dk_180 0 9 (dk_at dksX5_arrive_0 12 rfl rfl)
theorem dX5_arrive_15 : decode cX5_arrive 15 = .ok (.iload_n 1, 1) := dk_27 (dk_at dksX5_arrive_0 15 rfl rfl)
theorem dX5_arrive_16 : decode cX5_arrive 16 = .ok (.iconst 3, 1) := dk_6 (dk_at dksX5_arrive_0 16 rfl rfl)
theorem dX5_arrive_17 : decode cX5_arrive 17 = .ok (.invokestatic 92, 3) := dk_184 0 92 (dk_at dksX5_arrive_0 17 rfl rfl)
theorem dX5_arrive_20 : decode cX5_arrive 20 = .ok (.iaload, 1) := dk_46 (dk_at dksX5_arrive_0 20 rfl rfl)
theorem dX5_arrive_21 : decode cX5_arrive 21 = .ok (.istore_n 3, 1) := dk_62 (dk_at dksX5_arrive_0 21 rfl rfl)
theorem dX5_arrive_22 : decode cX5_arrive 22 = .ok (.aload_n 0, 1) := dk_42 (dk_at dksX5_arrive_0 22 rfl rfl)
theorem dX5_arrive_23 : decode cX5_arrive 23 = .ok (.getfield 9, 3) := dk_180 0 9 (dk_at dksX5_arrive_1 0 rfl rfl)
theorem dX5_arrive_26 : decode cX5_arrive 26 = .ok (.iload_n 1, 1) := dk_27 (dk_at dksX5_arrive_1 3 rfl rfl)
theorem dX5_arrive_27 : decode cX5_arrive 27 = .ok (.bipush 6, 2) := dk_16 6 (dk_at dksX5_arrive_1 4 rfl rfl)
theorem dX5_arrive_29 : decode cX5_arrive 29 = .ok (.invokestatic 92, 3) := dk_184 0 92 (dk_at dksX5_arrive_1 6 rfl rfl)
theorem dX5_arrive_32 : decode cX5_arrive 32 = .ok (.iaload, 1) := dk_46 (dk_at dksX5_arrive_1 9 rfl rfl)
theorem dX5_arrive_33 : decode cX5_arrive 33 = .ok (.iconst 1, 1) := dk_4 (dk_at dksX5_arrive_1 10 rfl rfl)
theorem dX5_arrive_34 : decode cX5_arrive 34 = .ok (.if_icmp .ne 26, 3) := dk_160 0 26 (dk_at dksX5_arrive_1 11 rfl rfl)
theorem dX5_arrive_37 : decode cX5_arrive 37 = .ok (.aload_n 0, 1) := dk_42 (dk_at dksX5_arrive_1 14 rfl rfl)
theorem dX5_arrive_38 : decode cX5_arrive 38 = .ok (.getfield 9, 3) := dk_180 0 9 (dk_at dksX5_arrive_1 15 rfl rfl)
theorem dX5_arrive_41 : decode cX5_arrive 41 = .ok (.iload_n 2, 1) := dk_28 (dk_at dksX5_arrive_1 18 rfl rfl)
theorem dX5_arrive_42 : decode cX5_arrive 42 = .ok (.iload_n 3, 1) := dk_29 (dk_at dksX5_arrive_1 19 rfl rfl)
theorem dX5_arrive_43 : decode cX5_arrive 43 = .ok (.iload_n 2, 1) := dk_28 (dk_at dksX5_arrive_1 20 rfl rfl)
theorem dX5_arrive_44 : decode cX5_arrive 44 = .ok (.if_icmp .ne 7, 3) := dk_160 0 7 (dk_at dksX5_arrive_1 21 rfl rfl)
theorem dX5_arrive_47 : decode cX5_arrive 47 = .ok (.iconst 3, 1) := dk_6 (dk_at dksX5_arrive_2 0 rfl rfl)
theorem dX5_arrive_48 : decode cX5_arrive 48 = .ok (.goto 4, 3) := dk_167 0 4 (dk_at dksX5_arrive_2 1 rfl rfl)
theorem dX5_arrive_51 : decode cX5_arrive 51 = .ok (.iconst 4, 1) := dk_7 (dk_at dksX5_arrive_2 4 rfl rfl)
theorem dX5_arrive_52 : decode cX5_arrive 52 = .ok (.invokestatic 117, 3) := dk_184 0 117 (dk_at dksX5_arrive_2 5 rfl rfl)
theorem dX5_arrive_55 : decode cX5_arrive 55 = .ok (.dup2, 1) := dk_92 (dk_at dksX5_arrive_2 8 rfl rfl)
theorem dX5_arrive_56 : decode cX5_arrive 56 = .ok (.iaload, 1) := dk_46 (dk_at dksX5_arrive_2 9 rfl rfl)
theorem dX5_arrive_57 : decode cX5_arrive 57 = .ok (.iconst 1, 1) := dk_4 (dk_at dksX5_arrive_2 10 rfl rfl)
theorem dX5_arrive_58 : decode cX5_arrive 58 = .ok (.iadd, 1) := dk_96 (dk_at dksX5_arrive_2 11 rfl rfl)
theorem dX5_arrive_59 : decode cX5_arrive 59 = .ok (.iastore, 1) := dk_79 (dk_at dksX5_arrive_2 12 rfl rfl)
theorem dX5_arrive_60 : decode cX5_arrive 60 = .ok (.aload_n 0, 1) := dk_42 (dk_at dksX5_arrive_2 13 rfl rfl)
theorem dX5_arrive_61 : decode cX5_arrive 61 = .ok (.getfield 9, 3) := dk_180 0 9 (dk_at dksX5_arrive_2 14 rfl rfl)
theorem dX5_arrive_64 : decode cX5_arrive 64 = .ok (.iload_n 1, 1) := dk_27 (dk_at dksX5_arrive_2 17 rfl rfl)
theorem dX5_arrive_65 : decode cX5_arrive 65 = .ok (.iconst 5, 1) := dk_8 (dk_at dksX5_arrive_2 18 rfl rfl)
theorem dX5_arrive_66 : decode cX5_arrive 66 = .ok (.invokestatic 92, 3) := dk_184 0 92 (dk_at dksX5_arrive_2 19 rfl rfl)
theorem dX5_arrive_69 : decode cX5_arrive 69 = .ok (.iaload, 1) := dk_46 (dk_at dksX5_arrive_2 22 rfl rfl)
theorem dX5_arrive_70 : decode cX5_arrive 70 = .ok (.ifCond .lt 23, 3) := dk_155 0 23 (dk_at dksX5_arrive_3 0 rfl rfl)
theorem dX5_arrive_73 : decode cX5_arrive 73 = .ok (.aload_n 0, 1) := dk_42 (dk_at dksX5_arrive_3 3 rfl rfl)
theorem dX5_arrive_74 : decode cX5_arrive 74 = .ok (.getfield 9, 3) := dk_180 0 9 (dk_at dksX5_arrive_3 4 rfl rfl)
theorem dX5_arrive_77 : decode cX5_arrive 77 = .ok (.aload_n 0, 1) := dk_42 (dk_at dksX5_arrive_3 7 rfl rfl)
theorem dX5_arrive_78 : decode cX5_arrive 78 = .ok (.getfield 9, 3) := dk_180 0 9 (dk_at dksX5_arrive_3 8 rfl rfl)
theorem dX5_arrive_81 : decode cX5_arrive 81 = .ok (.iload_n 1, 1) := dk_27 (dk_at dksX5_arrive_3 11 rfl rfl)
theorem dX5_arrive_82 : decode cX5_arrive 82 = .ok (.iconst 5, 1) := dk_8 (dk_at dksX5_arrive_3 12 rfl rfl)
theorem dX5_arrive_83 : decode cX5_arrive 83 = .ok (.invokestatic 92, 3) := dk_184 0 92 (dk_at dksX5_arrive_3 13 rfl rfl)
theorem dX5_arrive_86 : decode cX5_arrive 86 = .ok (.iaload, 1) := dk_46 (dk_at dksX5_arrive_3 16 rfl rfl)
theorem dX5_arrive_87 : decode cX5_arrive 87 = .ok (.iconst 0, 1) := dk_3 (dk_at dksX5_arrive_3 17 rfl rfl)
theorem dX5_arrive_88 : decode cX5_arrive 88 = .ok (.invokestatic 99, 3) := dk_184 0 99 (dk_at dksX5_arrive_3 18 rfl rfl)
theorem dX5_arrive_91 : decode cX5_arrive 91 = .ok (.iload_n 3, 1) := dk_29 (dk_at dksX5_arrive_3 21 rfl rfl)
theorem dX5_arrive_92 : decode cX5_arrive 92 = .ok (.iastore, 1) := dk_79 (dk_at dksX5_arrive_3 22 rfl rfl)
theorem dX5_arrive_93 : decode cX5_arrive 93 = .ok (.aload_n 0, 1) := dk_42 (dk_at dksX5_arrive_3 23 rfl rfl)
theorem dX5_arrive_94 : decode cX5_arrive 94 = .ok (.iload_n 1, 1) := dk_27 (dk_at dksX5_arrive_4 0 rfl rfl)
theorem dX5_arrive_95 : decode cX5_arrive 95 = .ok (.iload_n 3, 1) := dk_29 (dk_at dksX5_arrive_4 1 rfl rfl)
theorem dX5_arrive_96 : decode cX5_arrive 96 = .ok (.invokevirtual 138, 3) := dk_182 0 138 (dk_at dksX5_arrive_4 2 rfl rfl)
theorem dX5_arrive_99 : decode cX5_arrive 99 = .ok (.aload_n 0, 1) := dk_42 (dk_at dksX5_arrive_4 5 rfl rfl)
theorem dX5_arrive_100 : decode cX5_arrive 100 = .ok (.getfield 9, 3) := dk_180 0 9 (dk_at dksX5_arrive_4 6 rfl rfl)
theorem dX5_arrive_103 : decode cX5_arrive 103 = .ok (.sipush 183, 3) := dk_17 0 183 (dk_at dksX5_arrive_4 9 rfl rfl)
theorem dX5_arrive_106 : decode cX5_arrive 106 = .ok (.dup2, 1) := dk_92 (dk_at dksX5_arrive_4 12 rfl rfl)
theorem dX5_arrive_107 : decode cX5_arrive 107 = .ok (.iaload, 1) := dk_46 (dk_at dksX5_arrive_4 13 rfl rfl)
theorem dX5_arrive_108 : decode cX5_arrive 108 = .ok (.iconst 1, 1) := dk_4 (dk_at dksX5_arrive_4 14 rfl rfl)
theorem dX5_arrive_109 : decode cX5_arrive 109 = .ok (.iadd, 1) := dk_96 (dk_at dksX5_arrive_4 15 rfl rfl)
theorem dX5_arrive_110 : decode cX5_arrive 110 = .ok (.iastore, 1) := dk_79 (dk_at dksX5_arrive_4 16 rfl rfl)
theorem dX5_arrive_111 : decode cX5_arrive 111 = .ok (.aload_n 0, 1) := dk_42 (dk_at dksX5_arrive_4 17 rfl rfl)
theorem dX5_arrive_112 : decode cX5_arrive 112 = .ok (.iload_n 3, 1) := dk_29 (dk_at dksX5_arrive_4 18 rfl rfl)
theorem dX5_arrive_113 : decode cX5_arrive 113 = .ok (.iconst 1, 1) := dk_4 (dk_at dksX5_arrive_4 19 rfl rfl)
theorem dX5_arrive_114 : decode cX5_arrive 114 = .ok (.iload_n 1, 1) := dk_27 (dk_at dksX5_arrive_4 20 rfl rfl)
theorem dX5_arrive_115 : decode cX5_arrive 115 = .ok (.invokevirtual 102, 3) := dk_182 0 102 (dk_at dksX5_arrive_4 21 rfl rfl)
theorem dX5_arrive_118 : decode cX5_arrive 118 = .ok (.return_, 1) := dk_177 (dk_at dksX5_arrive_5 0 rfl rfl)
abbrev cX5_lose : ByteArray := prog_20_method_58_code
def yX5_lose : MethodName := ⟨RX5, "lose", "(I)I"⟩
def dkwX5_lose_3 : List UInt8 := [28, 172]
abbrev dktX5_lose_3 : List UInt8 := dkwX5_lose_3 ++ []
def dkwX5_lose_2 : List UInt8 := [184, 0, 117, 4, 79, 42, 180, 0, 9, 17, 0, 185, 92, 46, 4, 96, 79, 42, 28, 5, 28, 182, 0, 199]
abbrev dktX5_lose_2 : List UInt8 := dkwX5_lose_2 ++ dktX5_lose_3
def dkwX5_lose_1 : List UInt8 := [5, 184, 0, 92, 46, 61, 42, 180, 0, 9, 27, 16, 6, 184, 0, 92, 3, 79, 42, 180, 0, 9, 28, 8]
abbrev dktX5_lose_1 : List UInt8 := dkwX5_lose_1 ++ dktX5_lose_2
def dkwX5_lose_0 : List UInt8 := [42, 4, 42, 27, 182, 0, 196, 182, 0, 114, 153, 0, 5, 3, 172, 42, 182, 0, 166, 42, 180, 0, 9, 27]
abbrev dktX5_lose_0 : List UInt8 := dkwX5_lose_0 ++ dktX5_lose_1
theorem dksX5_lose_0 : cX5_lose.data.toList.drop 0 = dktX5_lose_0 := by decide +kernel
theorem dksX5_lose_1 : cX5_lose.data.toList.drop 24 = dktX5_lose_1 := dk_seg dksX5_lose_0 24 rfl rfl
theorem dksX5_lose_2 : cX5_lose.data.toList.drop 48 = dktX5_lose_2 := dk_seg dksX5_lose_1 24 rfl rfl
theorem dksX5_lose_3 : cX5_lose.data.toList.drop 72 = dktX5_lose_3 := dk_seg dksX5_lose_2 24 rfl rfl
theorem dX5_lose_0 : decode cX5_lose 0 = .ok (.aload_n 0, 1) := dk_42 (dk_at dksX5_lose_0 0 rfl rfl)
theorem dX5_lose_1 : decode cX5_lose 1 = .ok (.iconst 1, 1) := dk_4 (dk_at dksX5_lose_0 1 rfl rfl)
theorem dX5_lose_2 : decode cX5_lose 2 = .ok (.aload_n 0, 1) := dk_42 (dk_at dksX5_lose_0 2 rfl rfl)
theorem dX5_lose_3 : decode cX5_lose 3 = .ok (.iload_n 1, 1) := dk_27 (dk_at dksX5_lose_0 3 rfl rfl)
theorem dX5_lose_4 : decode cX5_lose 4 = .ok (.invokevirtual 196, 3) := dk_182 0 196 (dk_at dksX5_lose_0 4 rfl rfl)
theorem dX5_lose_7 : decode cX5_lose 7 = .ok (.invokevirtual 114, 3) := dk_182 0 114 (dk_at dksX5_lose_0 7 rfl rfl)
theorem dX5_lose_10 : decode cX5_lose 10 = .ok (.ifCond .eq 5, 3) := dk_153 0 5 (dk_at dksX5_lose_0 10 rfl rfl)
theorem dX5_lose_13 : decode cX5_lose 13 = .ok (.iconst 0, 1) := dk_3 (dk_at dksX5_lose_0 13 rfl rfl)
theorem dX5_lose_14 : decode cX5_lose 14 = .ok (.ireturn, 1) := dk_172 (dk_at dksX5_lose_0 14 rfl rfl)
theorem dX5_lose_15 : decode cX5_lose 15 = .ok (.aload_n 0, 1) := dk_42 (dk_at dksX5_lose_0 15 rfl rfl)
theorem dX5_lose_16 : decode cX5_lose 16 = .ok (.invokevirtual 166, 3) := dk_182 0 166 (dk_at dksX5_lose_0 16 rfl rfl)
theorem dX5_lose_19 : decode cX5_lose 19 = .ok (.aload_n 0, 1) := dk_42 (dk_at dksX5_lose_0 19 rfl rfl)
theorem dX5_lose_20 : decode cX5_lose 20 = .ok (.getfield 9, 3) := dk_180 0 9 (dk_at dksX5_lose_0 20 rfl rfl)
theorem dX5_lose_23 : decode cX5_lose 23 = .ok (.iload_n 1, 1) := dk_27 (dk_at dksX5_lose_0 23 rfl rfl)
theorem dX5_lose_24 : decode cX5_lose 24 = .ok (.iconst 2, 1) := dk_5 (dk_at dksX5_lose_1 0 rfl rfl)
theorem dX5_lose_25 : decode cX5_lose 25 = .ok (.invokestatic 92, 3) := dk_184 0 92 (dk_at dksX5_lose_1 1 rfl rfl)
theorem dX5_lose_28 : decode cX5_lose 28 = .ok (.iaload, 1) := dk_46 (dk_at dksX5_lose_1 4 rfl rfl)
theorem dX5_lose_29 : decode cX5_lose 29 = .ok (.istore_n 2, 1) := dk_61 (dk_at dksX5_lose_1 5 rfl rfl)
theorem dX5_lose_30 : decode cX5_lose 30 = .ok (.aload_n 0, 1) := dk_42 (dk_at dksX5_lose_1 6 rfl rfl)
theorem dX5_lose_31 : decode cX5_lose 31 = .ok (.getfield 9, 3) := dk_180 0 9 (dk_at dksX5_lose_1 7 rfl rfl)
theorem dX5_lose_34 : decode cX5_lose 34 = .ok (.iload_n 1, 1) := dk_27 (dk_at dksX5_lose_1 10 rfl rfl)
theorem dX5_lose_35 : decode cX5_lose 35 = .ok (.bipush 6, 2) := dk_16 6 (dk_at dksX5_lose_1 11 rfl rfl)
theorem dX5_lose_37 : decode cX5_lose 37 = .ok (.invokestatic 92, 3) := dk_184 0 92 (dk_at dksX5_lose_1 13 rfl rfl)
theorem dX5_lose_40 : decode cX5_lose 40 = .ok (.iconst 0, 1) := dk_3 (dk_at dksX5_lose_1 16 rfl rfl)
theorem dX5_lose_41 : decode cX5_lose 41 = .ok (.iastore, 1) := dk_79 (dk_at dksX5_lose_1 17 rfl rfl)
theorem dX5_lose_42 : decode cX5_lose 42 = .ok (.aload_n 0, 1) := dk_42 (dk_at dksX5_lose_1 18 rfl rfl)
theorem dX5_lose_43 : decode cX5_lose 43 = .ok (.getfield 9, 3) := dk_180 0 9 (dk_at dksX5_lose_1 19 rfl rfl)
theorem dX5_lose_46 : decode cX5_lose 46 = .ok (.iload_n 2, 1) := dk_28 (dk_at dksX5_lose_1 22 rfl rfl)
theorem dX5_lose_47 : decode cX5_lose 47 = .ok (.iconst 5, 1) := dk_8 (dk_at dksX5_lose_1 23 rfl rfl)
theorem dX5_lose_48 : decode cX5_lose 48 = .ok (.invokestatic 117, 3) := dk_184 0 117 (dk_at dksX5_lose_2 0 rfl rfl)
theorem dX5_lose_51 : decode cX5_lose 51 = .ok (.iconst 1, 1) := dk_4 (dk_at dksX5_lose_2 3 rfl rfl)
theorem dX5_lose_52 : decode cX5_lose 52 = .ok (.iastore, 1) := dk_79 (dk_at dksX5_lose_2 4 rfl rfl)
theorem dX5_lose_53 : decode cX5_lose 53 = .ok (.aload_n 0, 1) := dk_42 (dk_at dksX5_lose_2 5 rfl rfl)
theorem dX5_lose_54 : decode cX5_lose 54 = .ok (.getfield 9, 3) := dk_180 0 9 (dk_at dksX5_lose_2 6 rfl rfl)
theorem dX5_lose_57 : decode cX5_lose 57 = .ok (.sipush 185, 3) := dk_17 0 185 (dk_at dksX5_lose_2 9 rfl rfl)
theorem dX5_lose_60 : decode cX5_lose 60 = .ok (.dup2, 1) := dk_92 (dk_at dksX5_lose_2 12 rfl rfl)
theorem dX5_lose_61 : decode cX5_lose 61 = .ok (.iaload, 1) := dk_46 (dk_at dksX5_lose_2 13 rfl rfl)
theorem dX5_lose_62 : decode cX5_lose 62 = .ok (.iconst 1, 1) := dk_4 (dk_at dksX5_lose_2 14 rfl rfl)
theorem dX5_lose_63 : decode cX5_lose 63 = .ok (.iadd, 1) := dk_96 (dk_at dksX5_lose_2 15 rfl rfl)
theorem dX5_lose_64 : decode cX5_lose 64 = .ok (.iastore, 1) := dk_79 (dk_at dksX5_lose_2 16 rfl rfl)
theorem dX5_lose_65 : decode cX5_lose 65 = .ok (.aload_n 0, 1) := dk_42 (dk_at dksX5_lose_2 17 rfl rfl)
theorem dX5_lose_66 : decode cX5_lose 66 = .ok (.iload_n 2, 1) := dk_28 (dk_at dksX5_lose_2 18 rfl rfl)
theorem dX5_lose_67 : decode cX5_lose 67 = .ok (.iconst 2, 1) := dk_5 (dk_at dksX5_lose_2 19 rfl rfl)
theorem dX5_lose_68 : decode cX5_lose 68 = .ok (.iload_n 2, 1) := dk_28 (dk_at dksX5_lose_2 20 rfl rfl)
theorem dX5_lose_69 : decode cX5_lose 69 = .ok (.invokevirtual 199, 3) := dk_182 0 199 (dk_at dksX5_lose_2 21 rfl rfl)
theorem dX5_lose_72 : decode cX5_lose 72 = .ok (.iload_n 2, 1) := dk_28 (dk_at dksX5_lose_3 0 rfl rfl)
theorem dX5_lose_73 : decode cX5_lose 73 = .ok (.ireturn, 1) := dk_172 (dk_at dksX5_lose_3 1 rfl rfl)
abbrev cX5_isLoseRefused : ByteArray := prog_20_method_57_code
def yX5_isLoseRefused : MethodName := ⟨RX5, "isLoseRefused", "(I)Z"⟩
def dkwX5_isLoseRefused_5 : List UInt8 := [167, 0, 4, 3, 172]
abbrev dktX5_isLoseRefused_5 : List UInt8 := dkwX5_isLoseRefused_5 ++ []
def dkwX5_isLoseRefused_4 : List UInt8 := [167, 0, 4, 3, 16, 10, 42, 180, 0, 9, 27, 5, 184, 0, 92, 46, 182, 0, 110, 153, 0, 7, 4]
abbrev dktX5_isLoseRefused_4 : List UInt8 := dkwX5_isLoseRefused_4 ++ dktX5_isLoseRefused_5
def dkwX5_isLoseRefused_3 : List UInt8 := [182, 0, 110, 154, 0, 41, 42, 42, 180, 0, 9, 27, 16, 6, 184, 0, 92, 46, 154, 0, 7, 4]
abbrev dktX5_isLoseRefused_3 : List UInt8 := dkwX5_isLoseRefused_3 ++ dktX5_isLoseRefused_4
def dkwX5_isLoseRefused_2 : List UInt8 := [180, 0, 9, 27, 8, 184, 0, 92, 46, 61, 42, 28, 155, 0, 7, 4, 167, 0, 4, 3, 16, 15, 28]
abbrev dktX5_isLoseRefused_2 : List UInt8 := dkwX5_isLoseRefused_2 ++ dktX5_isLoseRefused_3
def dkwX5_isLoseRefused_1 : List UInt8 := [167, 0, 4, 3, 7, 42, 180, 0, 9, 27, 4, 184, 0, 92, 46, 182, 0, 110, 153, 0, 5, 4, 172, 42]
abbrev dktX5_isLoseRefused_1 : List UInt8 := dkwX5_isLoseRefused_1 ++ dktX5_isLoseRefused_2
def dkwX5_isLoseRefused_0 : List UInt8 := [42, 27, 182, 0, 153, 154, 0, 39, 42, 42, 180, 0, 9, 27, 4, 184, 0, 92, 46, 155, 0, 7, 4]
abbrev dktX5_isLoseRefused_0 : List UInt8 := dkwX5_isLoseRefused_0 ++ dktX5_isLoseRefused_1
theorem dksX5_isLoseRefused_0 : cX5_isLoseRefused.data.toList.drop 0 = dktX5_isLoseRefused_0 := by decide +kernel
theorem dksX5_isLoseRefused_1 : cX5_isLoseRefused.data.toList.drop 23 = dktX5_isLoseRefused_1 := dk_seg dksX5_isLoseRefused_0 23 rfl rfl
theorem dksX5_isLoseRefused_2 : cX5_isLoseRefused.data.toList.drop 47 = dktX5_isLoseRefused_2 := dk_seg dksX5_isLoseRefused_1 24 rfl rfl
theorem dksX5_isLoseRefused_3 : cX5_isLoseRefused.data.toList.drop 70 = dktX5_isLoseRefused_3 := dk_seg dksX5_isLoseRefused_2 23 rfl rfl
theorem dksX5_isLoseRefused_4 : cX5_isLoseRefused.data.toList.drop 92 = dktX5_isLoseRefused_4 := dk_seg dksX5_isLoseRefused_3 22 rfl rfl
theorem dksX5_isLoseRefused_5 : cX5_isLoseRefused.data.toList.drop 115 = dktX5_isLoseRefused_5 := dk_seg dksX5_isLoseRefused_4 23 rfl rfl
theorem dX5_isLoseRefused_0 : decode cX5_isLoseRefused 0 = .ok (.aload_n 0, 1) := dk_42 (dk_at dksX5_isLoseRefused_0 0 rfl rfl)
theorem dX5_isLoseRefused_1 : decode cX5_isLoseRefused 1 = .ok (.iload_n 1, 1) := dk_27 (dk_at dksX5_isLoseRefused_0 1 rfl rfl)
theorem dX5_isLoseRefused_2 : decode cX5_isLoseRefused 2 = .ok (.invokevirtual 153, 3) := dk_182 0 153 (dk_at dksX5_isLoseRefused_0 2 rfl rfl)
theorem dX5_isLoseRefused_5 : decode cX5_isLoseRefused 5 = .ok (.ifCond .ne 39, 3) := dk_154 0 39 (dk_at dksX5_isLoseRefused_0 5 rfl rfl)
theorem dX5_isLoseRefused_8 : decode cX5_isLoseRefused 8 = .ok (.aload_n 0, 1) := dk_42 (dk_at dksX5_isLoseRefused_0 8 rfl rfl)
theorem dX5_isLoseRefused_9 : decode cX5_isLoseRefused 9 = .ok (.aload_n 0, 1) := dk_42 (dk_at dksX5_isLoseRefused_0 9 rfl rfl)
theorem dX5_isLoseRefused_10 : decode cX5_isLoseRefused 10 = .ok (.getfield 9, 3) := dk_180 0 9 (dk_at dksX5_isLoseRefused_0 10 rfl rfl)
theorem dX5_isLoseRefused_13 : decode cX5_isLoseRefused 13 = .ok (.iload_n 1, 1) := dk_27 (dk_at dksX5_isLoseRefused_0 13 rfl rfl)
theorem dX5_isLoseRefused_14 : decode cX5_isLoseRefused 14 = .ok (.iconst 1, 1) := dk_4 (dk_at dksX5_isLoseRefused_0 14 rfl rfl)
theorem dX5_isLoseRefused_15 : decode cX5_isLoseRefused 15 = .ok (.invokestatic 92, 3) := dk_184 0 92 (dk_at dksX5_isLoseRefused_0 15 rfl rfl)
theorem dX5_isLoseRefused_18 : decode cX5_isLoseRefused 18 = .ok (.iaload, 1) := dk_46 (dk_at dksX5_isLoseRefused_0 18 rfl rfl)
theorem dX5_isLoseRefused_19 : decode cX5_isLoseRefused 19 = .ok (.ifCond .lt 7, 3) := dk_155 0 7 (dk_at dksX5_isLoseRefused_0 19 rfl rfl)
theorem dX5_isLoseRefused_22 : decode cX5_isLoseRefused 22 = .ok (.iconst 1, 1) := dk_4 (dk_at dksX5_isLoseRefused_0 22 rfl rfl)
theorem dX5_isLoseRefused_23 : decode cX5_isLoseRefused 23 = .ok (.goto 4, 3) := dk_167 0 4 (dk_at dksX5_isLoseRefused_1 0 rfl rfl)
theorem dX5_isLoseRefused_26 : decode cX5_isLoseRefused 26 = .ok (.iconst 0, 1) := dk_3 (dk_at dksX5_isLoseRefused_1 3 rfl rfl)
theorem dX5_isLoseRefused_27 : decode cX5_isLoseRefused 27 = .ok (.iconst 4, 1) := dk_7 (dk_at dksX5_isLoseRefused_1 4 rfl rfl)
theorem dX5_isLoseRefused_28 : decode cX5_isLoseRefused 28 = .ok (.aload_n 0, 1) := dk_42 (dk_at dksX5_isLoseRefused_1 5 rfl rfl)
theorem dX5_isLoseRefused_29 : decode cX5_isLoseRefused 29 = .ok (.getfield 9, 3) := dk_180 0 9 (dk_at dksX5_isLoseRefused_1 6 rfl rfl)
theorem dX5_isLoseRefused_32 : decode cX5_isLoseRefused 32 = .ok (.iload_n 1, 1) := dk_27 (dk_at dksX5_isLoseRefused_1 9 rfl rfl)
theorem dX5_isLoseRefused_33 : decode cX5_isLoseRefused 33 = .ok (.iconst 1, 1) := dk_4 (dk_at dksX5_isLoseRefused_1 10 rfl rfl)
theorem dX5_isLoseRefused_34 : decode cX5_isLoseRefused 34 = .ok (.invokestatic 92, 3) := dk_184 0 92 (dk_at dksX5_isLoseRefused_1 11 rfl rfl)
theorem dX5_isLoseRefused_37 : decode cX5_isLoseRefused 37 = .ok (.iaload, 1) := dk_46 (dk_at dksX5_isLoseRefused_1 14 rfl rfl)
theorem dX5_isLoseRefused_38 : decode cX5_isLoseRefused 38 = .ok (.invokevirtual 110, 3) := dk_182 0 110 (dk_at dksX5_isLoseRefused_1 15 rfl rfl)
theorem dX5_isLoseRefused_41 : decode cX5_isLoseRefused 41 = .ok (.ifCond .eq 5, 3) := dk_153 0 5 (dk_at dksX5_isLoseRefused_1 18 rfl rfl)
theorem dX5_isLoseRefused_44 : decode cX5_isLoseRefused 44 = .ok (.iconst 1, 1) := dk_4 (dk_at dksX5_isLoseRefused_1 21 rfl rfl)
theorem dX5_isLoseRefused_45 : decode cX5_isLoseRefused 45 = .ok (.ireturn, 1) := dk_172 (dk_at dksX5_isLoseRefused_1 22 rfl rfl)
theorem dX5_isLoseRefused_46 : decode cX5_isLoseRefused 46 = .ok (.aload_n 0, 1) := dk_42 (dk_at dksX5_isLoseRefused_1 23 rfl rfl)
theorem dX5_isLoseRefused_47 : decode cX5_isLoseRefused 47 = .ok (.getfield 9, 3) := dk_180 0 9 (dk_at dksX5_isLoseRefused_2 0 rfl rfl)
theorem dX5_isLoseRefused_50 : decode cX5_isLoseRefused 50 = .ok (.iload_n 1, 1) := dk_27 (dk_at dksX5_isLoseRefused_2 3 rfl rfl)
theorem dX5_isLoseRefused_51 : decode cX5_isLoseRefused 51 = .ok (.iconst 5, 1) := dk_8 (dk_at dksX5_isLoseRefused_2 4 rfl rfl)
theorem dX5_isLoseRefused_52 : decode cX5_isLoseRefused 52 = .ok (.invokestatic 92, 3) := dk_184 0 92 (dk_at dksX5_isLoseRefused_2 5 rfl rfl)
theorem dX5_isLoseRefused_55 : decode cX5_isLoseRefused 55 = .ok (.iaload, 1) := dk_46 (dk_at dksX5_isLoseRefused_2 8 rfl rfl)
theorem dX5_isLoseRefused_56 : decode cX5_isLoseRefused 56 = .ok (.istore_n 2, 1) := dk_61 (dk_at dksX5_isLoseRefused_2 9 rfl rfl)
theorem dX5_isLoseRefused_57 : decode cX5_isLoseRefused 57 = .ok (.aload_n 0, 1) := dk_42 (dk_at dksX5_isLoseRefused_2 10 rfl rfl)
theorem dX5_isLoseRefused_58 : decode cX5_isLoseRefused 58 = .ok (.iload_n 2, 1) := dk_28 (dk_at dksX5_isLoseRefused_2 11 rfl rfl)
theorem dX5_isLoseRefused_59 : decode cX5_isLoseRefused 59 = .ok (.ifCond .lt 7, 3) := dk_155 0 7 (dk_at dksX5_isLoseRefused_2 12 rfl rfl)
theorem dX5_isLoseRefused_62 : decode cX5_isLoseRefused 62 = .ok (.iconst 1, 1) := dk_4 (dk_at dksX5_isLoseRefused_2 15 rfl rfl)
theorem dX5_isLoseRefused_63 : decode cX5_isLoseRefused 63 = .ok (.goto 4, 3) := dk_167 0 4 (dk_at dksX5_isLoseRefused_2 16 rfl rfl)
theorem dX5_isLoseRefused_66 : decode cX5_isLoseRefused 66 = .ok (.iconst 0, 1) := dk_3 (dk_at dksX5_isLoseRefused_2 19 rfl rfl)
theorem dX5_isLoseRefused_67 : decode cX5_isLoseRefused 67 = .ok (.bipush 15, 2) := dk_16 15 (dk_at dksX5_isLoseRefused_2 20 rfl rfl)
theorem dX5_isLoseRefused_69 : decode cX5_isLoseRefused 69 = .ok (.iload_n 2, 1) := dk_28 (dk_at dksX5_isLoseRefused_2 22 rfl rfl)
theorem dX5_isLoseRefused_70 : decode cX5_isLoseRefused 70 = .ok (.invokevirtual 110, 3) := dk_182 0 110 (dk_at dksX5_isLoseRefused_3 0 rfl rfl)
theorem dX5_isLoseRefused_73 : decode cX5_isLoseRefused 73 = .ok (.ifCond .ne 41, 3) := dk_154 0 41 (dk_at dksX5_isLoseRefused_3 3 rfl rfl)
theorem dX5_isLoseRefused_76 : decode cX5_isLoseRefused 76 = .ok (.aload_n 0, 1) := dk_42 (dk_at dksX5_isLoseRefused_3 6 rfl rfl)
theorem dX5_isLoseRefused_77 : decode cX5_isLoseRefused 77 = .ok (.aload_n 0, 1) := dk_42 (dk_at dksX5_isLoseRefused_3 7 rfl rfl)
theorem dX5_isLoseRefused_78 : decode cX5_isLoseRefused 78 = .ok (.getfield 9, 3) := dk_180 0 9 (dk_at dksX5_isLoseRefused_3 8 rfl rfl)
theorem dX5_isLoseRefused_81 : decode cX5_isLoseRefused 81 = .ok (.iload_n 1, 1) := dk_27 (dk_at dksX5_isLoseRefused_3 11 rfl rfl)
theorem dX5_isLoseRefused_82 : decode cX5_isLoseRefused 82 = .ok (.bipush 6, 2) := dk_16 6 (dk_at dksX5_isLoseRefused_3 12 rfl rfl)
theorem dX5_isLoseRefused_84 : decode cX5_isLoseRefused 84 = .ok (.invokestatic 92, 3) := dk_184 0 92 (dk_at dksX5_isLoseRefused_3 14 rfl rfl)
theorem dX5_isLoseRefused_87 : decode cX5_isLoseRefused 87 = .ok (.iaload, 1) := dk_46 (dk_at dksX5_isLoseRefused_3 17 rfl rfl)
theorem dX5_isLoseRefused_88 : decode cX5_isLoseRefused 88 = .ok (.ifCond .ne 7, 3) := dk_154 0 7 (dk_at dksX5_isLoseRefused_3 18 rfl rfl)
theorem dX5_isLoseRefused_91 : decode cX5_isLoseRefused 91 = .ok (.iconst 1, 1) := dk_4 (dk_at dksX5_isLoseRefused_3 21 rfl rfl)
theorem dX5_isLoseRefused_92 : decode cX5_isLoseRefused 92 = .ok (.goto 4, 3) := dk_167 0 4 (dk_at dksX5_isLoseRefused_4 0 rfl rfl)
theorem dX5_isLoseRefused_95 : decode cX5_isLoseRefused 95 = .ok (.iconst 0, 1) := dk_3 (dk_at dksX5_isLoseRefused_4 3 rfl rfl)
theorem dX5_isLoseRefused_96 : decode cX5_isLoseRefused 96 = .ok (.bipush 10, 2) := dk_16 10 (dk_at dksX5_isLoseRefused_4 4 rfl rfl)
theorem dX5_isLoseRefused_98 : decode cX5_isLoseRefused 98 = .ok (.aload_n 0, 1) := dk_42 (dk_at dksX5_isLoseRefused_4 6 rfl rfl)
theorem dX5_isLoseRefused_99 : decode cX5_isLoseRefused 99 = .ok (.getfield 9, 3) := dk_180 0 9 (dk_at dksX5_isLoseRefused_4 7 rfl rfl)
theorem dX5_isLoseRefused_102 : decode cX5_isLoseRefused 102 = .ok (.iload_n 1, 1) := dk_27 (dk_at dksX5_isLoseRefused_4 10 rfl rfl)
theorem dX5_isLoseRefused_103 : decode cX5_isLoseRefused 103 = .ok (.iconst 2, 1) := dk_5 (dk_at dksX5_isLoseRefused_4 11 rfl rfl)
theorem dX5_isLoseRefused_104 : decode cX5_isLoseRefused 104 = .ok (.invokestatic 92, 3) := dk_184 0 92 (dk_at dksX5_isLoseRefused_4 12 rfl rfl)
theorem dX5_isLoseRefused_107 : decode cX5_isLoseRefused 107 = .ok (.iaload, 1) := dk_46 (dk_at dksX5_isLoseRefused_4 15 rfl rfl)
theorem dX5_isLoseRefused_108 : decode cX5_isLoseRefused 108 = .ok (.invokevirtual 110, 3) := dk_182 0 110 (dk_at dksX5_isLoseRefused_4 16 rfl rfl)
theorem dX5_isLoseRefused_111 : decode cX5_isLoseRefused 111 = .ok (.ifCond .eq 7, 3) := dk_153 0 7 (dk_at dksX5_isLoseRefused_4 19 rfl rfl)
theorem dX5_isLoseRefused_114 : decode cX5_isLoseRefused 114 = .ok (.iconst 1, 1) := dk_4 (dk_at dksX5_isLoseRefused_4 22 rfl rfl)
theorem dX5_isLoseRefused_115 : decode cX5_isLoseRefused 115 = .ok (.goto 4, 3) := dk_167 0 4 (dk_at dksX5_isLoseRefused_5 0 rfl rfl)
theorem dX5_isLoseRefused_118 : decode cX5_isLoseRefused 118 = .ok (.iconst 0, 1) := dk_3 (dk_at dksX5_isLoseRefused_5 3 rfl rfl)
theorem dX5_isLoseRefused_119 : decode cX5_isLoseRefused 119 = .ok (.ireturn, 1) := dk_172 (dk_at dksX5_isLoseRefused_5 4 rfl rfl)
abbrev cX5_writeBoth : ByteArray := prog_20_method_26_code
def yX5_writeBoth : MethodName := ⟨RX5, "writeBoth", "(III)V"⟩
def dkwX5_writeBoth_0 : List UInt8 := [42, 27, 28, 29, 182, 0, 102, 42, 27, 4, 96, 28, 29, 182, 0, 102, 177]
abbrev dktX5_writeBoth_0 : List UInt8 := dkwX5_writeBoth_0 ++ []
theorem dksX5_writeBoth_0 : cX5_writeBoth.data.toList.drop 0 = dktX5_writeBoth_0 := by decide +kernel
theorem dX5_writeBoth_0 : decode cX5_writeBoth 0 = .ok (.aload_n 0, 1) := dk_42 (dk_at dksX5_writeBoth_0 0 rfl rfl)
theorem dX5_writeBoth_1 : decode cX5_writeBoth 1 = .ok (.iload_n 1, 1) := dk_27 (dk_at dksX5_writeBoth_0 1 rfl rfl)
theorem dX5_writeBoth_2 : decode cX5_writeBoth 2 = .ok (.iload_n 2, 1) := dk_28 (dk_at dksX5_writeBoth_0 2 rfl rfl)
theorem dX5_writeBoth_3 : decode cX5_writeBoth 3 = .ok (.iload_n 3, 1) := dk_29 (dk_at dksX5_writeBoth_0 3 rfl rfl)
theorem dX5_writeBoth_4 : decode cX5_writeBoth 4 = .ok (.invokevirtual 102, 3) := dk_182 0 102 (dk_at dksX5_writeBoth_0 4 rfl rfl)
theorem dX5_writeBoth_7 : decode cX5_writeBoth 7 = .ok (.aload_n 0, 1) := dk_42 (dk_at dksX5_writeBoth_0 7 rfl rfl)
theorem dX5_writeBoth_8 : decode cX5_writeBoth 8 = .ok (.iload_n 1, 1) := dk_27 (dk_at dksX5_writeBoth_0 8 rfl rfl)
theorem dX5_writeBoth_9 : decode cX5_writeBoth 9 = .ok (.iconst 1, 1) := dk_4 (dk_at dksX5_writeBoth_0 9 rfl rfl)
theorem dX5_writeBoth_10 : decode cX5_writeBoth 10 = .ok (.iadd, 1) := dk_96 (dk_at dksX5_writeBoth_0 10 rfl rfl)
theorem dX5_writeBoth_11 : decode cX5_writeBoth 11 = .ok (.iload_n 2, 1) := dk_28 (dk_at dksX5_writeBoth_0 11 rfl rfl)
theorem dX5_writeBoth_12 : decode cX5_writeBoth 12 = .ok (.iload_n 3, 1) := dk_29 (dk_at dksX5_writeBoth_0 12 rfl rfl)
theorem dX5_writeBoth_13 : decode cX5_writeBoth 13 = .ok (.invokevirtual 102, 3) := dk_182 0 102 (dk_at dksX5_writeBoth_0 13 rfl rfl)
theorem dX5_writeBoth_16 : decode cX5_writeBoth 16 = .ok (.return_, 1) := dk_177 (dk_at dksX5_writeBoth_0 16 rfl rfl)
abbrev cX5_find : ByteArray := prog_20_method_61_code
def yX5_find : MethodName := ⟨RX5, "find", "(II)I"⟩
def dkwX5_find_5 : List UInt8 := [46, 172]
abbrev dktX5_find_5 : List UInt8 := dkwX5_find_5 ++ []
def dkwX5_find_4 : List UInt8 := [42, 180, 0, 9, 29, 4, 184, 0, 99, 2, 79, 42, 27, 8, 29, 182, 0, 199, 42, 180, 0, 9, 21, 4]
abbrev dktX5_find_4 : List UInt8 := dkwX5_find_4 ++ dktX5_find_5
def dkwX5_find_3 : List UInt8 := [3, 79, 42, 180, 0, 9, 21, 4, 92, 46, 4, 96, 79, 42, 27, 6, 27, 182, 0, 199, 29, 155, 0, 21]
abbrev dktX5_find_3 : List UInt8 := dkwX5_find_3 ++ dktX5_find_4
def dkwX5_find_2 : List UInt8 := [28, 27, 160, 0, 7, 6, 167, 0, 4, 7, 184, 0, 117, 54, 4, 42, 180, 0, 9, 27, 8, 184, 0, 117]
abbrev dktX5_find_2 : List UInt8 := dkwX5_find_2 ++ dktX5_find_3
def dkwX5_find_1 : List UInt8 := [4, 167, 0, 4, 3, 182, 0, 84, 153, 0, 5, 3, 172, 42, 182, 0, 166, 42, 27, 182, 0, 135, 62, 27]
abbrev dktX5_find_1 : List UInt8 := dkwX5_find_1 ++ dktX5_find_2
def dkwX5_find_0 : List UInt8 := [42, 4, 42, 27, 28, 182, 0, 202, 182, 0, 114, 154, 0, 24, 42, 5, 27, 28, 184, 0, 205, 154, 0, 7]
abbrev dktX5_find_0 : List UInt8 := dkwX5_find_0 ++ dktX5_find_1
theorem dksX5_find_0 : cX5_find.data.toList.drop 0 = dktX5_find_0 := by decide +kernel
theorem dksX5_find_1 : cX5_find.data.toList.drop 24 = dktX5_find_1 := dk_seg dksX5_find_0 24 rfl rfl
theorem dksX5_find_2 : cX5_find.data.toList.drop 48 = dktX5_find_2 := dk_seg dksX5_find_1 24 rfl rfl
theorem dksX5_find_3 : cX5_find.data.toList.drop 72 = dktX5_find_3 := dk_seg dksX5_find_2 24 rfl rfl
theorem dksX5_find_4 : cX5_find.data.toList.drop 96 = dktX5_find_4 := dk_seg dksX5_find_3 24 rfl rfl
theorem dksX5_find_5 : cX5_find.data.toList.drop 120 = dktX5_find_5 := dk_seg dksX5_find_4 24 rfl rfl
theorem dX5_find_0 : decode cX5_find 0 = .ok (.aload_n 0, 1) := dk_42 (dk_at dksX5_find_0 0 rfl rfl)
theorem dX5_find_1 : decode cX5_find 1 = .ok (.iconst 1, 1) := dk_4 (dk_at dksX5_find_0 1 rfl rfl)
theorem dX5_find_2 : decode cX5_find 2 = .ok (.aload_n 0, 1) := dk_42 (dk_at dksX5_find_0 2 rfl rfl)
theorem dX5_find_3 : decode cX5_find 3 = .ok (.iload_n 1, 1) := dk_27 (dk_at dksX5_find_0 3 rfl rfl)
theorem dX5_find_4 : decode cX5_find 4 = .ok (.iload_n 2, 1) := dk_28 (dk_at dksX5_find_0 4 rfl rfl)
theorem dX5_find_5 : decode cX5_find 5 = .ok (.invokevirtual 202, 3) := dk_182 0 202 (dk_at dksX5_find_0 5 rfl rfl)
theorem dX5_find_8 : decode cX5_find 8 = .ok (.invokevirtual 114, 3) := dk_182 0 114 (dk_at dksX5_find_0 8 rfl rfl)
theorem dX5_find_11 : decode cX5_find 11 = .ok (.ifCond .ne 24, 3) := dk_154 0 24 (dk_at dksX5_find_0 11 rfl rfl)
theorem dX5_find_14 : decode cX5_find 14 = .ok (.aload_n 0, 1) := dk_42 (dk_at dksX5_find_0 14 rfl rfl)
theorem dX5_find_15 : decode cX5_find 15 = .ok (.iconst 2, 1) := dk_5 (dk_at dksX5_find_0 15 rfl rfl)
theorem dX5_find_16 : decode cX5_find 16 = .ok (.iload_n 1, 1) := dk_27 (dk_at dksX5_find_0 16 rfl rfl)
theorem dX5_find_17 : decode cX5_find 17 = .ok (.iload_n 2, 1) := dk_28 (dk_at dksX5_find_0 17 rfl rfl)
theorem dX5_find_18 : decode cX5_find 18 = .ok (.invokestatic 205, 3) := dk_184 0 205 (dk_at dksX5_find_0 18 rfl rfl)
theorem dX5_find_21 : decode cX5_find 21 = .ok (.ifCond .ne 7, 3) := dk_154 0 7 (dk_at dksX5_find_0 21 rfl rfl)
theorem dX5_find_24 : decode cX5_find 24 = .ok (.iconst 1, 1) := dk_4 (dk_at dksX5_find_1 0 rfl rfl)
theorem dX5_find_25 : decode cX5_find 25 = .ok (.goto 4, 3) := dk_167 0 4 (dk_at dksX5_find_1 1 rfl rfl)
theorem dX5_find_28 : decode cX5_find 28 = .ok (.iconst 0, 1) := dk_3 (dk_at dksX5_find_1 4 rfl rfl)
theorem dX5_find_29 : decode cX5_find 29 = .ok (.invokevirtual 84, 3) := dk_182 0 84 (dk_at dksX5_find_1 5 rfl rfl)
theorem dX5_find_32 : decode cX5_find 32 = .ok (.ifCond .eq 5, 3) := dk_153 0 5 (dk_at dksX5_find_1 8 rfl rfl)
theorem dX5_find_35 : decode cX5_find 35 = .ok (.iconst 0, 1) := dk_3 (dk_at dksX5_find_1 11 rfl rfl)
theorem dX5_find_36 : decode cX5_find 36 = .ok (.ireturn, 1) := dk_172 (dk_at dksX5_find_1 12 rfl rfl)
theorem dX5_find_37 : decode cX5_find 37 = .ok (.aload_n 0, 1) := dk_42 (dk_at dksX5_find_1 13 rfl rfl)
theorem dX5_find_38 : decode cX5_find 38 = .ok (.invokevirtual 166, 3) := dk_182 0 166 (dk_at dksX5_find_1 14 rfl rfl)
theorem dX5_find_41 : decode cX5_find 41 = .ok (.aload_n 0, 1) := dk_42 (dk_at dksX5_find_1 17 rfl rfl)
theorem dX5_find_42 : decode cX5_find 42 = .ok (.iload_n 1, 1) := dk_27 (dk_at dksX5_find_1 18 rfl rfl)
theorem dX5_find_43 : decode cX5_find 43 = .ok (.invokevirtual 135, 3) := dk_182 0 135 (dk_at dksX5_find_1 19 rfl rfl)
theorem dX5_find_46 : decode cX5_find 46 = .ok (.istore_n 3, 1) := dk_62 (dk_at dksX5_find_1 22 rfl rfl)
theorem dX5_find_47 : decode cX5_find 47 = .ok (.iload_n 1, 1) := dk_27 (dk_at dksX5_find_1 23 rfl rfl)
theorem dX5_find_48 : decode cX5_find 48 = .ok (.iload_n 2, 1) := dk_28 (dk_at dksX5_find_2 0 rfl rfl)
theorem dX5_find_49 : decode cX5_find 49 = .ok (.iload_n 1, 1) := dk_27 (dk_at dksX5_find_2 1 rfl rfl)
theorem dX5_find_50 : decode cX5_find 50 = .ok (.if_icmp .ne 7, 3) := dk_160 0 7 (dk_at dksX5_find_2 2 rfl rfl)
theorem dX5_find_53 : decode cX5_find 53 = .ok (.iconst 3, 1) := dk_6 (dk_at dksX5_find_2 5 rfl rfl)
theorem dX5_find_54 : decode cX5_find 54 = .ok (.goto 4, 3) := dk_167 0 4 (dk_at dksX5_find_2 6 rfl rfl)
theorem dX5_find_57 : decode cX5_find 57 = .ok (.iconst 4, 1) := dk_7 (dk_at dksX5_find_2 9 rfl rfl)
theorem dX5_find_58 : decode cX5_find 58 = .ok (.invokestatic 117, 3) := dk_184 0 117 (dk_at dksX5_find_2 10 rfl rfl)
theorem dX5_find_61 : decode cX5_find 61 = .ok (.istore 4, 2) := dk_54 4 (dk_at dksX5_find_2 13 rfl rfl)
theorem dX5_find_63 : decode cX5_find 63 = .ok (.aload_n 0, 1) := dk_42 (dk_at dksX5_find_2 15 rfl rfl)
theorem dX5_find_64 : decode cX5_find 64 = .ok (.getfield 9, 3) := dk_180 0 9 (dk_at dksX5_find_2 16 rfl rfl)
theorem dX5_find_67 : decode cX5_find 67 = .ok (.iload_n 1, 1) := dk_27 (dk_at dksX5_find_2 19 rfl rfl)
theorem dX5_find_68 : decode cX5_find 68 = .ok (.iconst 5, 1) := dk_8 (dk_at dksX5_find_2 20 rfl rfl)
theorem dX5_find_69 : decode cX5_find 69 = .ok (.invokestatic 117, 3) := dk_184 0 117 (dk_at dksX5_find_2 21 rfl rfl)
theorem dX5_find_72 : decode cX5_find 72 = .ok (.iconst 0, 1) := dk_3 (dk_at dksX5_find_3 0 rfl rfl)
theorem dX5_find_73 : decode cX5_find 73 = .ok (.iastore, 1) := dk_79 (dk_at dksX5_find_3 1 rfl rfl)
theorem dX5_find_74 : decode cX5_find 74 = .ok (.aload_n 0, 1) := dk_42 (dk_at dksX5_find_3 2 rfl rfl)
theorem dX5_find_75 : decode cX5_find 75 = .ok (.getfield 9, 3) := dk_180 0 9 (dk_at dksX5_find_3 3 rfl rfl)
theorem dX5_find_78 : decode cX5_find 78 = .ok (.iload 4, 2) := dk_21 4 (dk_at dksX5_find_3 6 rfl rfl)
theorem dX5_find_80 : decode cX5_find 80 = .ok (.dup2, 1) := dk_92 (dk_at dksX5_find_3 8 rfl rfl)
theorem dX5_find_81 : decode cX5_find 81 = .ok (.iaload, 1) := dk_46 (dk_at dksX5_find_3 9 rfl rfl)
theorem dX5_find_82 : decode cX5_find 82 = .ok (.iconst 1, 1) := dk_4 (dk_at dksX5_find_3 10 rfl rfl)
theorem dX5_find_83 : decode cX5_find 83 = .ok (.iadd, 1) := dk_96 (dk_at dksX5_find_3 11 rfl rfl)
theorem dX5_find_84 : decode cX5_find 84 = .ok (.iastore, 1) := dk_79 (dk_at dksX5_find_3 12 rfl rfl)
theorem dX5_find_85 : decode cX5_find 85 = .ok (.aload_n 0, 1) := dk_42 (dk_at dksX5_find_3 13 rfl rfl)
theorem dX5_find_86 : decode cX5_find 86 = .ok (.iload_n 1, 1) := dk_27 (dk_at dksX5_find_3 14 rfl rfl)
theorem dX5_find_87 : decode cX5_find 87 = .ok (.iconst 3, 1) := dk_6 (dk_at dksX5_find_3 15 rfl rfl)
theorem dX5_find_88 : decode cX5_find 88 = .ok (.iload_n 1, 1) := dk_27 (dk_at dksX5_find_3 16 rfl rfl)
theorem dX5_find_89 : decode cX5_find 89 = .ok (.invokevirtual 199, 3) := dk_182 0 199 (dk_at dksX5_find_3 17 rfl rfl)
theorem dX5_find_92 : decode cX5_find 92 = .ok (.iload_n 3, 1) := dk_29 (dk_at dksX5_find_3 20 rfl rfl)
theorem dX5_find_93 : decode cX5_find 93 = .ok (.ifCond .lt 21, 3) := dk_155 0 21 (dk_at dksX5_find_3 21 rfl rfl)
theorem dX5_find_96 : decode cX5_find 96 = .ok (.aload_n 0, 1) := dk_42 (dk_at dksX5_find_4 0 rfl rfl)
theorem dX5_find_97 : decode cX5_find 97 = .ok (.getfield 9, 3) := dk_180 0 9 (dk_at dksX5_find_4 1 rfl rfl)
theorem dX5_find_100 : decode cX5_find 100 = .ok (.iload_n 3, 1) := dk_29 (dk_at dksX5_find_4 4 rfl rfl)
theorem dX5_find_101 : decode cX5_find 101 = .ok (.iconst 1, 1) := dk_4 (dk_at dksX5_find_4 5 rfl rfl)
theorem dX5_find_102 : decode cX5_find 102 = .ok (.invokestatic 99, 3) := dk_184 0 99 (dk_at dksX5_find_4 6 rfl rfl)
theorem dX5_find_105 : decode cX5_find 105 = .ok (.iconst (-1), 1) := dk_2 (dk_at dksX5_find_4 9 rfl rfl)
theorem dX5_find_106 : decode cX5_find 106 = .ok (.iastore, 1) := dk_79 (dk_at dksX5_find_4 10 rfl rfl)
theorem dX5_find_107 : decode cX5_find 107 = .ok (.aload_n 0, 1) := dk_42 (dk_at dksX5_find_4 11 rfl rfl)
theorem dX5_find_108 : decode cX5_find 108 = .ok (.iload_n 1, 1) := dk_27 (dk_at dksX5_find_4 12 rfl rfl)
theorem dX5_find_109 : decode cX5_find 109 = .ok (.iconst 5, 1) := dk_8 (dk_at dksX5_find_4 13 rfl rfl)
theorem dX5_find_110 : decode cX5_find 110 = .ok (.iload_n 3, 1) := dk_29 (dk_at dksX5_find_4 14 rfl rfl)
theorem dX5_find_111 : decode cX5_find 111 = .ok (.invokevirtual 199, 3) := dk_182 0 199 (dk_at dksX5_find_4 15 rfl rfl)
theorem dX5_find_114 : decode cX5_find 114 = .ok (.aload_n 0, 1) := dk_42 (dk_at dksX5_find_4 18 rfl rfl)
theorem dX5_find_115 : decode cX5_find 115 = .ok (.getfield 9, 3) := dk_180 0 9 (dk_at dksX5_find_4 19 rfl rfl)
theorem dX5_find_118 : decode cX5_find 118 = .ok (.iload 4, 2) := dk_21 4 (dk_at dksX5_find_4 22 rfl rfl)
theorem dX5_find_120 : decode cX5_find 120 = .ok (.iaload, 1) := dk_46 (dk_at dksX5_find_5 0 rfl rfl)
theorem dX5_find_121 : decode cX5_find 121 = .ok (.ireturn, 1) := dk_172 (dk_at dksX5_find_5 1 rfl rfl)
abbrev cX5_isFindRefused : ByteArray := prog_20_method_59_code
def yX5_isFindRefused : MethodName := ⟨RX5, "isFindRefused", "(II)Z"⟩
def dkwX5_isFindRefused_3 : List UInt8 := [154, 0, 11, 42, 27, 182, 0, 126, 153, 0, 7, 4, 167, 0, 4, 3, 172]
abbrev dktX5_isFindRefused_3 : List UInt8 := dkwX5_isFindRefused_3 ++ []
def dkwX5_isFindRefused_2 : List UInt8 := [180, 0, 9, 27, 8, 184, 0, 117, 46, 154, 0, 7, 4, 167, 0, 4, 3, 16, 11, 27, 182, 0, 110]
abbrev dktX5_isFindRefused_2 : List UInt8 := dkwX5_isFindRefused_2 ++ dktX5_isFindRefused_3
def dkwX5_isFindRefused_1 : List UInt8 := [184, 0, 106, 154, 0, 7, 4, 167, 0, 4, 3, 4, 28, 182, 0, 110, 153, 0, 5, 4, 172, 42, 42]
abbrev dktX5_isFindRefused_1 : List UInt8 := dkwX5_isFindRefused_1 ++ dktX5_isFindRefused_2
def dkwX5_isFindRefused_0 : List UInt8 := [42, 27, 184, 0, 123, 154, 0, 7, 4, 167, 0, 4, 3, 4, 27, 182, 0, 110, 154, 0, 24, 42, 28]
abbrev dktX5_isFindRefused_0 : List UInt8 := dkwX5_isFindRefused_0 ++ dktX5_isFindRefused_1
theorem dksX5_isFindRefused_0 : cX5_isFindRefused.data.toList.drop 0 = dktX5_isFindRefused_0 := by decide +kernel
theorem dksX5_isFindRefused_1 : cX5_isFindRefused.data.toList.drop 23 = dktX5_isFindRefused_1 := dk_seg dksX5_isFindRefused_0 23 rfl rfl
theorem dksX5_isFindRefused_2 : cX5_isFindRefused.data.toList.drop 46 = dktX5_isFindRefused_2 := dk_seg dksX5_isFindRefused_1 23 rfl rfl
theorem dksX5_isFindRefused_3 : cX5_isFindRefused.data.toList.drop 69 = dktX5_isFindRefused_3 := dk_seg dksX5_isFindRefused_2 23 rfl rfl
theorem dX5_isFindRefused_0 : decode cX5_isFindRefused 0 = .ok (.aload_n 0, 1) := dk_42 (dk_at dksX5_isFindRefused_0 0 rfl rfl)
theorem dX5_isFindRefused_1 : decode cX5_isFindRefused 1 = .ok (.iload_n 1, 1) := dk_27 (dk_at dksX5_isFindRefused_0 1 rfl rfl)
theorem dX5_isFindRefused_2 : decode cX5_isFindRefused 2 = .ok (.invokestatic 123, 3) := dk_184 0 123 (dk_at dksX5_isFindRefused_0 2 rfl rfl)
theorem dX5_isFindRefused_5 : decode cX5_isFindRefused 5 = .ok (.ifCond .ne 7, 3) := dk_154 0 7 (dk_at dksX5_isFindRefused_0 5 rfl rfl)
theorem dX5_isFindRefused_8 : decode cX5_isFindRefused 8 = .ok (.iconst 1, 1) := dk_4 (dk_at dksX5_isFindRefused_0 8 rfl rfl)
theorem dX5_isFindRefused_9 : decode cX5_isFindRefused 9 = .ok (.goto 4, 3) := dk_167 0 4 (dk_at dksX5_isFindRefused_0 9 rfl rfl)
theorem dX5_isFindRefused_12 : decode cX5_isFindRefused 12 = .ok (.iconst 0, 1) := dk_3 (dk_at dksX5_isFindRefused_0 12 rfl rfl)
theorem dX5_isFindRefused_13 : decode cX5_isFindRefused 13 = .ok (.iconst 1, 1) := dk_4 (dk_at dksX5_isFindRefused_0 13 rfl rfl)
theorem dX5_isFindRefused_14 : decode cX5_isFindRefused 14 = .ok (.iload_n 1, 1) := dk_27 (dk_at dksX5_isFindRefused_0 14 rfl rfl)
theorem dX5_isFindRefused_15 : decode cX5_isFindRefused 15 = .ok (.invokevirtual 110, 3) := dk_182 0 110 (dk_at dksX5_isFindRefused_0 15 rfl rfl)
theorem dX5_isFindRefused_18 : decode cX5_isFindRefused 18 = .ok (.ifCond .ne 24, 3) := dk_154 0 24 (dk_at dksX5_isFindRefused_0 18 rfl rfl)
theorem dX5_isFindRefused_21 : decode cX5_isFindRefused 21 = .ok (.aload_n 0, 1) := dk_42 (dk_at dksX5_isFindRefused_0 21 rfl rfl)
theorem dX5_isFindRefused_22 : decode cX5_isFindRefused 22 = .ok (.iload_n 2, 1) := dk_28 (dk_at dksX5_isFindRefused_0 22 rfl rfl)
theorem dX5_isFindRefused_23 : decode cX5_isFindRefused 23 = .ok (.invokestatic 106, 3) := dk_184 0 106 (dk_at dksX5_isFindRefused_1 0 rfl rfl)
theorem dX5_isFindRefused_26 : decode cX5_isFindRefused 26 = .ok (.ifCond .ne 7, 3) := dk_154 0 7 (dk_at dksX5_isFindRefused_1 3 rfl rfl)
theorem dX5_isFindRefused_29 : decode cX5_isFindRefused 29 = .ok (.iconst 1, 1) := dk_4 (dk_at dksX5_isFindRefused_1 6 rfl rfl)
theorem dX5_isFindRefused_30 : decode cX5_isFindRefused 30 = .ok (.goto 4, 3) := dk_167 0 4 (dk_at dksX5_isFindRefused_1 7 rfl rfl)
theorem dX5_isFindRefused_33 : decode cX5_isFindRefused 33 = .ok (.iconst 0, 1) := dk_3 (dk_at dksX5_isFindRefused_1 10 rfl rfl)
theorem dX5_isFindRefused_34 : decode cX5_isFindRefused 34 = .ok (.iconst 1, 1) := dk_4 (dk_at dksX5_isFindRefused_1 11 rfl rfl)
theorem dX5_isFindRefused_35 : decode cX5_isFindRefused 35 = .ok (.iload_n 2, 1) := dk_28 (dk_at dksX5_isFindRefused_1 12 rfl rfl)
theorem dX5_isFindRefused_36 : decode cX5_isFindRefused 36 = .ok (.invokevirtual 110, 3) := dk_182 0 110 (dk_at dksX5_isFindRefused_1 13 rfl rfl)
theorem dX5_isFindRefused_39 : decode cX5_isFindRefused 39 = .ok (.ifCond .eq 5, 3) := dk_153 0 5 (dk_at dksX5_isFindRefused_1 16 rfl rfl)
theorem dX5_isFindRefused_42 : decode cX5_isFindRefused 42 = .ok (.iconst 1, 1) := dk_4 (dk_at dksX5_isFindRefused_1 19 rfl rfl)
theorem dX5_isFindRefused_43 : decode cX5_isFindRefused 43 = .ok (.ireturn, 1) := dk_172 (dk_at dksX5_isFindRefused_1 20 rfl rfl)
theorem dX5_isFindRefused_44 : decode cX5_isFindRefused 44 = .ok (.aload_n 0, 1) := dk_42 (dk_at dksX5_isFindRefused_1 21 rfl rfl)
theorem dX5_isFindRefused_45 : decode cX5_isFindRefused 45 = .ok (.aload_n 0, 1) := dk_42 (dk_at dksX5_isFindRefused_1 22 rfl rfl)
theorem dX5_isFindRefused_46 : decode cX5_isFindRefused 46 = .ok (.getfield 9, 3) := dk_180 0 9 (dk_at dksX5_isFindRefused_2 0 rfl rfl)
theorem dX5_isFindRefused_49 : decode cX5_isFindRefused 49 = .ok (.iload_n 1, 1) := dk_27 (dk_at dksX5_isFindRefused_2 3 rfl rfl)
theorem dX5_isFindRefused_50 : decode cX5_isFindRefused 50 = .ok (.iconst 5, 1) := dk_8 (dk_at dksX5_isFindRefused_2 4 rfl rfl)
theorem dX5_isFindRefused_51 : decode cX5_isFindRefused 51 = .ok (.invokestatic 117, 3) := dk_184 0 117 (dk_at dksX5_isFindRefused_2 5 rfl rfl)
theorem dX5_isFindRefused_54 : decode cX5_isFindRefused 54 = .ok (.iaload, 1) := dk_46 (dk_at dksX5_isFindRefused_2 8 rfl rfl)
theorem dX5_isFindRefused_55 : decode cX5_isFindRefused 55 = .ok (.ifCond .ne 7, 3) := dk_154 0 7 (dk_at dksX5_isFindRefused_2 9 rfl rfl)
theorem dX5_isFindRefused_58 : decode cX5_isFindRefused 58 = .ok (.iconst 1, 1) := dk_4 (dk_at dksX5_isFindRefused_2 12 rfl rfl)
theorem dX5_isFindRefused_59 : decode cX5_isFindRefused 59 = .ok (.goto 4, 3) := dk_167 0 4 (dk_at dksX5_isFindRefused_2 13 rfl rfl)
theorem dX5_isFindRefused_62 : decode cX5_isFindRefused 62 = .ok (.iconst 0, 1) := dk_3 (dk_at dksX5_isFindRefused_2 16 rfl rfl)
theorem dX5_isFindRefused_63 : decode cX5_isFindRefused 63 = .ok (.bipush 11, 2) := dk_16 11 (dk_at dksX5_isFindRefused_2 17 rfl rfl)
theorem dX5_isFindRefused_65 : decode cX5_isFindRefused 65 = .ok (.iload_n 1, 1) := dk_27 (dk_at dksX5_isFindRefused_2 19 rfl rfl)
theorem dX5_isFindRefused_66 : decode cX5_isFindRefused 66 = .ok (.invokevirtual 110, 3) := dk_182 0 110 (dk_at dksX5_isFindRefused_2 20 rfl rfl)
theorem dX5_isFindRefused_69 : decode cX5_isFindRefused 69 = .ok (.ifCond .ne 11, 3) := dk_154 0 11 (dk_at dksX5_isFindRefused_3 0 rfl rfl)
theorem dX5_isFindRefused_72 : decode cX5_isFindRefused 72 = .ok (.aload_n 0, 1) := dk_42 (dk_at dksX5_isFindRefused_3 3 rfl rfl)
theorem dX5_isFindRefused_73 : decode cX5_isFindRefused 73 = .ok (.iload_n 1, 1) := dk_27 (dk_at dksX5_isFindRefused_3 4 rfl rfl)
theorem dX5_isFindRefused_74 : decode cX5_isFindRefused 74 = .ok (.invokevirtual 126, 3) := dk_182 0 126 (dk_at dksX5_isFindRefused_3 5 rfl rfl)
theorem dX5_isFindRefused_77 : decode cX5_isFindRefused 77 = .ok (.ifCond .eq 7, 3) := dk_153 0 7 (dk_at dksX5_isFindRefused_3 8 rfl rfl)
theorem dX5_isFindRefused_80 : decode cX5_isFindRefused 80 = .ok (.iconst 1, 1) := dk_4 (dk_at dksX5_isFindRefused_3 11 rfl rfl)
theorem dX5_isFindRefused_81 : decode cX5_isFindRefused 81 = .ok (.goto 4, 3) := dk_167 0 4 (dk_at dksX5_isFindRefused_3 12 rfl rfl)
theorem dX5_isFindRefused_84 : decode cX5_isFindRefused 84 = .ok (.iconst 0, 1) := dk_3 (dk_at dksX5_isFindRefused_3 15 rfl rfl)
theorem dX5_isFindRefused_85 : decode cX5_isFindRefused 85 = .ok (.ireturn, 1) := dk_172 (dk_at dksX5_isFindRefused_3 16 rfl rfl)
abbrev cX5_isEnd : ByteArray := prog_20_method_60_code
def yX5_isEnd : MethodName := ⟨RX5, "isEnd", "(II)Z"⟩
def dkwX5_isEnd_0 : List UInt8 := [27, 26, 159, 0, 10, 27, 26, 4, 96, 160, 0, 7, 4, 167, 0, 4, 3, 172]
abbrev dktX5_isEnd_0 : List UInt8 := dkwX5_isEnd_0 ++ []
theorem dksX5_isEnd_0 : cX5_isEnd.data.toList.drop 0 = dktX5_isEnd_0 := by decide +kernel
theorem dX5_isEnd_0 : decode cX5_isEnd 0 = .ok (.iload_n 1, 1) := dk_27 (dk_at dksX5_isEnd_0 0 rfl rfl)
theorem dX5_isEnd_1 : decode cX5_isEnd 1 = .ok (.iload_n 0, 1) := dk_26 (dk_at dksX5_isEnd_0 1 rfl rfl)
theorem dX5_isEnd_2 : decode cX5_isEnd 2 = .ok (.if_icmp .eq 10, 3) := dk_159 0 10 (dk_at dksX5_isEnd_0 2 rfl rfl)
theorem dX5_isEnd_5 : decode cX5_isEnd 5 = .ok (.iload_n 1, 1) := dk_27 (dk_at dksX5_isEnd_0 5 rfl rfl)
theorem dX5_isEnd_6 : decode cX5_isEnd 6 = .ok (.iload_n 0, 1) := dk_26 (dk_at dksX5_isEnd_0 6 rfl rfl)
theorem dX5_isEnd_7 : decode cX5_isEnd 7 = .ok (.iconst 1, 1) := dk_4 (dk_at dksX5_isEnd_0 7 rfl rfl)
theorem dX5_isEnd_8 : decode cX5_isEnd 8 = .ok (.iadd, 1) := dk_96 (dk_at dksX5_isEnd_0 8 rfl rfl)
theorem dX5_isEnd_9 : decode cX5_isEnd 9 = .ok (.if_icmp .ne 7, 3) := dk_160 0 7 (dk_at dksX5_isEnd_0 9 rfl rfl)
theorem dX5_isEnd_12 : decode cX5_isEnd 12 = .ok (.iconst 1, 1) := dk_4 (dk_at dksX5_isEnd_0 12 rfl rfl)
theorem dX5_isEnd_13 : decode cX5_isEnd 13 = .ok (.goto 4, 3) := dk_167 0 4 (dk_at dksX5_isEnd_0 13 rfl rfl)
theorem dX5_isEnd_16 : decode cX5_isEnd 16 = .ok (.iconst 0, 1) := dk_3 (dk_at dksX5_isEnd_0 16 rfl rfl)
theorem dX5_isEnd_17 : decode cX5_isEnd 17 = .ok (.ireturn, 1) := dk_172 (dk_at dksX5_isEnd_0 17 rfl rfl)
abbrev cX5_pilotman : ByteArray := prog_20_method_62_code
def yX5_pilotman : MethodName := ⟨RX5, "pilotman", "(I)I"⟩
def dkwX5_pilotman_4 : List UInt8 := [180, 0, 9, 17, 0, 181, 92, 46, 4, 96, 79, 28, 172]
abbrev dktX5_pilotman_4 : List UInt8 := dkwX5_pilotman_4 ++ []
def dkwX5_pilotman_3 : List UInt8 := [180, 0, 9, 28, 3, 184, 0, 99, 27, 79, 42, 180, 0, 9, 28, 4, 184, 0, 99, 2, 79, 42]
abbrev dktX5_pilotman_3 : List UInt8 := dkwX5_pilotman_3 ++ dktX5_pilotman_4
def dkwX5_pilotman_2 : List UInt8 := [153, 0, 5, 3, 172, 42, 42, 180, 0, 9, 182, 0, 66, 42, 180, 0, 9, 17, 0, 181, 46, 61, 42]
abbrev dktX5_pilotman_2 : List UInt8 := dkwX5_pilotman_2 ++ dktX5_pilotman_3
def dkwX5_pilotman_1 : List UInt8 := [180, 0, 9, 17, 0, 181, 46, 6, 160, 0, 7, 4, 167, 0, 4, 3, 5, 6, 182, 0, 110, 182, 0, 114]
abbrev dktX5_pilotman_1 : List UInt8 := dkwX5_pilotman_1 ++ dktX5_pilotman_2
def dkwX5_pilotman_0 : List UInt8 := [42, 4, 27, 184, 0, 106, 154, 0, 7, 4, 167, 0, 4, 3, 182, 0, 84, 154, 0, 34, 42, 5, 42, 42]
abbrev dktX5_pilotman_0 : List UInt8 := dkwX5_pilotman_0 ++ dktX5_pilotman_1
theorem dksX5_pilotman_0 : cX5_pilotman.data.toList.drop 0 = dktX5_pilotman_0 := by decide +kernel
theorem dksX5_pilotman_1 : cX5_pilotman.data.toList.drop 24 = dktX5_pilotman_1 := dk_seg dksX5_pilotman_0 24 rfl rfl
theorem dksX5_pilotman_2 : cX5_pilotman.data.toList.drop 48 = dktX5_pilotman_2 := dk_seg dksX5_pilotman_1 24 rfl rfl
theorem dksX5_pilotman_3 : cX5_pilotman.data.toList.drop 71 = dktX5_pilotman_3 := dk_seg dksX5_pilotman_2 23 rfl rfl
theorem dksX5_pilotman_4 : cX5_pilotman.data.toList.drop 93 = dktX5_pilotman_4 := dk_seg dksX5_pilotman_3 22 rfl rfl
theorem dX5_pilotman_0 : decode cX5_pilotman 0 = .ok (.aload_n 0, 1) := dk_42 (dk_at dksX5_pilotman_0 0 rfl rfl)
theorem dX5_pilotman_1 : decode cX5_pilotman 1 = .ok (.iconst 1, 1) := dk_4 (dk_at dksX5_pilotman_0 1 rfl rfl)
theorem dX5_pilotman_2 : decode cX5_pilotman 2 = .ok (.iload_n 1, 1) := dk_27 (dk_at dksX5_pilotman_0 2 rfl rfl)
theorem dX5_pilotman_3 : decode cX5_pilotman 3 = .ok (.invokestatic 106, 3) := dk_184 0 106 (dk_at dksX5_pilotman_0 3 rfl rfl)
theorem dX5_pilotman_6 : decode cX5_pilotman 6 = .ok (.ifCond .ne 7, 3) := dk_154 0 7 (dk_at dksX5_pilotman_0 6 rfl rfl)
theorem dX5_pilotman_9 : decode cX5_pilotman 9 = .ok (.iconst 1, 1) := dk_4 (dk_at dksX5_pilotman_0 9 rfl rfl)
theorem dX5_pilotman_10 : decode cX5_pilotman 10 = .ok (.goto 4, 3) := dk_167 0 4 (dk_at dksX5_pilotman_0 10 rfl rfl)
theorem dX5_pilotman_13 : decode cX5_pilotman 13 = .ok (.iconst 0, 1) := dk_3 (dk_at dksX5_pilotman_0 13 rfl rfl)
theorem dX5_pilotman_14 : decode cX5_pilotman 14 = .ok (.invokevirtual 84, 3) := dk_182 0 84 (dk_at dksX5_pilotman_0 14 rfl rfl)
theorem dX5_pilotman_17 : decode cX5_pilotman 17 = .ok (.ifCond .ne 34, 3) := dk_154 0 34 (dk_at dksX5_pilotman_0 17 rfl rfl)
theorem dX5_pilotman_20 : decode cX5_pilotman 20 = .ok (.aload_n 0, 1) := dk_42 (dk_at dksX5_pilotman_0 20 rfl rfl)
theorem dX5_pilotman_21 : decode cX5_pilotman 21 = .ok (.iconst 2, 1) := dk_5 (dk_at dksX5_pilotman_0 21 rfl rfl)
theorem dX5_pilotman_22 : decode cX5_pilotman 22 = .ok (.aload_n 0, 1) := dk_42 (dk_at dksX5_pilotman_0 22 rfl rfl)
theorem dX5_pilotman_23 : decode cX5_pilotman 23 = .ok (.aload_n 0, 1) := dk_42 (dk_at dksX5_pilotman_0 23 rfl rfl)
theorem dX5_pilotman_24 : decode cX5_pilotman 24 = .ok (.getfield 9, 3) := dk_180 0 9 (dk_at dksX5_pilotman_1 0 rfl rfl)
theorem dX5_pilotman_27 : decode cX5_pilotman 27 = .ok (.sipush 181, 3) := dk_17 0 181 (dk_at dksX5_pilotman_1 3 rfl rfl)
theorem dX5_pilotman_30 : decode cX5_pilotman 30 = .ok (.iaload, 1) := dk_46 (dk_at dksX5_pilotman_1 6 rfl rfl)
theorem dX5_pilotman_31 : decode cX5_pilotman 31 = .ok (.iconst 3, 1) := dk_6 (dk_at dksX5_pilotman_1 7 rfl rfl)
theorem dX5_pilotman_32 : decode cX5_pilotman 32 = .ok (.if_icmp .ne 7, 3) := dk_160 0 7 (dk_at dksX5_pilotman_1 8 rfl rfl)
theorem dX5_pilotman_35 : decode cX5_pilotman 35 = .ok (.iconst 1, 1) := dk_4 (dk_at dksX5_pilotman_1 11 rfl rfl)
theorem dX5_pilotman_36 : decode cX5_pilotman 36 = .ok (.goto 4, 3) := dk_167 0 4 (dk_at dksX5_pilotman_1 12 rfl rfl)
theorem dX5_pilotman_39 : decode cX5_pilotman 39 = .ok (.iconst 0, 1) := dk_3 (dk_at dksX5_pilotman_1 15 rfl rfl)
theorem dX5_pilotman_40 : decode cX5_pilotman 40 = .ok (.iconst 2, 1) := dk_5 (dk_at dksX5_pilotman_1 16 rfl rfl)
theorem dX5_pilotman_41 : decode cX5_pilotman 41 = .ok (.iconst 3, 1) := dk_6 (dk_at dksX5_pilotman_1 17 rfl rfl)
theorem dX5_pilotman_42 : decode cX5_pilotman 42 = .ok (.invokevirtual 110, 3) := dk_182 0 110 (dk_at dksX5_pilotman_1 18 rfl rfl)
theorem dX5_pilotman_45 : decode cX5_pilotman 45 = .ok (.invokevirtual 114, 3) := dk_182 0 114 (dk_at dksX5_pilotman_1 21 rfl rfl)
theorem dX5_pilotman_48 : decode cX5_pilotman 48 = .ok (.ifCond .eq 5, 3) := dk_153 0 5 (dk_at dksX5_pilotman_2 0 rfl rfl)
theorem dX5_pilotman_51 : decode cX5_pilotman 51 = .ok (.iconst 0, 1) := dk_3 (dk_at dksX5_pilotman_2 3 rfl rfl)
theorem dX5_pilotman_52 : decode cX5_pilotman 52 = .ok (.ireturn, 1) := dk_172 (dk_at dksX5_pilotman_2 4 rfl rfl)
theorem dX5_pilotman_53 : decode cX5_pilotman 53 = .ok (.aload_n 0, 1) := dk_42 (dk_at dksX5_pilotman_2 5 rfl rfl)
theorem dX5_pilotman_54 : decode cX5_pilotman 54 = .ok (.aload_n 0, 1) := dk_42 (dk_at dksX5_pilotman_2 6 rfl rfl)
theorem dX5_pilotman_55 : decode cX5_pilotman 55 = .ok (.getfield 9, 3) := dk_180 0 9 (dk_at dksX5_pilotman_2 7 rfl rfl)
theorem dX5_pilotman_58 : decode cX5_pilotman 58 = .ok (.invokevirtual 66, 3) := dk_182 0 66 (dk_at dksX5_pilotman_2 10 rfl rfl)
theorem dX5_pilotman_61 : decode cX5_pilotman 61 = .ok (.aload_n 0, 1) := dk_42 (dk_at dksX5_pilotman_2 13 rfl rfl)
theorem dX5_pilotman_62 : decode cX5_pilotman 62 = .ok (.getfield 9, 3) := dk_180 0 9 (dk_at dksX5_pilotman_2 14 rfl rfl)
theorem dX5_pilotman_65 : decode cX5_pilotman 65 = .ok (.sipush 181, 3) := dk_17 0 181 (dk_at dksX5_pilotman_2 17 rfl rfl)
theorem dX5_pilotman_68 : decode cX5_pilotman 68 = .ok (.iaload, 1) := dk_46 (dk_at dksX5_pilotman_2 20 rfl rfl)
theorem dX5_pilotman_69 : decode cX5_pilotman 69 = .ok (.istore_n 2, 1) := dk_61 (dk_at dksX5_pilotman_2 21 rfl rfl)
theorem dX5_pilotman_70 : decode cX5_pilotman 70 = .ok (.aload_n 0, 1) := dk_42 (dk_at dksX5_pilotman_2 22 rfl rfl)
theorem dX5_pilotman_71 : decode cX5_pilotman 71 = .ok (.getfield 9, 3) := dk_180 0 9 (dk_at dksX5_pilotman_3 0 rfl rfl)
theorem dX5_pilotman_74 : decode cX5_pilotman 74 = .ok (.iload_n 2, 1) := dk_28 (dk_at dksX5_pilotman_3 3 rfl rfl)
theorem dX5_pilotman_75 : decode cX5_pilotman 75 = .ok (.iconst 0, 1) := dk_3 (dk_at dksX5_pilotman_3 4 rfl rfl)
theorem dX5_pilotman_76 : decode cX5_pilotman 76 = .ok (.invokestatic 99, 3) := dk_184 0 99 (dk_at dksX5_pilotman_3 5 rfl rfl)
theorem dX5_pilotman_79 : decode cX5_pilotman 79 = .ok (.iload_n 1, 1) := dk_27 (dk_at dksX5_pilotman_3 8 rfl rfl)
theorem dX5_pilotman_80 : decode cX5_pilotman 80 = .ok (.iastore, 1) := dk_79 (dk_at dksX5_pilotman_3 9 rfl rfl)
theorem dX5_pilotman_81 : decode cX5_pilotman 81 = .ok (.aload_n 0, 1) := dk_42 (dk_at dksX5_pilotman_3 10 rfl rfl)
theorem dX5_pilotman_82 : decode cX5_pilotman 82 = .ok (.getfield 9, 3) := dk_180 0 9 (dk_at dksX5_pilotman_3 11 rfl rfl)
theorem dX5_pilotman_85 : decode cX5_pilotman 85 = .ok (.iload_n 2, 1) := dk_28 (dk_at dksX5_pilotman_3 14 rfl rfl)
theorem dX5_pilotman_86 : decode cX5_pilotman 86 = .ok (.iconst 1, 1) := dk_4 (dk_at dksX5_pilotman_3 15 rfl rfl)
theorem dX5_pilotman_87 : decode cX5_pilotman 87 = .ok (.invokestatic 99, 3) := dk_184 0 99 (dk_at dksX5_pilotman_3 16 rfl rfl)
theorem dX5_pilotman_90 : decode cX5_pilotman 90 = .ok (.iconst (-1), 1) := dk_2 (dk_at dksX5_pilotman_3 19 rfl rfl)
theorem dX5_pilotman_91 : decode cX5_pilotman 91 = .ok (.iastore, 1) := dk_79 (dk_at dksX5_pilotman_3 20 rfl rfl)
theorem dX5_pilotman_92 : decode cX5_pilotman 92 = .ok (.aload_n 0, 1) := dk_42 (dk_at dksX5_pilotman_3 21 rfl rfl)
theorem dX5_pilotman_93 : decode cX5_pilotman 93 = .ok (.getfield 9, 3) := dk_180 0 9 (dk_at dksX5_pilotman_4 0 rfl rfl)
theorem dX5_pilotman_96 : decode cX5_pilotman 96 = .ok (.sipush 181, 3) := dk_17 0 181 (dk_at dksX5_pilotman_4 3 rfl rfl)
theorem dX5_pilotman_99 : decode cX5_pilotman 99 = .ok (.dup2, 1) := dk_92 (dk_at dksX5_pilotman_4 6 rfl rfl)
theorem dX5_pilotman_100 : decode cX5_pilotman 100 = .ok (.iaload, 1) := dk_46 (dk_at dksX5_pilotman_4 7 rfl rfl)
theorem dX5_pilotman_101 : decode cX5_pilotman 101 = .ok (.iconst 1, 1) := dk_4 (dk_at dksX5_pilotman_4 8 rfl rfl)
theorem dX5_pilotman_102 : decode cX5_pilotman 102 = .ok (.iadd, 1) := dk_96 (dk_at dksX5_pilotman_4 9 rfl rfl)
theorem dX5_pilotman_103 : decode cX5_pilotman 103 = .ok (.iastore, 1) := dk_79 (dk_at dksX5_pilotman_4 10 rfl rfl)
theorem dX5_pilotman_104 : decode cX5_pilotman 104 = .ok (.iload_n 2, 1) := dk_28 (dk_at dksX5_pilotman_4 11 rfl rfl)
theorem dX5_pilotman_105 : decode cX5_pilotman 105 = .ok (.ireturn, 1) := dk_172 (dk_at dksX5_pilotman_4 12 rfl rfl)
abbrev cX5_walk : ByteArray := prog_20_method_65_code
def yX5_walk : MethodName := ⟨RX5, "walk", "(II)I"⟩
def dkwX5_walk_3 : List UInt8 := [42, 180, 0, 9, 27, 3, 184, 0, 99, 28, 79, 29, 172]
abbrev dktX5_walk_3 : List UInt8 := dkwX5_walk_3 ++ []
def dkwX5_walk_2 : List UInt8 := [153, 0, 5, 3, 172, 42, 42, 180, 0, 9, 182, 0, 66, 42, 180, 0, 9, 27, 3, 184, 0, 99, 46, 62]
abbrev dktX5_walk_2 : List UInt8 := dkwX5_walk_2 ++ dktX5_walk_3
def dkwX5_walk_1 : List UInt8 := [28, 182, 0, 110, 154, 0, 11, 42, 27, 182, 0, 214, 153, 0, 7, 4, 167, 0, 4, 3, 182, 0, 114]
abbrev dktX5_walk_1 : List UInt8 := dkwX5_walk_1 ++ dktX5_walk_2
def dkwX5_walk_0 : List UInt8 := [42, 4, 42, 27, 182, 0, 211, 154, 0, 32, 42, 28, 184, 0, 106, 154, 0, 7, 4, 167, 0, 4, 3, 4]
abbrev dktX5_walk_0 : List UInt8 := dkwX5_walk_0 ++ dktX5_walk_1
theorem dksX5_walk_0 : cX5_walk.data.toList.drop 0 = dktX5_walk_0 := by decide +kernel
theorem dksX5_walk_1 : cX5_walk.data.toList.drop 24 = dktX5_walk_1 := dk_seg dksX5_walk_0 24 rfl rfl
theorem dksX5_walk_2 : cX5_walk.data.toList.drop 47 = dktX5_walk_2 := dk_seg dksX5_walk_1 23 rfl rfl
theorem dksX5_walk_3 : cX5_walk.data.toList.drop 71 = dktX5_walk_3 := dk_seg dksX5_walk_2 24 rfl rfl
theorem dX5_walk_0 : decode cX5_walk 0 = .ok (.aload_n 0, 1) := dk_42 (dk_at dksX5_walk_0 0 rfl rfl)
theorem dX5_walk_1 : decode cX5_walk 1 = .ok (.iconst 1, 1) := dk_4 (dk_at dksX5_walk_0 1 rfl rfl)
theorem dX5_walk_2 : decode cX5_walk 2 = .ok (.aload_n 0, 1) := dk_42 (dk_at dksX5_walk_0 2 rfl rfl)
theorem dX5_walk_3 : decode cX5_walk 3 = .ok (.iload_n 1, 1) := dk_27 (dk_at dksX5_walk_0 3 rfl rfl)
theorem dX5_walk_4 : decode cX5_walk 4 = .ok (.invokevirtual 211, 3) := dk_182 0 211 (dk_at dksX5_walk_0 4 rfl rfl)
theorem dX5_walk_7 : decode cX5_walk 7 = .ok (.ifCond .ne 32, 3) := dk_154 0 32 (dk_at dksX5_walk_0 7 rfl rfl)
theorem dX5_walk_10 : decode cX5_walk 10 = .ok (.aload_n 0, 1) := dk_42 (dk_at dksX5_walk_0 10 rfl rfl)
theorem dX5_walk_11 : decode cX5_walk 11 = .ok (.iload_n 2, 1) := dk_28 (dk_at dksX5_walk_0 11 rfl rfl)
theorem dX5_walk_12 : decode cX5_walk 12 = .ok (.invokestatic 106, 3) := dk_184 0 106 (dk_at dksX5_walk_0 12 rfl rfl)
theorem dX5_walk_15 : decode cX5_walk 15 = .ok (.ifCond .ne 7, 3) := dk_154 0 7 (dk_at dksX5_walk_0 15 rfl rfl)
theorem dX5_walk_18 : decode cX5_walk 18 = .ok (.iconst 1, 1) := dk_4 (dk_at dksX5_walk_0 18 rfl rfl)
theorem dX5_walk_19 : decode cX5_walk 19 = .ok (.goto 4, 3) := dk_167 0 4 (dk_at dksX5_walk_0 19 rfl rfl)
theorem dX5_walk_22 : decode cX5_walk 22 = .ok (.iconst 0, 1) := dk_3 (dk_at dksX5_walk_0 22 rfl rfl)
theorem dX5_walk_23 : decode cX5_walk 23 = .ok (.iconst 1, 1) := dk_4 (dk_at dksX5_walk_0 23 rfl rfl)
theorem dX5_walk_24 : decode cX5_walk 24 = .ok (.iload_n 2, 1) := dk_28 (dk_at dksX5_walk_1 0 rfl rfl)
theorem dX5_walk_25 : decode cX5_walk 25 = .ok (.invokevirtual 110, 3) := dk_182 0 110 (dk_at dksX5_walk_1 1 rfl rfl)
theorem dX5_walk_28 : decode cX5_walk 28 = .ok (.ifCond .ne 11, 3) := dk_154 0 11 (dk_at dksX5_walk_1 4 rfl rfl)
theorem dX5_walk_31 : decode cX5_walk 31 = .ok (.aload_n 0, 1) := dk_42 (dk_at dksX5_walk_1 7 rfl rfl)
theorem dX5_walk_32 : decode cX5_walk 32 = .ok (.iload_n 1, 1) := dk_27 (dk_at dksX5_walk_1 8 rfl rfl)
theorem dX5_walk_33 : decode cX5_walk 33 = .ok (.invokevirtual 214, 3) := dk_182 0 214 (dk_at dksX5_walk_1 9 rfl rfl)
theorem dX5_walk_36 : decode cX5_walk 36 = .ok (.ifCond .eq 7, 3) := dk_153 0 7 (dk_at dksX5_walk_1 12 rfl rfl)
theorem dX5_walk_39 : decode cX5_walk 39 = .ok (.iconst 1, 1) := dk_4 (dk_at dksX5_walk_1 15 rfl rfl)
theorem dX5_walk_40 : decode cX5_walk 40 = .ok (.goto 4, 3) := dk_167 0 4 (dk_at dksX5_walk_1 16 rfl rfl)
theorem dX5_walk_43 : decode cX5_walk 43 = .ok (.iconst 0, 1) := dk_3 (dk_at dksX5_walk_1 19 rfl rfl)
theorem dX5_walk_44 : decode cX5_walk 44 = .ok (.invokevirtual 114, 3) := dk_182 0 114 (dk_at dksX5_walk_1 20 rfl rfl)
theorem dX5_walk_47 : decode cX5_walk 47 = .ok (.ifCond .eq 5, 3) := dk_153 0 5 (dk_at dksX5_walk_2 0 rfl rfl)
theorem dX5_walk_50 : decode cX5_walk 50 = .ok (.iconst 0, 1) := dk_3 (dk_at dksX5_walk_2 3 rfl rfl)
theorem dX5_walk_51 : decode cX5_walk 51 = .ok (.ireturn, 1) := dk_172 (dk_at dksX5_walk_2 4 rfl rfl)
theorem dX5_walk_52 : decode cX5_walk 52 = .ok (.aload_n 0, 1) := dk_42 (dk_at dksX5_walk_2 5 rfl rfl)
theorem dX5_walk_53 : decode cX5_walk 53 = .ok (.aload_n 0, 1) := dk_42 (dk_at dksX5_walk_2 6 rfl rfl)
theorem dX5_walk_54 : decode cX5_walk 54 = .ok (.getfield 9, 3) := dk_180 0 9 (dk_at dksX5_walk_2 7 rfl rfl)
theorem dX5_walk_57 : decode cX5_walk 57 = .ok (.invokevirtual 66, 3) := dk_182 0 66 (dk_at dksX5_walk_2 10 rfl rfl)
theorem dX5_walk_60 : decode cX5_walk 60 = .ok (.aload_n 0, 1) := dk_42 (dk_at dksX5_walk_2 13 rfl rfl)
theorem dX5_walk_61 : decode cX5_walk 61 = .ok (.getfield 9, 3) := dk_180 0 9 (dk_at dksX5_walk_2 14 rfl rfl)
theorem dX5_walk_64 : decode cX5_walk 64 = .ok (.iload_n 1, 1) := dk_27 (dk_at dksX5_walk_2 17 rfl rfl)
theorem dX5_walk_65 : decode cX5_walk 65 = .ok (.iconst 0, 1) := dk_3 (dk_at dksX5_walk_2 18 rfl rfl)
theorem dX5_walk_66 : decode cX5_walk 66 = .ok (.invokestatic 99, 3) := dk_184 0 99 (dk_at dksX5_walk_2 19 rfl rfl)
theorem dX5_walk_69 : decode cX5_walk 69 = .ok (.iaload, 1) := dk_46 (dk_at dksX5_walk_2 22 rfl rfl)
theorem dX5_walk_70 : decode cX5_walk 70 = .ok (.istore_n 3, 1) := dk_62 (dk_at dksX5_walk_2 23 rfl rfl)
theorem dX5_walk_71 : decode cX5_walk 71 = .ok (.aload_n 0, 1) := dk_42 (dk_at dksX5_walk_3 0 rfl rfl)
theorem dX5_walk_72 : decode cX5_walk 72 = .ok (.getfield 9, 3) := dk_180 0 9 (dk_at dksX5_walk_3 1 rfl rfl)
theorem dX5_walk_75 : decode cX5_walk 75 = .ok (.iload_n 1, 1) := dk_27 (dk_at dksX5_walk_3 4 rfl rfl)
theorem dX5_walk_76 : decode cX5_walk 76 = .ok (.iconst 0, 1) := dk_3 (dk_at dksX5_walk_3 5 rfl rfl)
theorem dX5_walk_77 : decode cX5_walk 77 = .ok (.invokestatic 99, 3) := dk_184 0 99 (dk_at dksX5_walk_3 6 rfl rfl)
theorem dX5_walk_80 : decode cX5_walk 80 = .ok (.iload_n 2, 1) := dk_28 (dk_at dksX5_walk_3 9 rfl rfl)
theorem dX5_walk_81 : decode cX5_walk 81 = .ok (.iastore, 1) := dk_79 (dk_at dksX5_walk_3 10 rfl rfl)
theorem dX5_walk_82 : decode cX5_walk 82 = .ok (.iload_n 3, 1) := dk_29 (dk_at dksX5_walk_3 11 rfl rfl)
theorem dX5_walk_83 : decode cX5_walk 83 = .ok (.ireturn, 1) := dk_172 (dk_at dksX5_walk_3 12 rfl rfl)
abbrev cX5_isNoMan : ByteArray := prog_20_method_63_code
def yX5_isNoMan : MethodName := ⟨RX5, "isNoMan", "(I)Z"⟩
def dkwX5_isNoMan_0 : List UInt8 := [42, 42, 27, 182, 0, 208, 154, 0, 7, 4, 167, 0, 4, 3, 4, 27, 182, 0, 110, 172]
abbrev dktX5_isNoMan_0 : List UInt8 := dkwX5_isNoMan_0 ++ []
theorem dksX5_isNoMan_0 : cX5_isNoMan.data.toList.drop 0 = dktX5_isNoMan_0 := by decide +kernel
theorem dX5_isNoMan_0 : decode cX5_isNoMan 0 = .ok (.aload_n 0, 1) := dk_42 (dk_at dksX5_isNoMan_0 0 rfl rfl)
theorem dX5_isNoMan_1 : decode cX5_isNoMan 1 = .ok (.aload_n 0, 1) := dk_42 (dk_at dksX5_isNoMan_0 1 rfl rfl)
theorem dX5_isNoMan_2 : decode cX5_isNoMan 2 = .ok (.iload_n 1, 1) := dk_27 (dk_at dksX5_isNoMan_0 2 rfl rfl)
theorem dX5_isNoMan_3 : decode cX5_isNoMan 3 = .ok (.invokevirtual 208, 3) := dk_182 0 208 (dk_at dksX5_isNoMan_0 3 rfl rfl)
theorem dX5_isNoMan_6 : decode cX5_isNoMan 6 = .ok (.ifCond .ne 7, 3) := dk_154 0 7 (dk_at dksX5_isNoMan_0 6 rfl rfl)
theorem dX5_isNoMan_9 : decode cX5_isNoMan 9 = .ok (.iconst 1, 1) := dk_4 (dk_at dksX5_isNoMan_0 9 rfl rfl)
theorem dX5_isNoMan_10 : decode cX5_isNoMan 10 = .ok (.goto 4, 3) := dk_167 0 4 (dk_at dksX5_isNoMan_0 10 rfl rfl)
theorem dX5_isNoMan_13 : decode cX5_isNoMan 13 = .ok (.iconst 0, 1) := dk_3 (dk_at dksX5_isNoMan_0 13 rfl rfl)
theorem dX5_isNoMan_14 : decode cX5_isNoMan 14 = .ok (.iconst 1, 1) := dk_4 (dk_at dksX5_isNoMan_0 14 rfl rfl)
theorem dX5_isNoMan_15 : decode cX5_isNoMan 15 = .ok (.iload_n 1, 1) := dk_27 (dk_at dksX5_isNoMan_0 15 rfl rfl)
theorem dX5_isNoMan_16 : decode cX5_isNoMan 16 = .ok (.invokevirtual 110, 3) := dk_182 0 110 (dk_at dksX5_isNoMan_0 16 rfl rfl)
theorem dX5_isNoMan_19 : decode cX5_isNoMan 19 = .ok (.ireturn, 1) := dk_172 (dk_at dksX5_isNoMan_0 19 rfl rfl)
abbrev cX5_isMan : ByteArray := prog_20_method_19_code
def yX5_isMan : MethodName := ⟨RX5, "isMan", "(I)Z"⟩
def dkwX5_isMan_0 : List UInt8 := [27, 3, 42, 180, 0, 9, 17, 0, 181, 46, 4, 100, 184, 0, 88, 172]
abbrev dktX5_isMan_0 : List UInt8 := dkwX5_isMan_0 ++ []
theorem dksX5_isMan_0 : cX5_isMan.data.toList.drop 0 = dktX5_isMan_0 := by decide +kernel
theorem dX5_isMan_0 : decode cX5_isMan 0 = .ok (.iload_n 1, 1) := dk_27 (dk_at dksX5_isMan_0 0 rfl rfl)
theorem dX5_isMan_1 : decode cX5_isMan 1 = .ok (.iconst 0, 1) := dk_3 (dk_at dksX5_isMan_0 1 rfl rfl)
theorem dX5_isMan_2 : decode cX5_isMan 2 = .ok (.aload_n 0, 1) := dk_42 (dk_at dksX5_isMan_0 2 rfl rfl)
theorem dX5_isMan_3 : decode cX5_isMan 3 = .ok (.getfield 9, 3) := dk_180 0 9 (dk_at dksX5_isMan_0 3 rfl rfl)
theorem dX5_isMan_6 : decode cX5_isMan 6 = .ok (.sipush 181, 3) := dk_17 0 181 (dk_at dksX5_isMan_0 6 rfl rfl)
theorem dX5_isMan_9 : decode cX5_isMan 9 = .ok (.iaload, 1) := dk_46 (dk_at dksX5_isMan_0 9 rfl rfl)
theorem dX5_isMan_10 : decode cX5_isMan 10 = .ok (.iconst 1, 1) := dk_4 (dk_at dksX5_isMan_0 10 rfl rfl)
theorem dX5_isMan_11 : decode cX5_isMan 11 = .ok (.isub, 1) := dk_100 (dk_at dksX5_isMan_0 11 rfl rfl)
theorem dX5_isMan_12 : decode cX5_isMan 12 = .ok (.invokestatic 88, 3) := dk_184 0 88 (dk_at dksX5_isMan_0 12 rfl rfl)
theorem dX5_isMan_15 : decode cX5_isMan 15 = .ok (.ireturn, 1) := dk_172 (dk_at dksX5_isMan_0 15 rfl rfl)
abbrev cX5_isTaken : ByteArray := prog_20_method_64_code
def yX5_isTaken : MethodName := ⟨RX5, "isTaken", "(I)Z"⟩
def dkwX5_isTaken_1 : List UInt8 := [180, 0, 9, 27, 4, 184, 0, 99, 46, 182, 0, 110, 172]
abbrev dktX5_isTaken_1 : List UInt8 := dkwX5_isTaken_1 ++ []
def dkwX5_isTaken_0 : List UInt8 := [42, 42, 180, 0, 9, 27, 4, 184, 0, 99, 46, 155, 0, 7, 4, 167, 0, 4, 3, 16, 12, 42]
abbrev dktX5_isTaken_0 : List UInt8 := dkwX5_isTaken_0 ++ dktX5_isTaken_1
theorem dksX5_isTaken_0 : cX5_isTaken.data.toList.drop 0 = dktX5_isTaken_0 := by decide +kernel
theorem dksX5_isTaken_1 : cX5_isTaken.data.toList.drop 22 = dktX5_isTaken_1 := dk_seg dksX5_isTaken_0 22 rfl rfl
theorem dX5_isTaken_0 : decode cX5_isTaken 0 = .ok (.aload_n 0, 1) := dk_42 (dk_at dksX5_isTaken_0 0 rfl rfl)
theorem dX5_isTaken_1 : decode cX5_isTaken 1 = .ok (.aload_n 0, 1) := dk_42 (dk_at dksX5_isTaken_0 1 rfl rfl)
theorem dX5_isTaken_2 : decode cX5_isTaken 2 = .ok (.getfield 9, 3) := dk_180 0 9 (dk_at dksX5_isTaken_0 2 rfl rfl)
theorem dX5_isTaken_5 : decode cX5_isTaken 5 = .ok (.iload_n 1, 1) := dk_27 (dk_at dksX5_isTaken_0 5 rfl rfl)
theorem dX5_isTaken_6 : decode cX5_isTaken 6 = .ok (.iconst 1, 1) := dk_4 (dk_at dksX5_isTaken_0 6 rfl rfl)
theorem dX5_isTaken_7 : decode cX5_isTaken 7 = .ok (.invokestatic 99, 3) := dk_184 0 99 (dk_at dksX5_isTaken_0 7 rfl rfl)
theorem dX5_isTaken_10 : decode cX5_isTaken 10 = .ok (.iaload, 1) := dk_46 (dk_at dksX5_isTaken_0 10 rfl rfl)
theorem dX5_isTaken_11 : decode cX5_isTaken 11 = .ok (.ifCond .lt 7, 3) := dk_155 0 7 (dk_at dksX5_isTaken_0 11 rfl rfl)
theorem dX5_isTaken_14 : decode cX5_isTaken 14 = .ok (.iconst 1, 1) := dk_4 (dk_at dksX5_isTaken_0 14 rfl rfl)
theorem dX5_isTaken_15 : decode cX5_isTaken 15 = .ok (.goto 4, 3) := dk_167 0 4 (dk_at dksX5_isTaken_0 15 rfl rfl)
theorem dX5_isTaken_18 : decode cX5_isTaken 18 = .ok (.iconst 0, 1) := dk_3 (dk_at dksX5_isTaken_0 18 rfl rfl)
theorem dX5_isTaken_19 : decode cX5_isTaken 19 = .ok (.bipush 12, 2) := dk_16 12 (dk_at dksX5_isTaken_0 19 rfl rfl)
theorem dX5_isTaken_21 : decode cX5_isTaken 21 = .ok (.aload_n 0, 1) := dk_42 (dk_at dksX5_isTaken_0 21 rfl rfl)
theorem dX5_isTaken_22 : decode cX5_isTaken 22 = .ok (.getfield 9, 3) := dk_180 0 9 (dk_at dksX5_isTaken_1 0 rfl rfl)
theorem dX5_isTaken_25 : decode cX5_isTaken 25 = .ok (.iload_n 1, 1) := dk_27 (dk_at dksX5_isTaken_1 3 rfl rfl)
theorem dX5_isTaken_26 : decode cX5_isTaken 26 = .ok (.iconst 1, 1) := dk_4 (dk_at dksX5_isTaken_1 4 rfl rfl)
theorem dX5_isTaken_27 : decode cX5_isTaken 27 = .ok (.invokestatic 99, 3) := dk_184 0 99 (dk_at dksX5_isTaken_1 5 rfl rfl)
theorem dX5_isTaken_30 : decode cX5_isTaken 30 = .ok (.iaload, 1) := dk_46 (dk_at dksX5_isTaken_1 8 rfl rfl)
theorem dX5_isTaken_31 : decode cX5_isTaken 31 = .ok (.invokevirtual 110, 3) := dk_182 0 110 (dk_at dksX5_isTaken_1 9 rfl rfl)
theorem dX5_isTaken_34 : decode cX5_isTaken 34 = .ok (.ireturn, 1) := dk_172 (dk_at dksX5_isTaken_1 12 rfl rfl)
abbrev cX5_appoint : ByteArray := prog_20_method_67_code
def yX5_appoint : MethodName := ⟨RX5, "appoint", "(II)I"⟩
def dkwX5_appoint_2 : List UInt8 := [172]
abbrev dktX5_appoint_2 : List UInt8 := dkwX5_appoint_2 ++ []
def dkwX5_appoint_1 : List UInt8 := [27, 4, 184, 0, 99, 28, 79, 42, 28, 7, 27, 182, 0, 199, 42, 180, 0, 9, 27, 3, 184, 0, 99, 46]
abbrev dktX5_appoint_1 : List UInt8 := dkwX5_appoint_1 ++ dktX5_appoint_2
def dkwX5_appoint_0 : List UInt8 := [42, 4, 42, 27, 28, 182, 0, 217, 182, 0, 114, 153, 0, 5, 3, 172, 42, 182, 0, 166, 42, 180, 0, 9]
abbrev dktX5_appoint_0 : List UInt8 := dkwX5_appoint_0 ++ dktX5_appoint_1
theorem dksX5_appoint_0 : cX5_appoint.data.toList.drop 0 = dktX5_appoint_0 := by decide +kernel
theorem dksX5_appoint_1 : cX5_appoint.data.toList.drop 24 = dktX5_appoint_1 := dk_seg dksX5_appoint_0 24 rfl rfl
theorem dksX5_appoint_2 : cX5_appoint.data.toList.drop 48 = dktX5_appoint_2 := dk_seg dksX5_appoint_1 24 rfl rfl
theorem dX5_appoint_0 : decode cX5_appoint 0 = .ok (.aload_n 0, 1) := dk_42 (dk_at dksX5_appoint_0 0 rfl rfl)
theorem dX5_appoint_1 : decode cX5_appoint 1 = .ok (.iconst 1, 1) := dk_4 (dk_at dksX5_appoint_0 1 rfl rfl)
theorem dX5_appoint_2 : decode cX5_appoint 2 = .ok (.aload_n 0, 1) := dk_42 (dk_at dksX5_appoint_0 2 rfl rfl)
theorem dX5_appoint_3 : decode cX5_appoint 3 = .ok (.iload_n 1, 1) := dk_27 (dk_at dksX5_appoint_0 3 rfl rfl)
theorem dX5_appoint_4 : decode cX5_appoint 4 = .ok (.iload_n 2, 1) := dk_28 (dk_at dksX5_appoint_0 4 rfl rfl)
theorem dX5_appoint_5 : decode cX5_appoint 5 = .ok (.invokevirtual 217, 3) := dk_182 0 217 (dk_at dksX5_appoint_0 5 rfl rfl)
theorem dX5_appoint_8 : decode cX5_appoint 8 = .ok (.invokevirtual 114, 3) := dk_182 0 114 (dk_at dksX5_appoint_0 8 rfl rfl)
theorem dX5_appoint_11 : decode cX5_appoint 11 = .ok (.ifCond .eq 5, 3) := dk_153 0 5 (dk_at dksX5_appoint_0 11 rfl rfl)
theorem dX5_appoint_14 : decode cX5_appoint 14 = .ok (.iconst 0, 1) := dk_3 (dk_at dksX5_appoint_0 14 rfl rfl)
theorem dX5_appoint_15 : decode cX5_appoint 15 = .ok (.ireturn, 1) := dk_172 (dk_at dksX5_appoint_0 15 rfl rfl)
theorem dX5_appoint_16 : decode cX5_appoint 16 = .ok (.aload_n 0, 1) := dk_42 (dk_at dksX5_appoint_0 16 rfl rfl)
theorem dX5_appoint_17 : decode cX5_appoint 17 = .ok (.invokevirtual 166, 3) := dk_182 0 166 (dk_at dksX5_appoint_0 17 rfl rfl)
theorem dX5_appoint_20 : decode cX5_appoint 20 = .ok (.aload_n 0, 1) := dk_42 (dk_at dksX5_appoint_0 20 rfl rfl)
theorem dX5_appoint_21 : decode cX5_appoint 21 = .ok (.getfield 9, 3) := dk_180 0 9 (dk_at dksX5_appoint_0 21 rfl rfl)
theorem dX5_appoint_24 : decode cX5_appoint 24 = .ok (.iload_n 1, 1) := dk_27 (dk_at dksX5_appoint_1 0 rfl rfl)
theorem dX5_appoint_25 : decode cX5_appoint 25 = .ok (.iconst 1, 1) := dk_4 (dk_at dksX5_appoint_1 1 rfl rfl)
theorem dX5_appoint_26 : decode cX5_appoint 26 = .ok (.invokestatic 99, 3) := dk_184 0 99 (dk_at dksX5_appoint_1 2 rfl rfl)
theorem dX5_appoint_29 : decode cX5_appoint 29 = .ok (.iload_n 2, 1) := dk_28 (dk_at dksX5_appoint_1 5 rfl rfl)
theorem dX5_appoint_30 : decode cX5_appoint 30 = .ok (.iastore, 1) := dk_79 (dk_at dksX5_appoint_1 6 rfl rfl)
theorem dX5_appoint_31 : decode cX5_appoint 31 = .ok (.aload_n 0, 1) := dk_42 (dk_at dksX5_appoint_1 7 rfl rfl)
theorem dX5_appoint_32 : decode cX5_appoint 32 = .ok (.iload_n 2, 1) := dk_28 (dk_at dksX5_appoint_1 8 rfl rfl)
theorem dX5_appoint_33 : decode cX5_appoint 33 = .ok (.iconst 4, 1) := dk_7 (dk_at dksX5_appoint_1 9 rfl rfl)
theorem dX5_appoint_34 : decode cX5_appoint 34 = .ok (.iload_n 1, 1) := dk_27 (dk_at dksX5_appoint_1 10 rfl rfl)
theorem dX5_appoint_35 : decode cX5_appoint 35 = .ok (.invokevirtual 199, 3) := dk_182 0 199 (dk_at dksX5_appoint_1 11 rfl rfl)
theorem dX5_appoint_38 : decode cX5_appoint 38 = .ok (.aload_n 0, 1) := dk_42 (dk_at dksX5_appoint_1 14 rfl rfl)
theorem dX5_appoint_39 : decode cX5_appoint 39 = .ok (.getfield 9, 3) := dk_180 0 9 (dk_at dksX5_appoint_1 15 rfl rfl)
theorem dX5_appoint_42 : decode cX5_appoint 42 = .ok (.iload_n 1, 1) := dk_27 (dk_at dksX5_appoint_1 18 rfl rfl)
theorem dX5_appoint_43 : decode cX5_appoint 43 = .ok (.iconst 0, 1) := dk_3 (dk_at dksX5_appoint_1 19 rfl rfl)
theorem dX5_appoint_44 : decode cX5_appoint 44 = .ok (.invokestatic 99, 3) := dk_184 0 99 (dk_at dksX5_appoint_1 20 rfl rfl)
theorem dX5_appoint_47 : decode cX5_appoint 47 = .ok (.iaload, 1) := dk_46 (dk_at dksX5_appoint_1 23 rfl rfl)
theorem dX5_appoint_48 : decode cX5_appoint 48 = .ok (.ireturn, 1) := dk_172 (dk_at dksX5_appoint_2 0 rfl rfl)
abbrev cX5_isAppointRefused : ByteArray := prog_20_method_66_code
def yX5_isAppointRefused : MethodName := ⟨RX5, "isAppointRefused", "(II)Z"⟩
def dkwX5_isAppointRefused_6 : List UInt8 := [167, 0, 4, 3, 172]
abbrev dktX5_isAppointRefused_6 : List UInt8 := dkwX5_isAppointRefused_6 ++ []
def dkwX5_isAppointRefused_5 : List UInt8 := [4, 167, 0, 4, 3, 16, 14, 42, 180, 0, 9, 27, 3, 184, 0, 99, 46, 182, 0, 110, 153, 0, 7, 4]
abbrev dktX5_isAppointRefused_5 : List UInt8 := dkwX5_isAppointRefused_5 ++ dktX5_isAppointRefused_6
def dkwX5_isAppointRefused_4 : List UInt8 := [182, 0, 110, 154, 0, 44, 42, 28, 42, 180, 0, 9, 27, 3, 184, 0, 99, 46, 184, 0, 205, 154, 0, 7]
abbrev dktX5_isAppointRefused_4 : List UInt8 := dkwX5_isAppointRefused_4 ++ dktX5_isAppointRefused_5
def dkwX5_isAppointRefused_3 : List UInt8 := [153, 0, 5, 4, 172, 42, 28, 182, 0, 135, 62, 42, 29, 155, 0, 7, 4, 167, 0, 4, 3, 16, 13, 29]
abbrev dktX5_isAppointRefused_3 : List UInt8 := dkwX5_isAppointRefused_3 ++ dktX5_isAppointRefused_4
def dkwX5_isAppointRefused_2 : List UInt8 := [3, 16, 11, 28, 182, 0, 110, 154, 0, 19, 42, 28, 182, 0, 126, 154, 0, 11, 42, 27, 182, 0, 214]
abbrev dktX5_isAppointRefused_2 : List UInt8 := dkwX5_isAppointRefused_2 ++ dktX5_isAppointRefused_3
def dkwX5_isAppointRefused_1 : List UInt8 := [182, 0, 110, 154, 0, 47, 42, 42, 180, 0, 9, 28, 8, 184, 0, 117, 46, 154, 0, 7, 4, 167, 0, 4]
abbrev dktX5_isAppointRefused_1 : List UInt8 := dkwX5_isAppointRefused_1 ++ dktX5_isAppointRefused_2
def dkwX5_isAppointRefused_0 : List UInt8 := [42, 27, 182, 0, 211, 154, 0, 68, 42, 28, 184, 0, 123, 154, 0, 7, 4, 167, 0, 4, 3, 4, 28]
abbrev dktX5_isAppointRefused_0 : List UInt8 := dkwX5_isAppointRefused_0 ++ dktX5_isAppointRefused_1
theorem dksX5_isAppointRefused_0 : cX5_isAppointRefused.data.toList.drop 0 = dktX5_isAppointRefused_0 := by decide +kernel
theorem dksX5_isAppointRefused_1 : cX5_isAppointRefused.data.toList.drop 23 = dktX5_isAppointRefused_1 := dk_seg dksX5_isAppointRefused_0 23 rfl rfl
theorem dksX5_isAppointRefused_2 : cX5_isAppointRefused.data.toList.drop 47 = dktX5_isAppointRefused_2 := dk_seg dksX5_isAppointRefused_1 24 rfl rfl
theorem dksX5_isAppointRefused_3 : cX5_isAppointRefused.data.toList.drop 70 = dktX5_isAppointRefused_3 := dk_seg dksX5_isAppointRefused_2 23 rfl rfl
theorem dksX5_isAppointRefused_4 : cX5_isAppointRefused.data.toList.drop 94 = dktX5_isAppointRefused_4 := dk_seg dksX5_isAppointRefused_3 24 rfl rfl
theorem dksX5_isAppointRefused_5 : cX5_isAppointRefused.data.toList.drop 118 = dktX5_isAppointRefused_5 := dk_seg dksX5_isAppointRefused_4 24 rfl rfl
theorem dksX5_isAppointRefused_6 : cX5_isAppointRefused.data.toList.drop 142 = dktX5_isAppointRefused_6 := dk_seg dksX5_isAppointRefused_5 24 rfl rfl
theorem dX5_isAppointRefused_0 : decode cX5_isAppointRefused 0 = .ok (.aload_n 0, 1) := dk_42 (dk_at dksX5_isAppointRefused_0 0 rfl rfl)
theorem dX5_isAppointRefused_1 : decode cX5_isAppointRefused 1 = .ok (.iload_n 1, 1) := dk_27 (dk_at dksX5_isAppointRefused_0 1 rfl rfl)
theorem dX5_isAppointRefused_2 : decode cX5_isAppointRefused 2 = .ok (.invokevirtual 211, 3) := dk_182 0 211 (dk_at dksX5_isAppointRefused_0 2 rfl rfl)
theorem dX5_isAppointRefused_5 : decode cX5_isAppointRefused 5 = .ok (.ifCond .ne 68, 3) := dk_154 0 68 (dk_at dksX5_isAppointRefused_0 5 rfl rfl)
theorem dX5_isAppointRefused_8 : decode cX5_isAppointRefused 8 = .ok (.aload_n 0, 1) := dk_42 (dk_at dksX5_isAppointRefused_0 8 rfl rfl)
theorem dX5_isAppointRefused_9 : decode cX5_isAppointRefused 9 = .ok (.iload_n 2, 1) := dk_28 (dk_at dksX5_isAppointRefused_0 9 rfl rfl)
theorem dX5_isAppointRefused_10 : decode cX5_isAppointRefused 10 = .ok (.invokestatic 123, 3) := dk_184 0 123 (dk_at dksX5_isAppointRefused_0 10 rfl rfl)
theorem dX5_isAppointRefused_13 : decode cX5_isAppointRefused 13 = .ok (.ifCond .ne 7, 3) := dk_154 0 7 (dk_at dksX5_isAppointRefused_0 13 rfl rfl)
theorem dX5_isAppointRefused_16 : decode cX5_isAppointRefused 16 = .ok (.iconst 1, 1) := dk_4 (dk_at dksX5_isAppointRefused_0 16 rfl rfl)
theorem dX5_isAppointRefused_17 : decode cX5_isAppointRefused 17 = .ok (.goto 4, 3) := dk_167 0 4 (dk_at dksX5_isAppointRefused_0 17 rfl rfl)
theorem dX5_isAppointRefused_20 : decode cX5_isAppointRefused 20 = .ok (.iconst 0, 1) := dk_3 (dk_at dksX5_isAppointRefused_0 20 rfl rfl)
theorem dX5_isAppointRefused_21 : decode cX5_isAppointRefused 21 = .ok (.iconst 1, 1) := dk_4 (dk_at dksX5_isAppointRefused_0 21 rfl rfl)
theorem dX5_isAppointRefused_22 : decode cX5_isAppointRefused 22 = .ok (.iload_n 2, 1) := dk_28 (dk_at dksX5_isAppointRefused_0 22 rfl rfl)
theorem dX5_isAppointRefused_23 : decode cX5_isAppointRefused 23 = .ok (.invokevirtual 110, 3) := dk_182 0 110 (dk_at dksX5_isAppointRefused_1 0 rfl rfl)
theorem dX5_isAppointRefused_26 : decode cX5_isAppointRefused 26 = .ok (.ifCond .ne 47, 3) := dk_154 0 47 (dk_at dksX5_isAppointRefused_1 3 rfl rfl)
theorem dX5_isAppointRefused_29 : decode cX5_isAppointRefused 29 = .ok (.aload_n 0, 1) := dk_42 (dk_at dksX5_isAppointRefused_1 6 rfl rfl)
theorem dX5_isAppointRefused_30 : decode cX5_isAppointRefused 30 = .ok (.aload_n 0, 1) := dk_42 (dk_at dksX5_isAppointRefused_1 7 rfl rfl)
theorem dX5_isAppointRefused_31 : decode cX5_isAppointRefused 31 = .ok (.getfield 9, 3) := dk_180 0 9 (dk_at dksX5_isAppointRefused_1 8 rfl rfl)
theorem dX5_isAppointRefused_34 : decode cX5_isAppointRefused 34 = .ok (.iload_n 2, 1) := dk_28 (dk_at dksX5_isAppointRefused_1 11 rfl rfl)
theorem dX5_isAppointRefused_35 : decode cX5_isAppointRefused 35 = .ok (.iconst 5, 1) := dk_8 (dk_at dksX5_isAppointRefused_1 12 rfl rfl)
theorem dX5_isAppointRefused_36 : decode cX5_isAppointRefused 36 = .ok (.invokestatic 117, 3) := dk_184 0 117 (dk_at dksX5_isAppointRefused_1 13 rfl rfl)
theorem dX5_isAppointRefused_39 : decode cX5_isAppointRefused 39 = .ok (.iaload, 1) := dk_46 (dk_at dksX5_isAppointRefused_1 16 rfl rfl)
theorem dX5_isAppointRefused_40 : decode cX5_isAppointRefused 40 = .ok (.ifCond .ne 7, 3) := dk_154 0 7 (dk_at dksX5_isAppointRefused_1 17 rfl rfl)
theorem dX5_isAppointRefused_43 : decode cX5_isAppointRefused 43 = .ok (.iconst 1, 1) := dk_4 (dk_at dksX5_isAppointRefused_1 20 rfl rfl)
theorem dX5_isAppointRefused_44 : decode cX5_isAppointRefused 44 = .ok (.goto 4, 3) := dk_167 0 4 (dk_at dksX5_isAppointRefused_1 21 rfl rfl)
theorem dX5_isAppointRefused_47 : decode cX5_isAppointRefused 47 = .ok (.iconst 0, 1) := dk_3 (dk_at dksX5_isAppointRefused_2 0 rfl rfl)
theorem dX5_isAppointRefused_48 : decode cX5_isAppointRefused 48 = .ok (.bipush 11, 2) := dk_16 11 (dk_at dksX5_isAppointRefused_2 1 rfl rfl)
theorem dX5_isAppointRefused_50 : decode cX5_isAppointRefused 50 = .ok (.iload_n 2, 1) := dk_28 (dk_at dksX5_isAppointRefused_2 3 rfl rfl)
theorem dX5_isAppointRefused_51 : decode cX5_isAppointRefused 51 = .ok (.invokevirtual 110, 3) := dk_182 0 110 (dk_at dksX5_isAppointRefused_2 4 rfl rfl)
theorem dX5_isAppointRefused_54 : decode cX5_isAppointRefused 54 = .ok (.ifCond .ne 19, 3) := dk_154 0 19 (dk_at dksX5_isAppointRefused_2 7 rfl rfl)
theorem dX5_isAppointRefused_57 : decode cX5_isAppointRefused 57 = .ok (.aload_n 0, 1) := dk_42 (dk_at dksX5_isAppointRefused_2 10 rfl rfl)
theorem dX5_isAppointRefused_58 : decode cX5_isAppointRefused 58 = .ok (.iload_n 2, 1) := dk_28 (dk_at dksX5_isAppointRefused_2 11 rfl rfl)
theorem dX5_isAppointRefused_59 : decode cX5_isAppointRefused 59 = .ok (.invokevirtual 126, 3) := dk_182 0 126 (dk_at dksX5_isAppointRefused_2 12 rfl rfl)
theorem dX5_isAppointRefused_62 : decode cX5_isAppointRefused 62 = .ok (.ifCond .ne 11, 3) := dk_154 0 11 (dk_at dksX5_isAppointRefused_2 15 rfl rfl)
theorem dX5_isAppointRefused_65 : decode cX5_isAppointRefused 65 = .ok (.aload_n 0, 1) := dk_42 (dk_at dksX5_isAppointRefused_2 18 rfl rfl)
theorem dX5_isAppointRefused_66 : decode cX5_isAppointRefused 66 = .ok (.iload_n 1, 1) := dk_27 (dk_at dksX5_isAppointRefused_2 19 rfl rfl)
theorem dX5_isAppointRefused_67 : decode cX5_isAppointRefused 67 = .ok (.invokevirtual 214, 3) := dk_182 0 214 (dk_at dksX5_isAppointRefused_2 20 rfl rfl)
theorem dX5_isAppointRefused_70 : decode cX5_isAppointRefused 70 = .ok (.ifCond .eq 5, 3) := dk_153 0 5 (dk_at dksX5_isAppointRefused_3 0 rfl rfl)
theorem dX5_isAppointRefused_73 : decode cX5_isAppointRefused 73 = .ok (.iconst 1, 1) := dk_4 (dk_at dksX5_isAppointRefused_3 3 rfl rfl)
theorem dX5_isAppointRefused_74 : decode cX5_isAppointRefused 74 = .ok (.ireturn, 1) := dk_172 (dk_at dksX5_isAppointRefused_3 4 rfl rfl)
theorem dX5_isAppointRefused_75 : decode cX5_isAppointRefused 75 = .ok (.aload_n 0, 1) := dk_42 (dk_at dksX5_isAppointRefused_3 5 rfl rfl)
theorem dX5_isAppointRefused_76 : decode cX5_isAppointRefused 76 = .ok (.iload_n 2, 1) := dk_28 (dk_at dksX5_isAppointRefused_3 6 rfl rfl)
theorem dX5_isAppointRefused_77 : decode cX5_isAppointRefused 77 = .ok (.invokevirtual 135, 3) := dk_182 0 135 (dk_at dksX5_isAppointRefused_3 7 rfl rfl)
theorem dX5_isAppointRefused_80 : decode cX5_isAppointRefused 80 = .ok (.istore_n 3, 1) := dk_62 (dk_at dksX5_isAppointRefused_3 10 rfl rfl)
theorem dX5_isAppointRefused_81 : decode cX5_isAppointRefused 81 = .ok (.aload_n 0, 1) := dk_42 (dk_at dksX5_isAppointRefused_3 11 rfl rfl)
theorem dX5_isAppointRefused_82 : decode cX5_isAppointRefused 82 = .ok (.iload_n 3, 1) := dk_29 (dk_at dksX5_isAppointRefused_3 12 rfl rfl)
theorem dX5_isAppointRefused_83 : decode cX5_isAppointRefused 83 = .ok (.ifCond .lt 7, 3) := dk_155 0 7 (dk_at dksX5_isAppointRefused_3 13 rfl rfl)
theorem dX5_isAppointRefused_86 : decode cX5_isAppointRefused 86 = .ok (.iconst 1, 1) := dk_4 (dk_at dksX5_isAppointRefused_3 16 rfl rfl)
theorem dX5_isAppointRefused_87 : decode cX5_isAppointRefused 87 = .ok (.goto 4, 3) := dk_167 0 4 (dk_at dksX5_isAppointRefused_3 17 rfl rfl)
theorem dX5_isAppointRefused_90 : decode cX5_isAppointRefused 90 = .ok (.iconst 0, 1) := dk_3 (dk_at dksX5_isAppointRefused_3 20 rfl rfl)
theorem dX5_isAppointRefused_91 : decode cX5_isAppointRefused 91 = .ok (.bipush 13, 2) := dk_16 13 (dk_at dksX5_isAppointRefused_3 21 rfl rfl)
theorem dX5_isAppointRefused_93 : decode cX5_isAppointRefused 93 = .ok (.iload_n 3, 1) := dk_29 (dk_at dksX5_isAppointRefused_3 23 rfl rfl)
theorem dX5_isAppointRefused_94 : decode cX5_isAppointRefused 94 = .ok (.invokevirtual 110, 3) := dk_182 0 110 (dk_at dksX5_isAppointRefused_4 0 rfl rfl)
theorem dX5_isAppointRefused_97 : decode cX5_isAppointRefused 97 = .ok (.ifCond .ne 44, 3) := dk_154 0 44 (dk_at dksX5_isAppointRefused_4 3 rfl rfl)
theorem dX5_isAppointRefused_100 : decode cX5_isAppointRefused 100 = .ok (.aload_n 0, 1) := dk_42 (dk_at dksX5_isAppointRefused_4 6 rfl rfl)
theorem dX5_isAppointRefused_101 : decode cX5_isAppointRefused 101 = .ok (.iload_n 2, 1) := dk_28 (dk_at dksX5_isAppointRefused_4 7 rfl rfl)
theorem dX5_isAppointRefused_102 : decode cX5_isAppointRefused 102 = .ok (.aload_n 0, 1) := dk_42 (dk_at dksX5_isAppointRefused_4 8 rfl rfl)
theorem dX5_isAppointRefused_103 : decode cX5_isAppointRefused 103 = .ok (.getfield 9, 3) := dk_180 0 9 (dk_at dksX5_isAppointRefused_4 9 rfl rfl)
theorem dX5_isAppointRefused_106 : decode cX5_isAppointRefused 106 = .ok (.iload_n 1, 1) := dk_27 (dk_at dksX5_isAppointRefused_4 12 rfl rfl)
theorem dX5_isAppointRefused_107 : decode cX5_isAppointRefused 107 = .ok (.iconst 0, 1) := dk_3 (dk_at dksX5_isAppointRefused_4 13 rfl rfl)
theorem dX5_isAppointRefused_108 : decode cX5_isAppointRefused 108 = .ok (.invokestatic 99, 3) := dk_184 0 99 (dk_at dksX5_isAppointRefused_4 14 rfl rfl)
theorem dX5_isAppointRefused_111 : decode cX5_isAppointRefused 111 = .ok (.iaload, 1) := dk_46 (dk_at dksX5_isAppointRefused_4 17 rfl rfl)
theorem dX5_isAppointRefused_112 : decode cX5_isAppointRefused 112 = .ok (.invokestatic 205, 3) := dk_184 0 205 (dk_at dksX5_isAppointRefused_4 18 rfl rfl)
theorem dX5_isAppointRefused_115 : decode cX5_isAppointRefused 115 = .ok (.ifCond .ne 7, 3) := dk_154 0 7 (dk_at dksX5_isAppointRefused_4 21 rfl rfl)
theorem dX5_isAppointRefused_118 : decode cX5_isAppointRefused 118 = .ok (.iconst 1, 1) := dk_4 (dk_at dksX5_isAppointRefused_5 0 rfl rfl)
theorem dX5_isAppointRefused_119 : decode cX5_isAppointRefused 119 = .ok (.goto 4, 3) := dk_167 0 4 (dk_at dksX5_isAppointRefused_5 1 rfl rfl)
theorem dX5_isAppointRefused_122 : decode cX5_isAppointRefused 122 = .ok (.iconst 0, 1) := dk_3 (dk_at dksX5_isAppointRefused_5 4 rfl rfl)
theorem dX5_isAppointRefused_123 : decode cX5_isAppointRefused 123 = .ok (.bipush 14, 2) := dk_16 14 (dk_at dksX5_isAppointRefused_5 5 rfl rfl)
theorem dX5_isAppointRefused_125 : decode cX5_isAppointRefused 125 = .ok (.aload_n 0, 1) := dk_42 (dk_at dksX5_isAppointRefused_5 7 rfl rfl)
theorem dX5_isAppointRefused_126 : decode cX5_isAppointRefused 126 = .ok (.getfield 9, 3) := dk_180 0 9 (dk_at dksX5_isAppointRefused_5 8 rfl rfl)
theorem dX5_isAppointRefused_129 : decode cX5_isAppointRefused 129 = .ok (.iload_n 1, 1) := dk_27 (dk_at dksX5_isAppointRefused_5 11 rfl rfl)
theorem dX5_isAppointRefused_130 : decode cX5_isAppointRefused 130 = .ok (.iconst 0, 1) := dk_3 (dk_at dksX5_isAppointRefused_5 12 rfl rfl)
theorem dX5_isAppointRefused_131 : decode cX5_isAppointRefused 131 = .ok (.invokestatic 99, 3) := dk_184 0 99 (dk_at dksX5_isAppointRefused_5 13 rfl rfl)
theorem dX5_isAppointRefused_134 : decode cX5_isAppointRefused 134 = .ok (.iaload, 1) := dk_46 (dk_at dksX5_isAppointRefused_5 16 rfl rfl)
theorem dX5_isAppointRefused_135 : decode cX5_isAppointRefused 135 = .ok (.invokevirtual 110, 3) := dk_182 0 110 (dk_at dksX5_isAppointRefused_5 17 rfl rfl)
theorem dX5_isAppointRefused_138 : decode cX5_isAppointRefused 138 = .ok (.ifCond .eq 7, 3) := dk_153 0 7 (dk_at dksX5_isAppointRefused_5 20 rfl rfl)
theorem dX5_isAppointRefused_141 : decode cX5_isAppointRefused 141 = .ok (.iconst 1, 1) := dk_4 (dk_at dksX5_isAppointRefused_5 23 rfl rfl)
theorem dX5_isAppointRefused_142 : decode cX5_isAppointRefused 142 = .ok (.goto 4, 3) := dk_167 0 4 (dk_at dksX5_isAppointRefused_6 0 rfl rfl)
theorem dX5_isAppointRefused_145 : decode cX5_isAppointRefused 145 = .ok (.iconst 0, 1) := dk_3 (dk_at dksX5_isAppointRefused_6 3 rfl rfl)
theorem dX5_isAppointRefused_146 : decode cX5_isAppointRefused 146 = .ok (.ireturn, 1) := dk_172 (dk_at dksX5_isAppointRefused_6 4 rfl rfl)
abbrev cX5_pilotmanOf : ByteArray := prog_20_method_69_code
def yX5_pilotmanOf : MethodName := ⟨RX5, "pilotmanOf", "(II)I"⟩
def dkwX5_pilotmanOf_2 : List UInt8 := [162, 0, 16, 42, 180, 0, 9, 27, 28, 184, 0, 99, 46, 167, 0, 8, 42, 27, 182, 0, 220, 172]
abbrev dktX5_pilotmanOf_2 : List UInt8 := dkwX5_pilotmanOf_2 ++ []
def dkwX5_pilotmanOf_1 : List UInt8 := [3, 5, 184, 0, 88, 154, 0, 7, 4, 167, 0, 4, 3, 182, 0, 84, 153, 0, 5, 3, 172, 28, 5]
abbrev dktX5_pilotmanOf_1 : List UInt8 := dkwX5_pilotmanOf_1 ++ dktX5_pilotmanOf_2
def dkwX5_pilotmanOf_0 : List UInt8 := [42, 4, 42, 27, 182, 0, 208, 154, 0, 7, 4, 167, 0, 4, 3, 182, 0, 84, 154, 0, 25, 42, 5, 28]
abbrev dktX5_pilotmanOf_0 : List UInt8 := dkwX5_pilotmanOf_0 ++ dktX5_pilotmanOf_1
theorem dksX5_pilotmanOf_0 : cX5_pilotmanOf.data.toList.drop 0 = dktX5_pilotmanOf_0 := by decide +kernel
theorem dksX5_pilotmanOf_1 : cX5_pilotmanOf.data.toList.drop 24 = dktX5_pilotmanOf_1 := dk_seg dksX5_pilotmanOf_0 24 rfl rfl
theorem dksX5_pilotmanOf_2 : cX5_pilotmanOf.data.toList.drop 47 = dktX5_pilotmanOf_2 := dk_seg dksX5_pilotmanOf_1 23 rfl rfl
theorem dX5_pilotmanOf_0 : decode cX5_pilotmanOf 0 = .ok (.aload_n 0, 1) := dk_42 (dk_at dksX5_pilotmanOf_0 0 rfl rfl)
theorem dX5_pilotmanOf_1 : decode cX5_pilotmanOf 1 = .ok (.iconst 1, 1) := dk_4 (dk_at dksX5_pilotmanOf_0 1 rfl rfl)
theorem dX5_pilotmanOf_2 : decode cX5_pilotmanOf 2 = .ok (.aload_n 0, 1) := dk_42 (dk_at dksX5_pilotmanOf_0 2 rfl rfl)
theorem dX5_pilotmanOf_3 : decode cX5_pilotmanOf 3 = .ok (.iload_n 1, 1) := dk_27 (dk_at dksX5_pilotmanOf_0 3 rfl rfl)
theorem dX5_pilotmanOf_4 : decode cX5_pilotmanOf 4 = .ok (.invokevirtual 208, 3) := dk_182 0 208 (dk_at dksX5_pilotmanOf_0 4 rfl rfl)
theorem dX5_pilotmanOf_7 : decode cX5_pilotmanOf 7 = .ok (.ifCond .ne 7, 3) := dk_154 0 7 (dk_at dksX5_pilotmanOf_0 7 rfl rfl)
theorem dX5_pilotmanOf_10 : decode cX5_pilotmanOf 10 = .ok (.iconst 1, 1) := dk_4 (dk_at dksX5_pilotmanOf_0 10 rfl rfl)
theorem dX5_pilotmanOf_11 : decode cX5_pilotmanOf 11 = .ok (.goto 4, 3) := dk_167 0 4 (dk_at dksX5_pilotmanOf_0 11 rfl rfl)
theorem dX5_pilotmanOf_14 : decode cX5_pilotmanOf 14 = .ok (.iconst 0, 1) := dk_3 (dk_at dksX5_pilotmanOf_0 14 rfl rfl)
theorem dX5_pilotmanOf_15 : decode cX5_pilotmanOf 15 = .ok (.invokevirtual 84, 3) := dk_182 0 84 (dk_at dksX5_pilotmanOf_0 15 rfl rfl)
theorem dX5_pilotmanOf_18 : decode cX5_pilotmanOf 18 = .ok (.ifCond .ne 25, 3) := dk_154 0 25 (dk_at dksX5_pilotmanOf_0 18 rfl rfl)
theorem dX5_pilotmanOf_21 : decode cX5_pilotmanOf 21 = .ok (.aload_n 0, 1) := dk_42 (dk_at dksX5_pilotmanOf_0 21 rfl rfl)
theorem dX5_pilotmanOf_22 : decode cX5_pilotmanOf 22 = .ok (.iconst 2, 1) := dk_5 (dk_at dksX5_pilotmanOf_0 22 rfl rfl)
theorem dX5_pilotmanOf_23 : decode cX5_pilotmanOf 23 = .ok (.iload_n 2, 1) := dk_28 (dk_at dksX5_pilotmanOf_0 23 rfl rfl)
theorem dX5_pilotmanOf_24 : decode cX5_pilotmanOf 24 = .ok (.iconst 0, 1) := dk_3 (dk_at dksX5_pilotmanOf_1 0 rfl rfl)
theorem dX5_pilotmanOf_25 : decode cX5_pilotmanOf 25 = .ok (.iconst 2, 1) := dk_5 (dk_at dksX5_pilotmanOf_1 1 rfl rfl)
theorem dX5_pilotmanOf_26 : decode cX5_pilotmanOf 26 = .ok (.invokestatic 88, 3) := dk_184 0 88 (dk_at dksX5_pilotmanOf_1 2 rfl rfl)
theorem dX5_pilotmanOf_29 : decode cX5_pilotmanOf 29 = .ok (.ifCond .ne 7, 3) := dk_154 0 7 (dk_at dksX5_pilotmanOf_1 5 rfl rfl)
theorem dX5_pilotmanOf_32 : decode cX5_pilotmanOf 32 = .ok (.iconst 1, 1) := dk_4 (dk_at dksX5_pilotmanOf_1 8 rfl rfl)
theorem dX5_pilotmanOf_33 : decode cX5_pilotmanOf 33 = .ok (.goto 4, 3) := dk_167 0 4 (dk_at dksX5_pilotmanOf_1 9 rfl rfl)
theorem dX5_pilotmanOf_36 : decode cX5_pilotmanOf 36 = .ok (.iconst 0, 1) := dk_3 (dk_at dksX5_pilotmanOf_1 12 rfl rfl)
theorem dX5_pilotmanOf_37 : decode cX5_pilotmanOf 37 = .ok (.invokevirtual 84, 3) := dk_182 0 84 (dk_at dksX5_pilotmanOf_1 13 rfl rfl)
theorem dX5_pilotmanOf_40 : decode cX5_pilotmanOf 40 = .ok (.ifCond .eq 5, 3) := dk_153 0 5 (dk_at dksX5_pilotmanOf_1 16 rfl rfl)
theorem dX5_pilotmanOf_43 : decode cX5_pilotmanOf 43 = .ok (.iconst 0, 1) := dk_3 (dk_at dksX5_pilotmanOf_1 19 rfl rfl)
theorem dX5_pilotmanOf_44 : decode cX5_pilotmanOf 44 = .ok (.ireturn, 1) := dk_172 (dk_at dksX5_pilotmanOf_1 20 rfl rfl)
theorem dX5_pilotmanOf_45 : decode cX5_pilotmanOf 45 = .ok (.iload_n 2, 1) := dk_28 (dk_at dksX5_pilotmanOf_1 21 rfl rfl)
theorem dX5_pilotmanOf_46 : decode cX5_pilotmanOf 46 = .ok (.iconst 2, 1) := dk_5 (dk_at dksX5_pilotmanOf_1 22 rfl rfl)
theorem dX5_pilotmanOf_47 : decode cX5_pilotmanOf 47 = .ok (.if_icmp .ge 16, 3) := dk_162 0 16 (dk_at dksX5_pilotmanOf_2 0 rfl rfl)
theorem dX5_pilotmanOf_50 : decode cX5_pilotmanOf 50 = .ok (.aload_n 0, 1) := dk_42 (dk_at dksX5_pilotmanOf_2 3 rfl rfl)
theorem dX5_pilotmanOf_51 : decode cX5_pilotmanOf 51 = .ok (.getfield 9, 3) := dk_180 0 9 (dk_at dksX5_pilotmanOf_2 4 rfl rfl)
theorem dX5_pilotmanOf_54 : decode cX5_pilotmanOf 54 = .ok (.iload_n 1, 1) := dk_27 (dk_at dksX5_pilotmanOf_2 7 rfl rfl)
theorem dX5_pilotmanOf_55 : decode cX5_pilotmanOf 55 = .ok (.iload_n 2, 1) := dk_28 (dk_at dksX5_pilotmanOf_2 8 rfl rfl)
theorem dX5_pilotmanOf_56 : decode cX5_pilotmanOf 56 = .ok (.invokestatic 99, 3) := dk_184 0 99 (dk_at dksX5_pilotmanOf_2 9 rfl rfl)
theorem dX5_pilotmanOf_59 : decode cX5_pilotmanOf 59 = .ok (.iaload, 1) := dk_46 (dk_at dksX5_pilotmanOf_2 12 rfl rfl)
theorem dX5_pilotmanOf_60 : decode cX5_pilotmanOf 60 = .ok (.goto 8, 3) := dk_167 0 8 (dk_at dksX5_pilotmanOf_2 13 rfl rfl)
theorem dX5_pilotmanOf_63 : decode cX5_pilotmanOf 63 = .ok (.aload_n 0, 1) := dk_42 (dk_at dksX5_pilotmanOf_2 16 rfl rfl)
theorem dX5_pilotmanOf_64 : decode cX5_pilotmanOf 64 = .ok (.iload_n 1, 1) := dk_27 (dk_at dksX5_pilotmanOf_2 17 rfl rfl)
theorem dX5_pilotmanOf_65 : decode cX5_pilotmanOf 65 = .ok (.invokevirtual 220, 3) := dk_182 0 220 (dk_at dksX5_pilotmanOf_2 18 rfl rfl)
theorem dX5_pilotmanOf_68 : decode cX5_pilotmanOf 68 = .ok (.ireturn, 1) := dk_172 (dk_at dksX5_pilotmanOf_2 21 rfl rfl)
abbrev cX5_trainWith : ByteArray := prog_20_method_68_code
def yX5_trainWith : MethodName := ⟨RX5, "trainWith", "(I)I"⟩
def dkwX5_trainWith_1 : List UInt8 := [27, 160, 0, 5, 28, 172, 132, 2, 1, 167, 255, 225, 2, 172]
abbrev dktX5_trainWith_1 : List UInt8 := dkwX5_trainWith_1 ++ []
def dkwX5_trainWith_0 : List UInt8 := [3, 61, 28, 42, 180, 0, 9, 17, 0, 180, 46, 162, 0, 25, 42, 180, 0, 9, 28, 8, 184, 0, 92, 46]
abbrev dktX5_trainWith_0 : List UInt8 := dkwX5_trainWith_0 ++ dktX5_trainWith_1
theorem dksX5_trainWith_0 : cX5_trainWith.data.toList.drop 0 = dktX5_trainWith_0 := by decide +kernel
theorem dksX5_trainWith_1 : cX5_trainWith.data.toList.drop 24 = dktX5_trainWith_1 := dk_seg dksX5_trainWith_0 24 rfl rfl
theorem dX5_trainWith_0 : decode cX5_trainWith 0 = .ok (.iconst 0, 1) := dk_3 (dk_at dksX5_trainWith_0 0 rfl rfl)
theorem dX5_trainWith_1 : decode cX5_trainWith 1 = .ok (.istore_n 2, 1) := dk_61 (dk_at dksX5_trainWith_0 1 rfl rfl)
theorem dX5_trainWith_2 : decode cX5_trainWith 2 = .ok (.iload_n 2, 1) := dk_28 (dk_at dksX5_trainWith_0 2 rfl rfl)
theorem dX5_trainWith_3 : decode cX5_trainWith 3 = .ok (.aload_n 0, 1) := dk_42 (dk_at dksX5_trainWith_0 3 rfl rfl)
theorem dX5_trainWith_4 : decode cX5_trainWith 4 = .ok (.getfield 9, 3) := dk_180 0 9 (dk_at dksX5_trainWith_0 4 rfl rfl)
theorem dX5_trainWith_7 : decode cX5_trainWith 7 = .ok (.sipush 180, 3) := dk_17 0 180 (dk_at dksX5_trainWith_0 7 rfl rfl)
theorem dX5_trainWith_10 : decode cX5_trainWith 10 = .ok (.iaload, 1) := dk_46 (dk_at dksX5_trainWith_0 10 rfl rfl)
theorem dX5_trainWith_11 : decode cX5_trainWith 11 = .ok (.if_icmp .ge 25, 3) := dk_162 0 25 (dk_at dksX5_trainWith_0 11 rfl rfl)
theorem dX5_trainWith_14 : decode cX5_trainWith 14 = .ok (.aload_n 0, 1) := dk_42 (dk_at dksX5_trainWith_0 14 rfl rfl)
theorem dX5_trainWith_15 : decode cX5_trainWith 15 = .ok (.getfield 9, 3) := dk_180 0 9 (dk_at dksX5_trainWith_0 15 rfl rfl)
theorem dX5_trainWith_18 : decode cX5_trainWith 18 = .ok (.iload_n 2, 1) := dk_28 (dk_at dksX5_trainWith_0 18 rfl rfl)
theorem dX5_trainWith_19 : decode cX5_trainWith 19 = .ok (.iconst 5, 1) := dk_8 (dk_at dksX5_trainWith_0 19 rfl rfl)
theorem dX5_trainWith_20 : decode cX5_trainWith 20 = .ok (.invokestatic 92, 3) := dk_184 0 92 (dk_at dksX5_trainWith_0 20 rfl rfl)
theorem dX5_trainWith_23 : decode cX5_trainWith 23 = .ok (.iaload, 1) := dk_46 (dk_at dksX5_trainWith_0 23 rfl rfl)
theorem dX5_trainWith_24 : decode cX5_trainWith 24 = .ok (.iload_n 1, 1) := dk_27 (dk_at dksX5_trainWith_1 0 rfl rfl)
theorem dX5_trainWith_25 : decode cX5_trainWith 25 = .ok (.if_icmp .ne 5, 3) := dk_160 0 5 (dk_at dksX5_trainWith_1 1 rfl rfl)
theorem dX5_trainWith_28 : decode cX5_trainWith 28 = .ok (.iload_n 2, 1) := dk_28 (dk_at dksX5_trainWith_1 4 rfl rfl)
theorem dX5_trainWith_29 : decode cX5_trainWith 29 = .ok (.ireturn, 1) := dk_172 (dk_at dksX5_trainWith_1 5 rfl rfl)
theorem dX5_trainWith_30 : decode cX5_trainWith 30 = .ok (.iinc 2 1, 3) := dk_132 2 1 (dk_at dksX5_trainWith_1 6 rfl rfl)
theorem dX5_trainWith_33 : decode cX5_trainWith 33 = .ok (.goto (-31), 3) := dk_167 255 225 (dk_at dksX5_trainWith_1 9 rfl rfl)
theorem dX5_trainWith_36 : decode cX5_trainWith 36 = .ok (.iconst (-1), 1) := dk_2 (dk_at dksX5_trainWith_1 12 rfl rfl)
theorem dX5_trainWith_37 : decode cX5_trainWith 37 = .ok (.ireturn, 1) := dk_172 (dk_at dksX5_trainWith_1 13 rfl rfl)
abbrev cX5_why : ByteArray := prog_20_method_70_code
def yX5_why : MethodName := ⟨RX5, "why", "(IIIZ)I"⟩
def dkwX5_why_3 : List UInt8 := [46, 167, 0, 9, 42, 180, 0, 24, 29, 46, 172]
abbrev dktX5_why_3 : List UInt8 := dkwX5_why_3 ++ []
def dkwX5_why_2 : List UInt8 := [3, 182, 0, 84, 154, 0, 8, 21, 5, 154, 0, 5, 3, 172, 21, 4, 153, 0, 12, 42, 180, 0, 27, 29]
abbrev dktX5_why_2 : List UInt8 := dkwX5_why_2 ++ dktX5_why_3
def dkwX5_why_1 : List UInt8 := [182, 0, 184, 54, 5, 42, 5, 21, 5, 153, 0, 15, 29, 42, 180, 0, 70, 161, 0, 7, 4, 167, 0, 4]
abbrev dktX5_why_1 : List UInt8 := dkwX5_why_1 ++ dktX5_why_2
def dkwX5_why_0 : List UInt8 := [42, 4, 29, 156, 0, 7, 4, 167, 0, 4, 3, 182, 0, 84, 153, 0, 5, 3, 172, 42, 27, 28]
abbrev dktX5_why_0 : List UInt8 := dkwX5_why_0 ++ dktX5_why_1
theorem dksX5_why_0 : cX5_why.data.toList.drop 0 = dktX5_why_0 := by decide +kernel
theorem dksX5_why_1 : cX5_why.data.toList.drop 22 = dktX5_why_1 := dk_seg dksX5_why_0 22 rfl rfl
theorem dksX5_why_2 : cX5_why.data.toList.drop 46 = dktX5_why_2 := dk_seg dksX5_why_1 24 rfl rfl
theorem dksX5_why_3 : cX5_why.data.toList.drop 70 = dktX5_why_3 := dk_seg dksX5_why_2 24 rfl rfl
theorem dX5_why_0 : decode cX5_why 0 = .ok (.aload_n 0, 1) := dk_42 (dk_at dksX5_why_0 0 rfl rfl)
theorem dX5_why_1 : decode cX5_why 1 = .ok (.iconst 1, 1) := dk_4 (dk_at dksX5_why_0 1 rfl rfl)
theorem dX5_why_2 : decode cX5_why 2 = .ok (.iload_n 3, 1) := dk_29 (dk_at dksX5_why_0 2 rfl rfl)
theorem dX5_why_3 : decode cX5_why 3 = .ok (.ifCond .ge 7, 3) := dk_156 0 7 (dk_at dksX5_why_0 3 rfl rfl)
theorem dX5_why_6 : decode cX5_why 6 = .ok (.iconst 1, 1) := dk_4 (dk_at dksX5_why_0 6 rfl rfl)
theorem dX5_why_7 : decode cX5_why 7 = .ok (.goto 4, 3) := dk_167 0 4 (dk_at dksX5_why_0 7 rfl rfl)
theorem dX5_why_10 : decode cX5_why 10 = .ok (.iconst 0, 1) := dk_3 (dk_at dksX5_why_0 10 rfl rfl)
theorem dX5_why_11 : decode cX5_why 11 = .ok (.invokevirtual 84, 3) := dk_182 0 84 (dk_at dksX5_why_0 11 rfl rfl)
theorem dX5_why_14 : decode cX5_why 14 = .ok (.ifCond .eq 5, 3) := dk_153 0 5 (dk_at dksX5_why_0 14 rfl rfl)
theorem dX5_why_17 : decode cX5_why 17 = .ok (.iconst 0, 1) := dk_3 (dk_at dksX5_why_0 17 rfl rfl)
theorem dX5_why_18 : decode cX5_why 18 = .ok (.ireturn, 1) := dk_172 (dk_at dksX5_why_0 18 rfl rfl)
theorem dX5_why_19 : decode cX5_why 19 = .ok (.aload_n 0, 1) := dk_42 (dk_at dksX5_why_0 19 rfl rfl)
theorem dX5_why_20 : decode cX5_why 20 = .ok (.iload_n 1, 1) := dk_27 (dk_at dksX5_why_0 20 rfl rfl)
theorem dX5_why_21 : decode cX5_why 21 = .ok (.iload_n 2, 1) := dk_28 (dk_at dksX5_why_0 21 rfl rfl)
theorem dX5_why_22 : decode cX5_why 22 = .ok (.invokevirtual 184, 3) := dk_182 0 184 (dk_at dksX5_why_1 0 rfl rfl)
theorem dX5_why_25 : decode cX5_why 25 = .ok (.istore 5, 2) := dk_54 5 (dk_at dksX5_why_1 3 rfl rfl)
theorem dX5_why_27 : decode cX5_why 27 = .ok (.aload_n 0, 1) := dk_42 (dk_at dksX5_why_1 5 rfl rfl)
theorem dX5_why_28 : decode cX5_why 28 = .ok (.iconst 2, 1) := dk_5 (dk_at dksX5_why_1 6 rfl rfl)
theorem dX5_why_29 : decode cX5_why 29 = .ok (.iload 5, 2) := dk_21 5 (dk_at dksX5_why_1 7 rfl rfl)
theorem dX5_why_31 : decode cX5_why 31 = .ok (.ifCond .eq 15, 3) := dk_153 0 15 (dk_at dksX5_why_1 9 rfl rfl)
theorem dX5_why_34 : decode cX5_why 34 = .ok (.iload_n 3, 1) := dk_29 (dk_at dksX5_why_1 12 rfl rfl)
theorem dX5_why_35 : decode cX5_why 35 = .ok (.aload_n 0, 1) := dk_42 (dk_at dksX5_why_1 13 rfl rfl)
theorem dX5_why_36 : decode cX5_why 36 = .ok (.getfield 70, 3) := dk_180 0 70 (dk_at dksX5_why_1 14 rfl rfl)
theorem dX5_why_39 : decode cX5_why 39 = .ok (.if_icmp .lt 7, 3) := dk_161 0 7 (dk_at dksX5_why_1 17 rfl rfl)
theorem dX5_why_42 : decode cX5_why 42 = .ok (.iconst 1, 1) := dk_4 (dk_at dksX5_why_1 20 rfl rfl)
theorem dX5_why_43 : decode cX5_why 43 = .ok (.goto 4, 3) := dk_167 0 4 (dk_at dksX5_why_1 21 rfl rfl)
theorem dX5_why_46 : decode cX5_why 46 = .ok (.iconst 0, 1) := dk_3 (dk_at dksX5_why_2 0 rfl rfl)
theorem dX5_why_47 : decode cX5_why 47 = .ok (.invokevirtual 84, 3) := dk_182 0 84 (dk_at dksX5_why_2 1 rfl rfl)
theorem dX5_why_50 : decode cX5_why 50 = .ok (.ifCond .ne 8, 3) := dk_154 0 8 (dk_at dksX5_why_2 4 rfl rfl)
theorem dX5_why_53 : decode cX5_why 53 = .ok (.iload 5, 2) := dk_21 5 (dk_at dksX5_why_2 7 rfl rfl)
theorem dX5_why_55 : decode cX5_why 55 = .ok (.ifCond .ne 5, 3) := dk_154 0 5 (dk_at dksX5_why_2 9 rfl rfl)
theorem dX5_why_58 : decode cX5_why 58 = .ok (.iconst 0, 1) := dk_3 (dk_at dksX5_why_2 12 rfl rfl)
theorem dX5_why_59 : decode cX5_why 59 = .ok (.ireturn, 1) := dk_172 (dk_at dksX5_why_2 13 rfl rfl)
theorem dX5_why_60 : decode cX5_why 60 = .ok (.iload 4, 2) := dk_21 4 (dk_at dksX5_why_2 14 rfl rfl)
theorem dX5_why_62 : decode cX5_why 62 = .ok (.ifCond .eq 12, 3) := dk_153 0 12 (dk_at dksX5_why_2 16 rfl rfl)
theorem dX5_why_65 : decode cX5_why 65 = .ok (.aload_n 0, 1) := dk_42 (dk_at dksX5_why_2 19 rfl rfl)
theorem dX5_why_66 : decode cX5_why 66 = .ok (.getfield 27, 3) := dk_180 0 27 (dk_at dksX5_why_2 20 rfl rfl)
theorem dX5_why_69 : decode cX5_why 69 = .ok (.iload_n 3, 1) := dk_29 (dk_at dksX5_why_2 23 rfl rfl)
theorem dX5_why_70 : decode cX5_why 70 = .ok (.iaload, 1) := dk_46 (dk_at dksX5_why_3 0 rfl rfl)
theorem dX5_why_71 : decode cX5_why 71 = .ok (.goto 9, 3) := dk_167 0 9 (dk_at dksX5_why_3 1 rfl rfl)
theorem dX5_why_74 : decode cX5_why 74 = .ok (.aload_n 0, 1) := dk_42 (dk_at dksX5_why_3 4 rfl rfl)
theorem dX5_why_75 : decode cX5_why 75 = .ok (.getfield 24, 3) := dk_180 0 24 (dk_at dksX5_why_3 5 rfl rfl)
theorem dX5_why_78 : decode cX5_why 78 = .ok (.iload_n 3, 1) := dk_29 (dk_at dksX5_why_3 8 rfl rfl)
theorem dX5_why_79 : decode cX5_why 79 = .ok (.iaload, 1) := dk_46 (dk_at dksX5_why_3 9 rfl rfl)
theorem dX5_why_80 : decode cX5_why 80 = .ok (.ireturn, 1) := dk_172 (dk_at dksX5_why_3 10 rfl rfl)
abbrev cX5_reach : ByteArray := prog_20_method_72_code
def yX5_reach : MethodName := ⟨RX5, "reach", "(IZ)I"⟩
def dkwX5_reach_1 : List UInt8 := [182, 0, 114, 153, 0, 7, 3, 167, 0, 9, 42, 27, 28, 182, 0, 226, 172]
abbrev dktX5_reach_1 : List UInt8 := dkwX5_reach_1 ++ []
def dkwX5_reach_0 : List UInt8 := [42, 4, 42, 27, 182, 0, 153, 154, 0, 11, 42, 27, 182, 0, 156, 153, 0, 7, 4, 167, 0, 4, 3]
abbrev dktX5_reach_0 : List UInt8 := dkwX5_reach_0 ++ dktX5_reach_1
theorem dksX5_reach_0 : cX5_reach.data.toList.drop 0 = dktX5_reach_0 := by decide +kernel
theorem dksX5_reach_1 : cX5_reach.data.toList.drop 23 = dktX5_reach_1 := dk_seg dksX5_reach_0 23 rfl rfl
theorem dX5_reach_0 : decode cX5_reach 0 = .ok (.aload_n 0, 1) := dk_42 (dk_at dksX5_reach_0 0 rfl rfl)
theorem dX5_reach_1 : decode cX5_reach 1 = .ok (.iconst 1, 1) := dk_4 (dk_at dksX5_reach_0 1 rfl rfl)
theorem dX5_reach_2 : decode cX5_reach 2 = .ok (.aload_n 0, 1) := dk_42 (dk_at dksX5_reach_0 2 rfl rfl)
theorem dX5_reach_3 : decode cX5_reach 3 = .ok (.iload_n 1, 1) := dk_27 (dk_at dksX5_reach_0 3 rfl rfl)
theorem dX5_reach_4 : decode cX5_reach 4 = .ok (.invokevirtual 153, 3) := dk_182 0 153 (dk_at dksX5_reach_0 4 rfl rfl)
theorem dX5_reach_7 : decode cX5_reach 7 = .ok (.ifCond .ne 11, 3) := dk_154 0 11 (dk_at dksX5_reach_0 7 rfl rfl)
theorem dX5_reach_10 : decode cX5_reach 10 = .ok (.aload_n 0, 1) := dk_42 (dk_at dksX5_reach_0 10 rfl rfl)
theorem dX5_reach_11 : decode cX5_reach 11 = .ok (.iload_n 1, 1) := dk_27 (dk_at dksX5_reach_0 11 rfl rfl)
theorem dX5_reach_12 : decode cX5_reach 12 = .ok (.invokevirtual 156, 3) := dk_182 0 156 (dk_at dksX5_reach_0 12 rfl rfl)
theorem dX5_reach_15 : decode cX5_reach 15 = .ok (.ifCond .eq 7, 3) := dk_153 0 7 (dk_at dksX5_reach_0 15 rfl rfl)
theorem dX5_reach_18 : decode cX5_reach 18 = .ok (.iconst 1, 1) := dk_4 (dk_at dksX5_reach_0 18 rfl rfl)
theorem dX5_reach_19 : decode cX5_reach 19 = .ok (.goto 4, 3) := dk_167 0 4 (dk_at dksX5_reach_0 19 rfl rfl)
theorem dX5_reach_22 : decode cX5_reach 22 = .ok (.iconst 0, 1) := dk_3 (dk_at dksX5_reach_0 22 rfl rfl)
theorem dX5_reach_23 : decode cX5_reach 23 = .ok (.invokevirtual 114, 3) := dk_182 0 114 (dk_at dksX5_reach_1 0 rfl rfl)
theorem dX5_reach_26 : decode cX5_reach 26 = .ok (.ifCond .eq 7, 3) := dk_153 0 7 (dk_at dksX5_reach_1 3 rfl rfl)
theorem dX5_reach_29 : decode cX5_reach 29 = .ok (.iconst 0, 1) := dk_3 (dk_at dksX5_reach_1 6 rfl rfl)
theorem dX5_reach_30 : decode cX5_reach 30 = .ok (.goto 9, 3) := dk_167 0 9 (dk_at dksX5_reach_1 7 rfl rfl)
theorem dX5_reach_33 : decode cX5_reach 33 = .ok (.aload_n 0, 1) := dk_42 (dk_at dksX5_reach_1 10 rfl rfl)
theorem dX5_reach_34 : decode cX5_reach 34 = .ok (.iload_n 1, 1) := dk_27 (dk_at dksX5_reach_1 11 rfl rfl)
theorem dX5_reach_35 : decode cX5_reach 35 = .ok (.iload_n 2, 1) := dk_28 (dk_at dksX5_reach_1 12 rfl rfl)
theorem dX5_reach_36 : decode cX5_reach 36 = .ok (.invokevirtual 226, 3) := dk_182 0 226 (dk_at dksX5_reach_1 13 rfl rfl)
theorem dX5_reach_39 : decode cX5_reach 39 = .ok (.ireturn, 1) := dk_172 (dk_at dksX5_reach_1 16 rfl rfl)
abbrev cX5_farthest : ByteArray := prog_20_method_71_code
def yX5_farthest : MethodName := ⟨RX5, "farthest", "(IZ)I"⟩
def dkwX5_farthest_6 : List UInt8 := [167, 0, 4, 3, 54, 6, 167, 255, 159, 42, 180, 0, 9, 27, 4, 184, 0, 92, 21, 5, 79, 29, 172]
abbrev dktX5_farthest_6 : List UInt8 := dkwX5_farthest_6 ++ []
def dkwX5_farthest_5 : List UInt8 := [21, 4, 167, 0, 4, 3, 96, 62, 21, 6, 153, 0, 17, 29, 21, 4, 96, 184, 0, 106, 153, 0, 7, 4]
abbrev dktX5_farthest_5 : List UInt8 := dkwX5_farthest_5 ++ dktX5_farthest_6
def dkwX5_farthest_4 : List UInt8 := [153, 0, 13, 42, 27, 21, 7, 182, 0, 187, 167, 0, 4, 3, 96, 181, 0, 223, 29, 21, 6, 153, 0, 8]
abbrev dktX5_farthest_4 : List UInt8 := dkwX5_farthest_4 ++ dktX5_farthest_5
def dkwX5_farthest_3 : List UInt8 := [21, 7, 182, 0, 181, 154, 0, 7, 4, 167, 0, 4, 3, 54, 6, 42, 89, 180, 0, 223, 21, 6]
abbrev dktX5_farthest_3 : List UInt8 := dkwX5_farthest_3 ++ dktX5_farthest_4
def dkwX5_farthest_2 : List UInt8 := [54, 6, 21, 6, 153, 0, 98, 28, 153, 0, 7, 29, 167, 0, 6, 29, 4, 100, 54, 7, 42, 27, 29]
abbrev dktX5_farthest_2 : List UInt8 := dkwX5_farthest_2 ++ dktX5_farthest_3
def dkwX5_farthest_1 : List UInt8 := [181, 0, 223, 42, 180, 0, 9, 27, 4, 184, 0, 92, 2, 79, 29, 54, 5, 29, 21, 4, 96, 184, 0, 106]
abbrev dktX5_farthest_1 : List UInt8 := dkwX5_farthest_1 ++ dktX5_farthest_2
def dkwX5_farthest_0 : List UInt8 := [42, 180, 0, 9, 27, 4, 184, 0, 92, 46, 62, 28, 153, 0, 7, 4, 167, 0, 4, 2, 54, 4, 42, 3]
abbrev dktX5_farthest_0 : List UInt8 := dkwX5_farthest_0 ++ dktX5_farthest_1
theorem dksX5_farthest_0 : cX5_farthest.data.toList.drop 0 = dktX5_farthest_0 := by decide +kernel
theorem dksX5_farthest_1 : cX5_farthest.data.toList.drop 24 = dktX5_farthest_1 := dk_seg dksX5_farthest_0 24 rfl rfl
theorem dksX5_farthest_2 : cX5_farthest.data.toList.drop 48 = dktX5_farthest_2 := dk_seg dksX5_farthest_1 24 rfl rfl
theorem dksX5_farthest_3 : cX5_farthest.data.toList.drop 71 = dktX5_farthest_3 := dk_seg dksX5_farthest_2 23 rfl rfl
theorem dksX5_farthest_4 : cX5_farthest.data.toList.drop 93 = dktX5_farthest_4 := dk_seg dksX5_farthest_3 22 rfl rfl
theorem dksX5_farthest_5 : cX5_farthest.data.toList.drop 117 = dktX5_farthest_5 := dk_seg dksX5_farthest_4 24 rfl rfl
theorem dksX5_farthest_6 : cX5_farthest.data.toList.drop 141 = dktX5_farthest_6 := dk_seg dksX5_farthest_5 24 rfl rfl
theorem dX5_farthest_0 : decode cX5_farthest 0 = .ok (.aload_n 0, 1) := dk_42 (dk_at dksX5_farthest_0 0 rfl rfl)
theorem dX5_farthest_1 : decode cX5_farthest 1 = .ok (.getfield 9, 3) := dk_180 0 9 (dk_at dksX5_farthest_0 1 rfl rfl)
theorem dX5_farthest_4 : decode cX5_farthest 4 = .ok (.iload_n 1, 1) := dk_27 (dk_at dksX5_farthest_0 4 rfl rfl)
theorem dX5_farthest_5 : decode cX5_farthest 5 = .ok (.iconst 1, 1) := dk_4 (dk_at dksX5_farthest_0 5 rfl rfl)
theorem dX5_farthest_6 : decode cX5_farthest 6 = .ok (.invokestatic 92, 3) := dk_184 0 92 (dk_at dksX5_farthest_0 6 rfl rfl)
theorem dX5_farthest_9 : decode cX5_farthest 9 = .ok (.iaload, 1) := dk_46 (dk_at dksX5_farthest_0 9 rfl rfl)
theorem dX5_farthest_10 : decode cX5_farthest 10 = .ok (.istore_n 3, 1) := dk_62 (dk_at dksX5_farthest_0 10 rfl rfl)
theorem dX5_farthest_11 : decode cX5_farthest 11 = .ok (.iload_n 2, 1) := dk_28 (dk_at dksX5_farthest_0 11 rfl rfl)
theorem dX5_farthest_12 : decode cX5_farthest 12 = .ok (.ifCond .eq 7, 3) := dk_153 0 7 (dk_at dksX5_farthest_0 12 rfl rfl)
theorem dX5_farthest_15 : decode cX5_farthest 15 = .ok (.iconst 1, 1) := dk_4 (dk_at dksX5_farthest_0 15 rfl rfl)
theorem dX5_farthest_16 : decode cX5_farthest 16 = .ok (.goto 4, 3) := dk_167 0 4 (dk_at dksX5_farthest_0 16 rfl rfl)
theorem dX5_farthest_19 : decode cX5_farthest 19 = .ok (.iconst (-1), 1) := dk_2 (dk_at dksX5_farthest_0 19 rfl rfl)
theorem dX5_farthest_20 : decode cX5_farthest 20 = .ok (.istore 4, 2) := dk_54 4 (dk_at dksX5_farthest_0 20 rfl rfl)
theorem dX5_farthest_22 : decode cX5_farthest 22 = .ok (.aload_n 0, 1) := dk_42 (dk_at dksX5_farthest_0 22 rfl rfl)
theorem dX5_farthest_23 : decode cX5_farthest 23 = .ok (.iconst 0, 1) := dk_3 (dk_at dksX5_farthest_0 23 rfl rfl)
theorem dX5_farthest_24 : decode cX5_farthest 24 = .ok (.putfield 223, 3) := dk_181 0 223 (dk_at dksX5_farthest_1 0 rfl rfl)
theorem dX5_farthest_27 : decode cX5_farthest 27 = .ok (.aload_n 0, 1) := dk_42 (dk_at dksX5_farthest_1 3 rfl rfl)
theorem dX5_farthest_28 : decode cX5_farthest 28 = .ok (.getfield 9, 3) := dk_180 0 9 (dk_at dksX5_farthest_1 4 rfl rfl)
theorem dX5_farthest_31 : decode cX5_farthest 31 = .ok (.iload_n 1, 1) := dk_27 (dk_at dksX5_farthest_1 7 rfl rfl)
theorem dX5_farthest_32 : decode cX5_farthest 32 = .ok (.iconst 1, 1) := dk_4 (dk_at dksX5_farthest_1 8 rfl rfl)
theorem dX5_farthest_33 : decode cX5_farthest 33 = .ok (.invokestatic 92, 3) := dk_184 0 92 (dk_at dksX5_farthest_1 9 rfl rfl)
theorem dX5_farthest_36 : decode cX5_farthest 36 = .ok (.iconst (-1), 1) := dk_2 (dk_at dksX5_farthest_1 12 rfl rfl)
theorem dX5_farthest_37 : decode cX5_farthest 37 = .ok (.iastore, 1) := dk_79 (dk_at dksX5_farthest_1 13 rfl rfl)
theorem dX5_farthest_38 : decode cX5_farthest 38 = .ok (.iload_n 3, 1) := dk_29 (dk_at dksX5_farthest_1 14 rfl rfl)
theorem dX5_farthest_39 : decode cX5_farthest 39 = .ok (.istore 5, 2) := dk_54 5 (dk_at dksX5_farthest_1 15 rfl rfl)
theorem dX5_farthest_41 : decode cX5_farthest 41 = .ok (.iload_n 3, 1) := dk_29 (dk_at dksX5_farthest_1 17 rfl rfl)
theorem dX5_farthest_42 : decode cX5_farthest 42 = .ok (.iload 4, 2) := dk_21 4 (dk_at dksX5_farthest_1 18 rfl rfl)
theorem dX5_farthest_44 : decode cX5_farthest 44 = .ok (.iadd, 1) := dk_96 (dk_at dksX5_farthest_1 20 rfl rfl)
theorem dX5_farthest_45 : decode cX5_farthest 45 = .ok (.invokestatic 106, 3) := dk_184 0 106 (dk_at dksX5_farthest_1 21 rfl rfl)
theorem dX5_farthest_48 : decode cX5_farthest 48 = .ok (.istore 6, 2) := dk_54 6 (dk_at dksX5_farthest_2 0 rfl rfl)
theorem dX5_farthest_50 : decode cX5_farthest 50 = .ok (.iload 6, 2) := dk_21 6 (dk_at dksX5_farthest_2 2 rfl rfl)
theorem dX5_farthest_52 : decode cX5_farthest 52 = .ok (.ifCond .eq 98, 3) := dk_153 0 98 (dk_at dksX5_farthest_2 4 rfl rfl)
theorem dX5_farthest_55 : decode cX5_farthest 55 = .ok (.iload_n 2, 1) := dk_28 (dk_at dksX5_farthest_2 7 rfl rfl)
theorem dX5_farthest_56 : decode cX5_farthest 56 = .ok (.ifCond .eq 7, 3) := dk_153 0 7 (dk_at dksX5_farthest_2 8 rfl rfl)
theorem dX5_farthest_59 : decode cX5_farthest 59 = .ok (.iload_n 3, 1) := dk_29 (dk_at dksX5_farthest_2 11 rfl rfl)
theorem dX5_farthest_60 : decode cX5_farthest 60 = .ok (.goto 6, 3) := dk_167 0 6 (dk_at dksX5_farthest_2 12 rfl rfl)
theorem dX5_farthest_63 : decode cX5_farthest 63 = .ok (.iload_n 3, 1) := dk_29 (dk_at dksX5_farthest_2 15 rfl rfl)
theorem dX5_farthest_64 : decode cX5_farthest 64 = .ok (.iconst 1, 1) := dk_4 (dk_at dksX5_farthest_2 16 rfl rfl)
theorem dX5_farthest_65 : decode cX5_farthest 65 = .ok (.isub, 1) := dk_100 (dk_at dksX5_farthest_2 17 rfl rfl)
theorem dX5_farthest_66 : decode cX5_farthest 66 = .ok (.istore 7, 2) := dk_54 7 (dk_at dksX5_farthest_2 18 rfl rfl)
theorem dX5_farthest_68 : decode cX5_farthest 68 = .ok (.aload_n 0, 1) := dk_42 (dk_at dksX5_farthest_2 20 rfl rfl)
theorem dX5_farthest_69 : decode cX5_farthest 69 = .ok (.iload_n 1, 1) := dk_27 (dk_at dksX5_farthest_2 21 rfl rfl)
theorem dX5_farthest_70 : decode cX5_farthest 70 = .ok (.iload_n 3, 1) := dk_29 (dk_at dksX5_farthest_2 22 rfl rfl)
theorem dX5_farthest_71 : decode cX5_farthest 71 = .ok (.iload 7, 2) := dk_21 7 (dk_at dksX5_farthest_3 0 rfl rfl)
theorem dX5_farthest_73 : decode cX5_farthest 73 = .ok (.invokevirtual 181, 3) := dk_182 0 181 (dk_at dksX5_farthest_3 2 rfl rfl)
theorem dX5_farthest_76 : decode cX5_farthest 76 = .ok (.ifCond .ne 7, 3) := dk_154 0 7 (dk_at dksX5_farthest_3 5 rfl rfl)
theorem dX5_farthest_79 : decode cX5_farthest 79 = .ok (.iconst 1, 1) := dk_4 (dk_at dksX5_farthest_3 8 rfl rfl)
theorem dX5_farthest_80 : decode cX5_farthest 80 = .ok (.goto 4, 3) := dk_167 0 4 (dk_at dksX5_farthest_3 9 rfl rfl)
theorem dX5_farthest_83 : decode cX5_farthest 83 = .ok (.iconst 0, 1) := dk_3 (dk_at dksX5_farthest_3 12 rfl rfl)
theorem dX5_farthest_84 : decode cX5_farthest 84 = .ok (.istore 6, 2) := dk_54 6 (dk_at dksX5_farthest_3 13 rfl rfl)
theorem dX5_farthest_86 : decode cX5_farthest 86 = .ok (.aload_n 0, 1) := dk_42 (dk_at dksX5_farthest_3 15 rfl rfl)
theorem dX5_farthest_87 : decode cX5_farthest 87 = .ok (.dup, 1) := dk_89 (dk_at dksX5_farthest_3 16 rfl rfl)
theorem dX5_farthest_88 : decode cX5_farthest 88 = .ok (.getfield 223, 3) := dk_180 0 223 (dk_at dksX5_farthest_3 17 rfl rfl)
theorem dX5_farthest_91 : decode cX5_farthest 91 = .ok (.iload 6, 2) := dk_21 6 (dk_at dksX5_farthest_3 20 rfl rfl)
theorem dX5_farthest_93 : decode cX5_farthest 93 = .ok (.ifCond .eq 13, 3) := dk_153 0 13 (dk_at dksX5_farthest_4 0 rfl rfl)
theorem dX5_farthest_96 : decode cX5_farthest 96 = .ok (.aload_n 0, 1) := dk_42 (dk_at dksX5_farthest_4 3 rfl rfl)
theorem dX5_farthest_97 : decode cX5_farthest 97 = .ok (.iload_n 1, 1) := dk_27 (dk_at dksX5_farthest_4 4 rfl rfl)
theorem dX5_farthest_98 : decode cX5_farthest 98 = .ok (.iload 7, 2) := dk_21 7 (dk_at dksX5_farthest_4 5 rfl rfl)
theorem dX5_farthest_100 : decode cX5_farthest 100 = .ok (.invokevirtual 187, 3) := dk_182 0 187 (dk_at dksX5_farthest_4 7 rfl rfl)
theorem dX5_farthest_103 : decode cX5_farthest 103 = .ok (.goto 4, 3) := dk_167 0 4 (dk_at dksX5_farthest_4 10 rfl rfl)
theorem dX5_farthest_106 : decode cX5_farthest 106 = .ok (.iconst 0, 1) := dk_3 (dk_at dksX5_farthest_4 13 rfl rfl)
theorem dX5_farthest_107 : decode cX5_farthest 107 = .ok (.iadd, 1) := dk_96 (dk_at dksX5_farthest_4 14 rfl rfl)
theorem dX5_farthest_108 : decode cX5_farthest 108 = .ok (.putfield 223, 3) := dk_181 0 223 (dk_at dksX5_farthest_4 15 rfl rfl)
theorem dX5_farthest_111 : decode cX5_farthest 111 = .ok (.iload_n 3, 1) := dk_29 (dk_at dksX5_farthest_4 18 rfl rfl)
theorem dX5_farthest_112 : decode cX5_farthest 112 = .ok (.iload 6, 2) := dk_21 6 (dk_at dksX5_farthest_4 19 rfl rfl)
theorem dX5_farthest_114 : decode cX5_farthest 114 = .ok (.ifCond .eq 8, 3) := dk_153 0 8 (dk_at dksX5_farthest_4 21 rfl rfl)
theorem dX5_farthest_117 : decode cX5_farthest 117 = .ok (.iload 4, 2) := dk_21 4 (dk_at dksX5_farthest_5 0 rfl rfl)
theorem dX5_farthest_119 : decode cX5_farthest 119 = .ok (.goto 4, 3) := dk_167 0 4 (dk_at dksX5_farthest_5 2 rfl rfl)
theorem dX5_farthest_122 : decode cX5_farthest 122 = .ok (.iconst 0, 1) := dk_3 (dk_at dksX5_farthest_5 5 rfl rfl)
theorem dX5_farthest_123 : decode cX5_farthest 123 = .ok (.iadd, 1) := dk_96 (dk_at dksX5_farthest_5 6 rfl rfl)
theorem dX5_farthest_124 : decode cX5_farthest 124 = .ok (.istore_n 3, 1) := dk_62 (dk_at dksX5_farthest_5 7 rfl rfl)
theorem dX5_farthest_125 : decode cX5_farthest 125 = .ok (.iload 6, 2) := dk_21 6 (dk_at dksX5_farthest_5 8 rfl rfl)
theorem dX5_farthest_127 : decode cX5_farthest 127 = .ok (.ifCond .eq 17, 3) := dk_153 0 17 (dk_at dksX5_farthest_5 10 rfl rfl)
theorem dX5_farthest_130 : decode cX5_farthest 130 = .ok (.iload_n 3, 1) := dk_29 (dk_at dksX5_farthest_5 13 rfl rfl)
theorem dX5_farthest_131 : decode cX5_farthest 131 = .ok (.iload 4, 2) := dk_21 4 (dk_at dksX5_farthest_5 14 rfl rfl)
theorem dX5_farthest_133 : decode cX5_farthest 133 = .ok (.iadd, 1) := dk_96 (dk_at dksX5_farthest_5 16 rfl rfl)
theorem dX5_farthest_134 : decode cX5_farthest 134 = .ok (.invokestatic 106, 3) := dk_184 0 106 (dk_at dksX5_farthest_5 17 rfl rfl)
theorem dX5_farthest_137 : decode cX5_farthest 137 = .ok (.ifCond .eq 7, 3) := dk_153 0 7 (dk_at dksX5_farthest_5 20 rfl rfl)
theorem dX5_farthest_140 : decode cX5_farthest 140 = .ok (.iconst 1, 1) := dk_4 (dk_at dksX5_farthest_5 23 rfl rfl)
theorem dX5_farthest_141 : decode cX5_farthest 141 = .ok (.goto 4, 3) := dk_167 0 4 (dk_at dksX5_farthest_6 0 rfl rfl)
theorem dX5_farthest_144 : decode cX5_farthest 144 = .ok (.iconst 0, 1) := dk_3 (dk_at dksX5_farthest_6 3 rfl rfl)
theorem dX5_farthest_145 : decode cX5_farthest 145 = .ok (.istore 6, 2) := dk_54 6 (dk_at dksX5_farthest_6 4 rfl rfl)
theorem dX5_farthest_147 : decode cX5_farthest 147 = .ok (.goto (-97), 3) := dk_167 255 159 (dk_at dksX5_farthest_6 6 rfl rfl)
theorem dX5_farthest_150 : decode cX5_farthest 150 = .ok (.aload_n 0, 1) := dk_42 (dk_at dksX5_farthest_6 9 rfl rfl)
theorem dX5_farthest_151 : decode cX5_farthest 151 = .ok (.getfield 9, 3) := dk_180 0 9 (dk_at dksX5_farthest_6 10 rfl rfl)
theorem dX5_farthest_154 : decode cX5_farthest 154 = .ok (.iload_n 1, 1) := dk_27 (dk_at dksX5_farthest_6 13 rfl rfl)
theorem dX5_farthest_155 : decode cX5_farthest 155 = .ok (.iconst 1, 1) := dk_4 (dk_at dksX5_farthest_6 14 rfl rfl)
theorem dX5_farthest_156 : decode cX5_farthest 156 = .ok (.invokestatic 92, 3) := dk_184 0 92 (dk_at dksX5_farthest_6 15 rfl rfl)
theorem dX5_farthest_159 : decode cX5_farthest 159 = .ok (.iload 5, 2) := dk_21 5 (dk_at dksX5_farthest_6 18 rfl rfl)
theorem dX5_farthest_161 : decode cX5_farthest 161 = .ok (.iastore, 1) := dk_79 (dk_at dksX5_farthest_6 20 rfl rfl)
theorem dX5_farthest_162 : decode cX5_farthest 162 = .ok (.iload_n 3, 1) := dk_29 (dk_at dksX5_farthest_6 21 rfl rfl)
theorem dX5_farthest_163 : decode cX5_farthest 163 = .ok (.ireturn, 1) := dk_172 (dk_at dksX5_farthest_6 22 rfl rfl)
abbrev cX5_reachAgain : ByteArray := prog_20_method_73_code
def yX5_reachAgain : MethodName := ⟨RX5, "reachAgain", "(IZ)I"⟩
def dkwX5_reachAgain_0 : List UInt8 := [42, 27, 28, 182, 0, 230, 172]
abbrev dktX5_reachAgain_0 : List UInt8 := dkwX5_reachAgain_0 ++ []
theorem dksX5_reachAgain_0 : cX5_reachAgain.data.toList.drop 0 = dktX5_reachAgain_0 := by decide +kernel
theorem dX5_reachAgain_0 : decode cX5_reachAgain 0 = .ok (.aload_n 0, 1) := dk_42 (dk_at dksX5_reachAgain_0 0 rfl rfl)
theorem dX5_reachAgain_1 : decode cX5_reachAgain 1 = .ok (.iload_n 1, 1) := dk_27 (dk_at dksX5_reachAgain_0 1 rfl rfl)
theorem dX5_reachAgain_2 : decode cX5_reachAgain 2 = .ok (.iload_n 2, 1) := dk_28 (dk_at dksX5_reachAgain_0 2 rfl rfl)
theorem dX5_reachAgain_3 : decode cX5_reachAgain 3 = .ok (.invokevirtual 230, 3) := dk_182 0 230 (dk_at dksX5_reachAgain_0 3 rfl rfl)
theorem dX5_reachAgain_6 : decode cX5_reachAgain 6 = .ok (.ireturn, 1) := dk_172 (dk_at dksX5_reachAgain_0 6 rfl rfl)
abbrev cX5_minutes : ByteArray := prog_20_method_74_code
def yX5_minutes : MethodName := ⟨RX5, "minutes", "(IZ)I"⟩
def dkwX5_minutes_1 : List UInt8 := [182, 0, 114, 153, 0, 5, 3, 172, 42, 27, 28, 182, 0, 226, 87, 42, 180, 0, 223, 172]
abbrev dktX5_minutes_1 : List UInt8 := dkwX5_minutes_1 ++ []
def dkwX5_minutes_0 : List UInt8 := [42, 4, 42, 27, 182, 0, 153, 154, 0, 11, 42, 27, 182, 0, 156, 153, 0, 7, 4, 167, 0, 4, 3]
abbrev dktX5_minutes_0 : List UInt8 := dkwX5_minutes_0 ++ dktX5_minutes_1
theorem dksX5_minutes_0 : cX5_minutes.data.toList.drop 0 = dktX5_minutes_0 := by decide +kernel
theorem dksX5_minutes_1 : cX5_minutes.data.toList.drop 23 = dktX5_minutes_1 := dk_seg dksX5_minutes_0 23 rfl rfl
theorem dX5_minutes_0 : decode cX5_minutes 0 = .ok (.aload_n 0, 1) := dk_42 (dk_at dksX5_minutes_0 0 rfl rfl)
theorem dX5_minutes_1 : decode cX5_minutes 1 = .ok (.iconst 1, 1) := dk_4 (dk_at dksX5_minutes_0 1 rfl rfl)
theorem dX5_minutes_2 : decode cX5_minutes 2 = .ok (.aload_n 0, 1) := dk_42 (dk_at dksX5_minutes_0 2 rfl rfl)
theorem dX5_minutes_3 : decode cX5_minutes 3 = .ok (.iload_n 1, 1) := dk_27 (dk_at dksX5_minutes_0 3 rfl rfl)
theorem dX5_minutes_4 : decode cX5_minutes 4 = .ok (.invokevirtual 153, 3) := dk_182 0 153 (dk_at dksX5_minutes_0 4 rfl rfl)
theorem dX5_minutes_7 : decode cX5_minutes 7 = .ok (.ifCond .ne 11, 3) := dk_154 0 11 (dk_at dksX5_minutes_0 7 rfl rfl)
theorem dX5_minutes_10 : decode cX5_minutes 10 = .ok (.aload_n 0, 1) := dk_42 (dk_at dksX5_minutes_0 10 rfl rfl)
theorem dX5_minutes_11 : decode cX5_minutes 11 = .ok (.iload_n 1, 1) := dk_27 (dk_at dksX5_minutes_0 11 rfl rfl)
theorem dX5_minutes_12 : decode cX5_minutes 12 = .ok (.invokevirtual 156, 3) := dk_182 0 156 (dk_at dksX5_minutes_0 12 rfl rfl)
theorem dX5_minutes_15 : decode cX5_minutes 15 = .ok (.ifCond .eq 7, 3) := dk_153 0 7 (dk_at dksX5_minutes_0 15 rfl rfl)
theorem dX5_minutes_18 : decode cX5_minutes 18 = .ok (.iconst 1, 1) := dk_4 (dk_at dksX5_minutes_0 18 rfl rfl)
theorem dX5_minutes_19 : decode cX5_minutes 19 = .ok (.goto 4, 3) := dk_167 0 4 (dk_at dksX5_minutes_0 19 rfl rfl)
theorem dX5_minutes_22 : decode cX5_minutes 22 = .ok (.iconst 0, 1) := dk_3 (dk_at dksX5_minutes_0 22 rfl rfl)
theorem dX5_minutes_23 : decode cX5_minutes 23 = .ok (.invokevirtual 114, 3) := dk_182 0 114 (dk_at dksX5_minutes_1 0 rfl rfl)
theorem dX5_minutes_26 : decode cX5_minutes 26 = .ok (.ifCond .eq 5, 3) := dk_153 0 5 (dk_at dksX5_minutes_1 3 rfl rfl)
theorem dX5_minutes_29 : decode cX5_minutes 29 = .ok (.iconst 0, 1) := dk_3 (dk_at dksX5_minutes_1 6 rfl rfl)
theorem dX5_minutes_30 : decode cX5_minutes 30 = .ok (.ireturn, 1) := dk_172 (dk_at dksX5_minutes_1 7 rfl rfl)
theorem dX5_minutes_31 : decode cX5_minutes 31 = .ok (.aload_n 0, 1) := dk_42 (dk_at dksX5_minutes_1 8 rfl rfl)
theorem dX5_minutes_32 : decode cX5_minutes 32 = .ok (.iload_n 1, 1) := dk_27 (dk_at dksX5_minutes_1 9 rfl rfl)
theorem dX5_minutes_33 : decode cX5_minutes 33 = .ok (.iload_n 2, 1) := dk_28 (dk_at dksX5_minutes_1 10 rfl rfl)
theorem dX5_minutes_34 : decode cX5_minutes 34 = .ok (.invokevirtual 226, 3) := dk_182 0 226 (dk_at dksX5_minutes_1 11 rfl rfl)
theorem dX5_minutes_37 : decode cX5_minutes 37 = .ok (.pop, 1) := dk_87 (dk_at dksX5_minutes_1 14 rfl rfl)
theorem dX5_minutes_38 : decode cX5_minutes 38 = .ok (.aload_n 0, 1) := dk_42 (dk_at dksX5_minutes_1 15 rfl rfl)
theorem dX5_minutes_39 : decode cX5_minutes 39 = .ok (.getfield 223, 3) := dk_180 0 223 (dk_at dksX5_minutes_1 16 rfl rfl)
theorem dX5_minutes_42 : decode cX5_minutes 42 = .ok (.ireturn, 1) := dk_172 (dk_at dksX5_minutes_1 19 rfl rfl)
abbrev cX5_movable : ByteArray := prog_20_method_75_code
def yX5_movable : MethodName := ⟨RX5, "movable", "()I"⟩
def dkwX5_movable_3 : List UInt8 := [167, 255, 196, 27, 172]
abbrev dktX5_movable_3 : List UInt8 := dkwX5_movable_3 ++ []
def dkwX5_movable_2 : List UInt8 := [153, 0, 14, 42, 28, 29, 4, 96, 182, 0, 184, 154, 0, 7, 4, 167, 0, 4, 3, 96, 60, 132, 2, 1]
abbrev dktX5_movable_2 : List UInt8 := dkwX5_movable_2 ++ dktX5_movable_3
def dkwX5_movable_1 : List UInt8 := [180, 0, 9, 28, 4, 184, 0, 92, 46, 62, 27, 29, 155, 0, 29, 42, 28, 29, 4, 100, 182, 0, 184]
abbrev dktX5_movable_1 : List UInt8 := dkwX5_movable_1 ++ dktX5_movable_2
def dkwX5_movable_0 : List UInt8 := [42, 3, 181, 0, 52, 3, 60, 3, 61, 28, 42, 180, 0, 9, 17, 0, 180, 46, 162, 0, 54, 42]
abbrev dktX5_movable_0 : List UInt8 := dkwX5_movable_0 ++ dktX5_movable_1
theorem dksX5_movable_0 : cX5_movable.data.toList.drop 0 = dktX5_movable_0 := by decide +kernel
theorem dksX5_movable_1 : cX5_movable.data.toList.drop 22 = dktX5_movable_1 := dk_seg dksX5_movable_0 22 rfl rfl
theorem dksX5_movable_2 : cX5_movable.data.toList.drop 45 = dktX5_movable_2 := dk_seg dksX5_movable_1 23 rfl rfl
theorem dksX5_movable_3 : cX5_movable.data.toList.drop 69 = dktX5_movable_3 := dk_seg dksX5_movable_2 24 rfl rfl
theorem dX5_movable_0 : decode cX5_movable 0 = .ok (.aload_n 0, 1) := dk_42 (dk_at dksX5_movable_0 0 rfl rfl)
theorem dX5_movable_1 : decode cX5_movable 1 = .ok (.iconst 0, 1) := dk_3 (dk_at dksX5_movable_0 1 rfl rfl)
theorem dX5_movable_2 : decode cX5_movable 2 = .ok (.putfield 52, 3) := dk_181 0 52 (dk_at dksX5_movable_0 2 rfl rfl)
theorem dX5_movable_5 : decode cX5_movable 5 = .ok (.iconst 0, 1) := dk_3 (dk_at dksX5_movable_0 5 rfl rfl)
theorem dX5_movable_6 : decode cX5_movable 6 = .ok (.istore_n 1, 1) := dk_60 (dk_at dksX5_movable_0 6 rfl rfl)
theorem dX5_movable_7 : decode cX5_movable 7 = .ok (.iconst 0, 1) := dk_3 (dk_at dksX5_movable_0 7 rfl rfl)
theorem dX5_movable_8 : decode cX5_movable 8 = .ok (.istore_n 2, 1) := dk_61 (dk_at dksX5_movable_0 8 rfl rfl)
theorem dX5_movable_9 : decode cX5_movable 9 = .ok (.iload_n 2, 1) := dk_28 (dk_at dksX5_movable_0 9 rfl rfl)
theorem dX5_movable_10 : decode cX5_movable 10 = .ok (.aload_n 0, 1) := dk_42 (dk_at dksX5_movable_0 10 rfl rfl)
theorem dX5_movable_11 : decode cX5_movable 11 = .ok (.getfield 9, 3) := dk_180 0 9 (dk_at dksX5_movable_0 11 rfl rfl)
theorem dX5_movable_14 : decode cX5_movable 14 = .ok (.sipush 180, 3) := dk_17 0 180 (dk_at dksX5_movable_0 14 rfl rfl)
theorem dX5_movable_17 : decode cX5_movable 17 = .ok (.iaload, 1) := dk_46 (dk_at dksX5_movable_0 17 rfl rfl)
theorem dX5_movable_18 : decode cX5_movable 18 = .ok (.if_icmp .ge 54, 3) := dk_162 0 54 (dk_at dksX5_movable_0 18 rfl rfl)
theorem dX5_movable_21 : decode cX5_movable 21 = .ok (.aload_n 0, 1) := dk_42 (dk_at dksX5_movable_0 21 rfl rfl)
theorem dX5_movable_22 : decode cX5_movable 22 = .ok (.getfield 9, 3) := dk_180 0 9 (dk_at dksX5_movable_1 0 rfl rfl)
theorem dX5_movable_25 : decode cX5_movable 25 = .ok (.iload_n 2, 1) := dk_28 (dk_at dksX5_movable_1 3 rfl rfl)
theorem dX5_movable_26 : decode cX5_movable 26 = .ok (.iconst 1, 1) := dk_4 (dk_at dksX5_movable_1 4 rfl rfl)
theorem dX5_movable_27 : decode cX5_movable 27 = .ok (.invokestatic 92, 3) := dk_184 0 92 (dk_at dksX5_movable_1 5 rfl rfl)
theorem dX5_movable_30 : decode cX5_movable 30 = .ok (.iaload, 1) := dk_46 (dk_at dksX5_movable_1 8 rfl rfl)
theorem dX5_movable_31 : decode cX5_movable 31 = .ok (.istore_n 3, 1) := dk_62 (dk_at dksX5_movable_1 9 rfl rfl)
theorem dX5_movable_32 : decode cX5_movable 32 = .ok (.iload_n 1, 1) := dk_27 (dk_at dksX5_movable_1 10 rfl rfl)
theorem dX5_movable_33 : decode cX5_movable 33 = .ok (.iload_n 3, 1) := dk_29 (dk_at dksX5_movable_1 11 rfl rfl)
theorem dX5_movable_34 : decode cX5_movable 34 = .ok (.ifCond .lt 29, 3) := dk_155 0 29 (dk_at dksX5_movable_1 12 rfl rfl)
theorem dX5_movable_37 : decode cX5_movable 37 = .ok (.aload_n 0, 1) := dk_42 (dk_at dksX5_movable_1 15 rfl rfl)
theorem dX5_movable_38 : decode cX5_movable 38 = .ok (.iload_n 2, 1) := dk_28 (dk_at dksX5_movable_1 16 rfl rfl)
theorem dX5_movable_39 : decode cX5_movable 39 = .ok (.iload_n 3, 1) := dk_29 (dk_at dksX5_movable_1 17 rfl rfl)
theorem dX5_movable_40 : decode cX5_movable 40 = .ok (.iconst 1, 1) := dk_4 (dk_at dksX5_movable_1 18 rfl rfl)
theorem dX5_movable_41 : decode cX5_movable 41 = .ok (.isub, 1) := dk_100 (dk_at dksX5_movable_1 19 rfl rfl)
theorem dX5_movable_42 : decode cX5_movable 42 = .ok (.invokevirtual 184, 3) := dk_182 0 184 (dk_at dksX5_movable_1 20 rfl rfl)
theorem dX5_movable_45 : decode cX5_movable 45 = .ok (.ifCond .eq 14, 3) := dk_153 0 14 (dk_at dksX5_movable_2 0 rfl rfl)
theorem dX5_movable_48 : decode cX5_movable 48 = .ok (.aload_n 0, 1) := dk_42 (dk_at dksX5_movable_2 3 rfl rfl)
theorem dX5_movable_49 : decode cX5_movable 49 = .ok (.iload_n 2, 1) := dk_28 (dk_at dksX5_movable_2 4 rfl rfl)
theorem dX5_movable_50 : decode cX5_movable 50 = .ok (.iload_n 3, 1) := dk_29 (dk_at dksX5_movable_2 5 rfl rfl)
theorem dX5_movable_51 : decode cX5_movable 51 = .ok (.iconst 1, 1) := dk_4 (dk_at dksX5_movable_2 6 rfl rfl)
theorem dX5_movable_52 : decode cX5_movable 52 = .ok (.iadd, 1) := dk_96 (dk_at dksX5_movable_2 7 rfl rfl)
theorem dX5_movable_53 : decode cX5_movable 53 = .ok (.invokevirtual 184, 3) := dk_182 0 184 (dk_at dksX5_movable_2 8 rfl rfl)
theorem dX5_movable_56 : decode cX5_movable 56 = .ok (.ifCond .ne 7, 3) := dk_154 0 7 (dk_at dksX5_movable_2 11 rfl rfl)
theorem dX5_movable_59 : decode cX5_movable 59 = .ok (.iconst 1, 1) := dk_4 (dk_at dksX5_movable_2 14 rfl rfl)
theorem dX5_movable_60 : decode cX5_movable 60 = .ok (.goto 4, 3) := dk_167 0 4 (dk_at dksX5_movable_2 15 rfl rfl)
theorem dX5_movable_63 : decode cX5_movable 63 = .ok (.iconst 0, 1) := dk_3 (dk_at dksX5_movable_2 18 rfl rfl)
theorem dX5_movable_64 : decode cX5_movable 64 = .ok (.iadd, 1) := dk_96 (dk_at dksX5_movable_2 19 rfl rfl)
theorem dX5_movable_65 : decode cX5_movable 65 = .ok (.istore_n 1, 1) := dk_60 (dk_at dksX5_movable_2 20 rfl rfl)
theorem dX5_movable_66 : decode cX5_movable 66 = .ok (.iinc 2 1, 3) := dk_132 2 1 (dk_at dksX5_movable_2 21 rfl rfl)
theorem dX5_movable_69 : decode cX5_movable 69 = .ok (.goto (-60), 3) := dk_167 255 196 (dk_at dksX5_movable_3 0 rfl rfl)
theorem dX5_movable_72 : decode cX5_movable 72 = .ok (.iload_n 1, 1) := dk_27 (dk_at dksX5_movable_3 3 rfl rfl)
theorem dX5_movable_73 : decode cX5_movable 73 = .ok (.ireturn, 1) := dk_172 (dk_at dksX5_movable_3 4 rfl rfl)
abbrev cX5_log : ByteArray := prog_20_method_76_code
def yX5_log : MethodName := ⟨RX5, "log", "(III)I"⟩
def dkwX5_log_4 : List UInt8 := [172]
abbrev dktX5_log_4 : List UInt8 := dkwX5_log_4 ++ []
def dkwX5_log_3 : List UInt8 := [182, 0, 84, 153, 0, 5, 3, 172, 42, 180, 0, 9, 27, 5, 6, 28, 104, 96, 29, 96, 184, 0, 44, 46]
abbrev dktX5_log_3 : List UInt8 := dkwX5_log_3 ++ dktX5_log_4
def dkwX5_log_2 : List UInt8 := [180, 0, 9, 27, 4, 184, 0, 44, 46, 4, 100, 184, 0, 88, 154, 0, 7, 4, 167, 0, 4, 3]
abbrev dktX5_log_2 : List UInt8 := dkwX5_log_2 ++ dktX5_log_3
def dkwX5_log_1 : List UInt8 := [5, 184, 0, 88, 154, 0, 7, 4, 167, 0, 4, 3, 182, 0, 84, 154, 0, 36, 42, 6, 28, 3, 42]
abbrev dktX5_log_1 : List UInt8 := dkwX5_log_1 ++ dktX5_log_2
def dkwX5_log_0 : List UInt8 := [42, 4, 27, 184, 0, 106, 154, 0, 7, 4, 167, 0, 4, 3, 182, 0, 84, 154, 0, 58, 42, 5, 29, 3]
abbrev dktX5_log_0 : List UInt8 := dkwX5_log_0 ++ dktX5_log_1
theorem dksX5_log_0 : cX5_log.data.toList.drop 0 = dktX5_log_0 := by decide +kernel
theorem dksX5_log_1 : cX5_log.data.toList.drop 24 = dktX5_log_1 := dk_seg dksX5_log_0 24 rfl rfl
theorem dksX5_log_2 : cX5_log.data.toList.drop 47 = dktX5_log_2 := dk_seg dksX5_log_1 23 rfl rfl
theorem dksX5_log_3 : cX5_log.data.toList.drop 69 = dktX5_log_3 := dk_seg dksX5_log_2 22 rfl rfl
theorem dksX5_log_4 : cX5_log.data.toList.drop 93 = dktX5_log_4 := dk_seg dksX5_log_3 24 rfl rfl
theorem dX5_log_0 : decode cX5_log 0 = .ok (.aload_n 0, 1) := dk_42 (dk_at dksX5_log_0 0 rfl rfl)
theorem dX5_log_1 : decode cX5_log 1 = .ok (.iconst 1, 1) := dk_4 (dk_at dksX5_log_0 1 rfl rfl)
theorem dX5_log_2 : decode cX5_log 2 = .ok (.iload_n 1, 1) := dk_27 (dk_at dksX5_log_0 2 rfl rfl)
theorem dX5_log_3 : decode cX5_log 3 = .ok (.invokestatic 106, 3) := dk_184 0 106 (dk_at dksX5_log_0 3 rfl rfl)
theorem dX5_log_6 : decode cX5_log 6 = .ok (.ifCond .ne 7, 3) := dk_154 0 7 (dk_at dksX5_log_0 6 rfl rfl)
theorem dX5_log_9 : decode cX5_log 9 = .ok (.iconst 1, 1) := dk_4 (dk_at dksX5_log_0 9 rfl rfl)
theorem dX5_log_10 : decode cX5_log 10 = .ok (.goto 4, 3) := dk_167 0 4 (dk_at dksX5_log_0 10 rfl rfl)
theorem dX5_log_13 : decode cX5_log 13 = .ok (.iconst 0, 1) := dk_3 (dk_at dksX5_log_0 13 rfl rfl)
theorem dX5_log_14 : decode cX5_log 14 = .ok (.invokevirtual 84, 3) := dk_182 0 84 (dk_at dksX5_log_0 14 rfl rfl)
theorem dX5_log_17 : decode cX5_log 17 = .ok (.ifCond .ne 58, 3) := dk_154 0 58 (dk_at dksX5_log_0 17 rfl rfl)
theorem dX5_log_20 : decode cX5_log 20 = .ok (.aload_n 0, 1) := dk_42 (dk_at dksX5_log_0 20 rfl rfl)
theorem dX5_log_21 : decode cX5_log 21 = .ok (.iconst 2, 1) := dk_5 (dk_at dksX5_log_0 21 rfl rfl)
theorem dX5_log_22 : decode cX5_log 22 = .ok (.iload_n 3, 1) := dk_29 (dk_at dksX5_log_0 22 rfl rfl)
theorem dX5_log_23 : decode cX5_log 23 = .ok (.iconst 0, 1) := dk_3 (dk_at dksX5_log_0 23 rfl rfl)
theorem dX5_log_24 : decode cX5_log 24 = .ok (.iconst 2, 1) := dk_5 (dk_at dksX5_log_1 0 rfl rfl)
theorem dX5_log_25 : decode cX5_log 25 = .ok (.invokestatic 88, 3) := dk_184 0 88 (dk_at dksX5_log_1 1 rfl rfl)
theorem dX5_log_28 : decode cX5_log 28 = .ok (.ifCond .ne 7, 3) := dk_154 0 7 (dk_at dksX5_log_1 4 rfl rfl)
theorem dX5_log_31 : decode cX5_log 31 = .ok (.iconst 1, 1) := dk_4 (dk_at dksX5_log_1 7 rfl rfl)
theorem dX5_log_32 : decode cX5_log 32 = .ok (.goto 4, 3) := dk_167 0 4 (dk_at dksX5_log_1 8 rfl rfl)
theorem dX5_log_35 : decode cX5_log 35 = .ok (.iconst 0, 1) := dk_3 (dk_at dksX5_log_1 11 rfl rfl)
theorem dX5_log_36 : decode cX5_log 36 = .ok (.invokevirtual 84, 3) := dk_182 0 84 (dk_at dksX5_log_1 12 rfl rfl)
theorem dX5_log_39 : decode cX5_log 39 = .ok (.ifCond .ne 36, 3) := dk_154 0 36 (dk_at dksX5_log_1 15 rfl rfl)
theorem dX5_log_42 : decode cX5_log 42 = .ok (.aload_n 0, 1) := dk_42 (dk_at dksX5_log_1 18 rfl rfl)
theorem dX5_log_43 : decode cX5_log 43 = .ok (.iconst 3, 1) := dk_6 (dk_at dksX5_log_1 19 rfl rfl)
theorem dX5_log_44 : decode cX5_log 44 = .ok (.iload_n 2, 1) := dk_28 (dk_at dksX5_log_1 20 rfl rfl)
theorem dX5_log_45 : decode cX5_log 45 = .ok (.iconst 0, 1) := dk_3 (dk_at dksX5_log_1 21 rfl rfl)
theorem dX5_log_46 : decode cX5_log 46 = .ok (.aload_n 0, 1) := dk_42 (dk_at dksX5_log_1 22 rfl rfl)
theorem dX5_log_47 : decode cX5_log 47 = .ok (.getfield 9, 3) := dk_180 0 9 (dk_at dksX5_log_2 0 rfl rfl)
theorem dX5_log_50 : decode cX5_log 50 = .ok (.iload_n 1, 1) := dk_27 (dk_at dksX5_log_2 3 rfl rfl)
theorem dX5_log_51 : decode cX5_log 51 = .ok (.iconst 1, 1) := dk_4 (dk_at dksX5_log_2 4 rfl rfl)
theorem dX5_log_52 : decode cX5_log 52 = .ok (.invokestatic 44, 3) := dk_184 0 44 (dk_at dksX5_log_2 5 rfl rfl)
theorem dX5_log_55 : decode cX5_log 55 = .ok (.iaload, 1) := dk_46 (dk_at dksX5_log_2 8 rfl rfl)
theorem dX5_log_56 : decode cX5_log 56 = .ok (.iconst 1, 1) := dk_4 (dk_at dksX5_log_2 9 rfl rfl)
theorem dX5_log_57 : decode cX5_log 57 = .ok (.isub, 1) := dk_100 (dk_at dksX5_log_2 10 rfl rfl)
theorem dX5_log_58 : decode cX5_log 58 = .ok (.invokestatic 88, 3) := dk_184 0 88 (dk_at dksX5_log_2 11 rfl rfl)
theorem dX5_log_61 : decode cX5_log 61 = .ok (.ifCond .ne 7, 3) := dk_154 0 7 (dk_at dksX5_log_2 14 rfl rfl)
theorem dX5_log_64 : decode cX5_log 64 = .ok (.iconst 1, 1) := dk_4 (dk_at dksX5_log_2 17 rfl rfl)
theorem dX5_log_65 : decode cX5_log 65 = .ok (.goto 4, 3) := dk_167 0 4 (dk_at dksX5_log_2 18 rfl rfl)
theorem dX5_log_68 : decode cX5_log 68 = .ok (.iconst 0, 1) := dk_3 (dk_at dksX5_log_2 21 rfl rfl)
theorem dX5_log_69 : decode cX5_log 69 = .ok (.invokevirtual 84, 3) := dk_182 0 84 (dk_at dksX5_log_3 0 rfl rfl)
theorem dX5_log_72 : decode cX5_log 72 = .ok (.ifCond .eq 5, 3) := dk_153 0 5 (dk_at dksX5_log_3 3 rfl rfl)
theorem dX5_log_75 : decode cX5_log 75 = .ok (.iconst 0, 1) := dk_3 (dk_at dksX5_log_3 6 rfl rfl)
theorem dX5_log_76 : decode cX5_log 76 = .ok (.ireturn, 1) := dk_172 (dk_at dksX5_log_3 7 rfl rfl)
theorem dX5_log_77 : decode cX5_log 77 = .ok (.aload_n 0, 1) := dk_42 (dk_at dksX5_log_3 8 rfl rfl)
theorem dX5_log_78 : decode cX5_log 78 = .ok (.getfield 9, 3) := dk_180 0 9 (dk_at dksX5_log_3 9 rfl rfl)
theorem dX5_log_81 : decode cX5_log 81 = .ok (.iload_n 1, 1) := dk_27 (dk_at dksX5_log_3 12 rfl rfl)
theorem dX5_log_82 : decode cX5_log 82 = .ok (.iconst 2, 1) := dk_5 (dk_at dksX5_log_3 13 rfl rfl)
theorem dX5_log_83 : decode cX5_log 83 = .ok (.iconst 3, 1) := dk_6 (dk_at dksX5_log_3 14 rfl rfl)
theorem dX5_log_84 : decode cX5_log 84 = .ok (.iload_n 2, 1) := dk_28 (dk_at dksX5_log_3 15 rfl rfl)
theorem dX5_log_85 : decode cX5_log 85 = .ok (.imul, 1) := dk_104 (dk_at dksX5_log_3 16 rfl rfl)
theorem dX5_log_86 : decode cX5_log 86 = .ok (.iadd, 1) := dk_96 (dk_at dksX5_log_3 17 rfl rfl)
theorem dX5_log_87 : decode cX5_log 87 = .ok (.iload_n 3, 1) := dk_29 (dk_at dksX5_log_3 18 rfl rfl)
theorem dX5_log_88 : decode cX5_log 88 = .ok (.iadd, 1) := dk_96 (dk_at dksX5_log_3 19 rfl rfl)
theorem dX5_log_89 : decode cX5_log 89 = .ok (.invokestatic 44, 3) := dk_184 0 44 (dk_at dksX5_log_3 20 rfl rfl)
theorem dX5_log_92 : decode cX5_log 92 = .ok (.iaload, 1) := dk_46 (dk_at dksX5_log_3 23 rfl rfl)
theorem dX5_log_93 : decode cX5_log 93 = .ok (.ireturn, 1) := dk_172 (dk_at dksX5_log_4 0 rfl rfl)
abbrev cX5_entries : ByteArray := prog_20_method_77_code
def yX5_entries : MethodName := ⟨RX5, "entries", "(I)I"⟩
def dkwX5_entries_3 : List UInt8 := [160, 0, 7, 4, 167, 0, 4, 3, 96, 61, 132, 4, 1, 167, 255, 209, 132, 3, 1, 167, 255, 194, 28, 172]
abbrev dktX5_entries_3 : List UInt8 := dkwX5_entries_3 ++ []
def dkwX5_entries_2 : List UInt8 := [46, 162, 0, 38, 28, 42, 180, 0, 9, 29, 5, 6, 21, 4, 104, 96, 4, 96, 184, 0, 44, 46, 27]
abbrev dktX5_entries_2 : List UInt8 := dkwX5_entries_2 ++ dktX5_entries_3
def dkwX5_entries_1 : List UInt8 := [3, 61, 3, 62, 29, 16, 6, 162, 0, 62, 3, 54, 4, 21, 4, 42, 180, 0, 9, 29, 4, 184, 0, 44]
abbrev dktX5_entries_1 : List UInt8 := dkwX5_entries_1 ++ dktX5_entries_2
def dkwX5_entries_0 : List UInt8 := [42, 4, 27, 3, 8, 184, 0, 88, 154, 0, 7, 4, 167, 0, 4, 3, 182, 0, 84, 153, 0, 5, 3, 172]
abbrev dktX5_entries_0 : List UInt8 := dkwX5_entries_0 ++ dktX5_entries_1
theorem dksX5_entries_0 : cX5_entries.data.toList.drop 0 = dktX5_entries_0 := by decide +kernel
theorem dksX5_entries_1 : cX5_entries.data.toList.drop 24 = dktX5_entries_1 := dk_seg dksX5_entries_0 24 rfl rfl
theorem dksX5_entries_2 : cX5_entries.data.toList.drop 48 = dktX5_entries_2 := dk_seg dksX5_entries_1 24 rfl rfl
theorem dksX5_entries_3 : cX5_entries.data.toList.drop 71 = dktX5_entries_3 := dk_seg dksX5_entries_2 23 rfl rfl
theorem dX5_entries_0 : decode cX5_entries 0 = .ok (.aload_n 0, 1) := dk_42 (dk_at dksX5_entries_0 0 rfl rfl)
theorem dX5_entries_1 : decode cX5_entries 1 = .ok (.iconst 1, 1) := dk_4 (dk_at dksX5_entries_0 1 rfl rfl)
theorem dX5_entries_2 : decode cX5_entries 2 = .ok (.iload_n 1, 1) := dk_27 (dk_at dksX5_entries_0 2 rfl rfl)
theorem dX5_entries_3 : decode cX5_entries 3 = .ok (.iconst 0, 1) := dk_3 (dk_at dksX5_entries_0 3 rfl rfl)
theorem dX5_entries_4 : decode cX5_entries 4 = .ok (.iconst 5, 1) := dk_8 (dk_at dksX5_entries_0 4 rfl rfl)
theorem dX5_entries_5 : decode cX5_entries 5 = .ok (.invokestatic 88, 3) := dk_184 0 88 (dk_at dksX5_entries_0 5 rfl rfl)
theorem dX5_entries_8 : decode cX5_entries 8 = .ok (.ifCond .ne 7, 3) := dk_154 0 7 (dk_at dksX5_entries_0 8 rfl rfl)
theorem dX5_entries_11 : decode cX5_entries 11 = .ok (.iconst 1, 1) := dk_4 (dk_at dksX5_entries_0 11 rfl rfl)
theorem dX5_entries_12 : decode cX5_entries 12 = .ok (.goto 4, 3) := dk_167 0 4 (dk_at dksX5_entries_0 12 rfl rfl)
theorem dX5_entries_15 : decode cX5_entries 15 = .ok (.iconst 0, 1) := dk_3 (dk_at dksX5_entries_0 15 rfl rfl)
theorem dX5_entries_16 : decode cX5_entries 16 = .ok (.invokevirtual 84, 3) := dk_182 0 84 (dk_at dksX5_entries_0 16 rfl rfl)
theorem dX5_entries_19 : decode cX5_entries 19 = .ok (.ifCond .eq 5, 3) := dk_153 0 5 (dk_at dksX5_entries_0 19 rfl rfl)
theorem dX5_entries_22 : decode cX5_entries 22 = .ok (.iconst 0, 1) := dk_3 (dk_at dksX5_entries_0 22 rfl rfl)
theorem dX5_entries_23 : decode cX5_entries 23 = .ok (.ireturn, 1) := dk_172 (dk_at dksX5_entries_0 23 rfl rfl)
theorem dX5_entries_24 : decode cX5_entries 24 = .ok (.iconst 0, 1) := dk_3 (dk_at dksX5_entries_1 0 rfl rfl)
theorem dX5_entries_25 : decode cX5_entries 25 = .ok (.istore_n 2, 1) := dk_61 (dk_at dksX5_entries_1 1 rfl rfl)
theorem dX5_entries_26 : decode cX5_entries 26 = .ok (.iconst 0, 1) := dk_3 (dk_at dksX5_entries_1 2 rfl rfl)
theorem dX5_entries_27 : decode cX5_entries 27 = .ok (.istore_n 3, 1) := dk_62 (dk_at dksX5_entries_1 3 rfl rfl)
theorem dX5_entries_28 : decode cX5_entries 28 = .ok (.iload_n 3, 1) := dk_29 (dk_at dksX5_entries_1 4 rfl rfl)
theorem dX5_entries_29 : decode cX5_entries 29 = .ok (.bipush 6, 2) := dk_16 6 (dk_at dksX5_entries_1 5 rfl rfl)
theorem dX5_entries_31 : decode cX5_entries 31 = .ok (.if_icmp .ge 62, 3) := dk_162 0 62 (dk_at dksX5_entries_1 7 rfl rfl)
theorem dX5_entries_34 : decode cX5_entries 34 = .ok (.iconst 0, 1) := dk_3 (dk_at dksX5_entries_1 10 rfl rfl)
theorem dX5_entries_35 : decode cX5_entries 35 = .ok (.istore 4, 2) := dk_54 4 (dk_at dksX5_entries_1 11 rfl rfl)
theorem dX5_entries_37 : decode cX5_entries 37 = .ok (.iload 4, 2) := dk_21 4 (dk_at dksX5_entries_1 13 rfl rfl)
theorem dX5_entries_39 : decode cX5_entries 39 = .ok (.aload_n 0, 1) := dk_42 (dk_at dksX5_entries_1 15 rfl rfl)
theorem dX5_entries_40 : decode cX5_entries 40 = .ok (.getfield 9, 3) := dk_180 0 9 (dk_at dksX5_entries_1 16 rfl rfl)
theorem dX5_entries_43 : decode cX5_entries 43 = .ok (.iload_n 3, 1) := dk_29 (dk_at dksX5_entries_1 19 rfl rfl)
theorem dX5_entries_44 : decode cX5_entries 44 = .ok (.iconst 1, 1) := dk_4 (dk_at dksX5_entries_1 20 rfl rfl)
theorem dX5_entries_45 : decode cX5_entries 45 = .ok (.invokestatic 44, 3) := dk_184 0 44 (dk_at dksX5_entries_1 21 rfl rfl)
theorem dX5_entries_48 : decode cX5_entries 48 = .ok (.iaload, 1) := dk_46 (dk_at dksX5_entries_2 0 rfl rfl)
theorem dX5_entries_49 : decode cX5_entries 49 = .ok (.if_icmp .ge 38, 3) := dk_162 0 38 (dk_at dksX5_entries_2 1 rfl rfl)
theorem dX5_entries_52 : decode cX5_entries 52 = .ok (.iload_n 2, 1) := dk_28 (dk_at dksX5_entries_2 4 rfl rfl)
theorem dX5_entries_53 : decode cX5_entries 53 = .ok (.aload_n 0, 1) := dk_42 (dk_at dksX5_entries_2 5 rfl rfl)
theorem dX5_entries_54 : decode cX5_entries 54 = .ok (.getfield 9, 3) := dk_180 0 9 (dk_at dksX5_entries_2 6 rfl rfl)
theorem dX5_entries_57 : decode cX5_entries 57 = .ok (.iload_n 3, 1) := dk_29 (dk_at dksX5_entries_2 9 rfl rfl)
theorem dX5_entries_58 : decode cX5_entries 58 = .ok (.iconst 2, 1) := dk_5 (dk_at dksX5_entries_2 10 rfl rfl)
theorem dX5_entries_59 : decode cX5_entries 59 = .ok (.iconst 3, 1) := dk_6 (dk_at dksX5_entries_2 11 rfl rfl)
theorem dX5_entries_60 : decode cX5_entries 60 = .ok (.iload 4, 2) := dk_21 4 (dk_at dksX5_entries_2 12 rfl rfl)
theorem dX5_entries_62 : decode cX5_entries 62 = .ok (.imul, 1) := dk_104 (dk_at dksX5_entries_2 14 rfl rfl)
theorem dX5_entries_63 : decode cX5_entries 63 = .ok (.iadd, 1) := dk_96 (dk_at dksX5_entries_2 15 rfl rfl)
theorem dX5_entries_64 : decode cX5_entries 64 = .ok (.iconst 1, 1) := dk_4 (dk_at dksX5_entries_2 16 rfl rfl)
theorem dX5_entries_65 : decode cX5_entries 65 = .ok (.iadd, 1) := dk_96 (dk_at dksX5_entries_2 17 rfl rfl)
theorem dX5_entries_66 : decode cX5_entries 66 = .ok (.invokestatic 44, 3) := dk_184 0 44 (dk_at dksX5_entries_2 18 rfl rfl)
theorem dX5_entries_69 : decode cX5_entries 69 = .ok (.iaload, 1) := dk_46 (dk_at dksX5_entries_2 21 rfl rfl)
theorem dX5_entries_70 : decode cX5_entries 70 = .ok (.iload_n 1, 1) := dk_27 (dk_at dksX5_entries_2 22 rfl rfl)
theorem dX5_entries_71 : decode cX5_entries 71 = .ok (.if_icmp .ne 7, 3) := dk_160 0 7 (dk_at dksX5_entries_3 0 rfl rfl)
theorem dX5_entries_74 : decode cX5_entries 74 = .ok (.iconst 1, 1) := dk_4 (dk_at dksX5_entries_3 3 rfl rfl)
theorem dX5_entries_75 : decode cX5_entries 75 = .ok (.goto 4, 3) := dk_167 0 4 (dk_at dksX5_entries_3 4 rfl rfl)
theorem dX5_entries_78 : decode cX5_entries 78 = .ok (.iconst 0, 1) := dk_3 (dk_at dksX5_entries_3 7 rfl rfl)
theorem dX5_entries_79 : decode cX5_entries 79 = .ok (.iadd, 1) := dk_96 (dk_at dksX5_entries_3 8 rfl rfl)
theorem dX5_entries_80 : decode cX5_entries 80 = .ok (.istore_n 2, 1) := dk_61 (dk_at dksX5_entries_3 9 rfl rfl)
theorem dX5_entries_81 : decode cX5_entries 81 = .ok (.iinc 4 1, 3) := dk_132 4 1 (dk_at dksX5_entries_3 10 rfl rfl)
theorem dX5_entries_84 : decode cX5_entries 84 = .ok (.goto (-47), 3) := dk_167 255 209 (dk_at dksX5_entries_3 13 rfl rfl)
theorem dX5_entries_87 : decode cX5_entries 87 = .ok (.iinc 3 1, 3) := dk_132 3 1 (dk_at dksX5_entries_3 16 rfl rfl)
theorem dX5_entries_90 : decode cX5_entries 90 = .ok (.goto (-62), 3) := dk_167 255 194 (dk_at dksX5_entries_3 19 rfl rfl)
theorem dX5_entries_93 : decode cX5_entries 93 = .ok (.iload_n 2, 1) := dk_28 (dk_at dksX5_entries_3 22 rfl rfl)
theorem dX5_entries_94 : decode cX5_entries 94 = .ok (.ireturn, 1) := dk_172 (dk_at dksX5_entries_3 23 rfl rfl)
abbrev cX5_append : ByteArray := prog_20_method_78_code
def yX5_append : MethodName := ⟨RX5, "append", "(C)I"⟩
def dkwX5_append_2 : List UInt8 := [172]
abbrev dktX5_append_2 : List UInt8 := dkwX5_append_2 ++ []
def dkwX5_append_1 : List UInt8 := [42, 180, 0, 36, 42, 180, 0, 233, 27, 85, 42, 89, 180, 0, 233, 4, 96, 181, 0, 233, 42, 180, 0, 233]
abbrev dktX5_append_1 : List UInt8 := dkwX5_append_1 ++ dktX5_append_2
def dkwX5_append_0 : List UInt8 := [42, 4, 42, 180, 0, 233, 16, 60, 160, 0, 7, 4, 167, 0, 4, 3, 182, 0, 84, 153, 0, 5, 3, 172]
abbrev dktX5_append_0 : List UInt8 := dkwX5_append_0 ++ dktX5_append_1
theorem dksX5_append_0 : cX5_append.data.toList.drop 0 = dktX5_append_0 := by decide +kernel
theorem dksX5_append_1 : cX5_append.data.toList.drop 24 = dktX5_append_1 := dk_seg dksX5_append_0 24 rfl rfl
theorem dksX5_append_2 : cX5_append.data.toList.drop 48 = dktX5_append_2 := dk_seg dksX5_append_1 24 rfl rfl
theorem dX5_append_0 : decode cX5_append 0 = .ok (.aload_n 0, 1) := dk_42 (dk_at dksX5_append_0 0 rfl rfl)
theorem dX5_append_1 : decode cX5_append 1 = .ok (.iconst 1, 1) := dk_4 (dk_at dksX5_append_0 1 rfl rfl)
theorem dX5_append_2 : decode cX5_append 2 = .ok (.aload_n 0, 1) := dk_42 (dk_at dksX5_append_0 2 rfl rfl)
theorem dX5_append_3 : decode cX5_append 3 = .ok (.getfield 233, 3) := dk_180 0 233 (dk_at dksX5_append_0 3 rfl rfl)
theorem dX5_append_6 : decode cX5_append 6 = .ok (.bipush 60, 2) := dk_16 60 (dk_at dksX5_append_0 6 rfl rfl)
theorem dX5_append_8 : decode cX5_append 8 = .ok (.if_icmp .ne 7, 3) := dk_160 0 7 (dk_at dksX5_append_0 8 rfl rfl)
theorem dX5_append_11 : decode cX5_append 11 = .ok (.iconst 1, 1) := dk_4 (dk_at dksX5_append_0 11 rfl rfl)
theorem dX5_append_12 : decode cX5_append 12 = .ok (.goto 4, 3) := dk_167 0 4 (dk_at dksX5_append_0 12 rfl rfl)
theorem dX5_append_15 : decode cX5_append 15 = .ok (.iconst 0, 1) := dk_3 (dk_at dksX5_append_0 15 rfl rfl)
theorem dX5_append_16 : decode cX5_append 16 = .ok (.invokevirtual 84, 3) := dk_182 0 84 (dk_at dksX5_append_0 16 rfl rfl)
theorem dX5_append_19 : decode cX5_append 19 = .ok (.ifCond .eq 5, 3) := dk_153 0 5 (dk_at dksX5_append_0 19 rfl rfl)
theorem dX5_append_22 : decode cX5_append 22 = .ok (.iconst 0, 1) := dk_3 (dk_at dksX5_append_0 22 rfl rfl)
theorem dX5_append_23 : decode cX5_append 23 = .ok (.ireturn, 1) := dk_172 (dk_at dksX5_append_0 23 rfl rfl)
theorem dX5_append_24 : decode cX5_append 24 = .ok (.aload_n 0, 1) := dk_42 (dk_at dksX5_append_1 0 rfl rfl)
theorem dX5_append_25 : decode cX5_append 25 = .ok (.getfield 36, 3) := dk_180 0 36 (dk_at dksX5_append_1 1 rfl rfl)
theorem dX5_append_28 : decode cX5_append 28 = .ok (.aload_n 0, 1) := dk_42 (dk_at dksX5_append_1 4 rfl rfl)
theorem dX5_append_29 : decode cX5_append 29 = .ok (.getfield 233, 3) := dk_180 0 233 (dk_at dksX5_append_1 5 rfl rfl)
theorem dX5_append_32 : decode cX5_append 32 = .ok (.iload_n 1, 1) := dk_27 (dk_at dksX5_append_1 8 rfl rfl)
theorem dX5_append_33 : decode cX5_append 33 = .ok (.castore, 1) := dk_85 (dk_at dksX5_append_1 9 rfl rfl)
theorem dX5_append_34 : decode cX5_append 34 = .ok (.aload_n 0, 1) := dk_42 (dk_at dksX5_append_1 10 rfl rfl)
theorem dX5_append_35 : decode cX5_append 35 = .ok (.dup, 1) := dk_89 (dk_at dksX5_append_1 11 rfl rfl)
theorem dX5_append_36 : decode cX5_append 36 = .ok (.getfield 233, 3) := dk_180 0 233 (dk_at dksX5_append_1 12 rfl rfl)
theorem dX5_append_39 : decode cX5_append 39 = .ok (.iconst 1, 1) := dk_4 (dk_at dksX5_append_1 15 rfl rfl)
theorem dX5_append_40 : decode cX5_append 40 = .ok (.iadd, 1) := dk_96 (dk_at dksX5_append_1 16 rfl rfl)
theorem dX5_append_41 : decode cX5_append 41 = .ok (.putfield 233, 3) := dk_181 0 233 (dk_at dksX5_append_1 17 rfl rfl)
theorem dX5_append_44 : decode cX5_append 44 = .ok (.aload_n 0, 1) := dk_42 (dk_at dksX5_append_1 20 rfl rfl)
theorem dX5_append_45 : decode cX5_append 45 = .ok (.getfield 233, 3) := dk_180 0 233 (dk_at dksX5_append_1 21 rfl rfl)
theorem dX5_append_48 : decode cX5_append 48 = .ok (.ireturn, 1) := dk_172 (dk_at dksX5_append_2 0 rfl rfl)
abbrev cX5_run : ByteArray := prog_20_method_86_code
def yX5_run : MethodName := ⟨RX5, "run", "()I"⟩
def dkwX5_run_7 : List UInt8 := [182, 0, 66, 27, 172]
abbrev dktX5_run_7 : List UInt8 := dkwX5_run_7 ++ []
def dkwX5_run_6 : List UInt8 := [182, 0, 84, 153, 0, 16, 42, 180, 0, 16, 42, 180, 0, 9, 184, 0, 58, 3, 172, 42, 42, 180, 0, 16]
abbrev dktX5_run_6 : List UInt8 := dkwX5_run_6 ++ dktX5_run_7
def dkwX5_run_5 : List UInt8 := [167, 255, 208, 42, 3, 181, 0, 62, 42, 3, 181, 0, 233, 42, 5, 28, 154, 0, 7, 4, 167, 0, 4, 3]
abbrev dktX5_run_5 : List UInt8 := dkwX5_run_5 ++ dktX5_run_6
def dkwX5_run_4 : List UInt8 := [182, 1, 39, 154, 0, 7, 4, 167, 0, 4, 3, 61, 28, 154, 0, 8, 42, 29, 182, 0, 80, 132, 3, 1]
abbrev dktX5_run_4 : List UInt8 := dkwX5_run_4 ++ dktX5_run_5
def dkwX5_run_3 : List UInt8 := [29, 27, 162, 0, 49, 28, 153, 0, 45, 42, 182, 1, 11, 42, 89, 180, 0, 239, 4, 96, 181, 0, 239, 42]
abbrev dktX5_run_3 : List UInt8 := dkwX5_run_3 ++ dktX5_run_4
def dkwX5_run_2 : List UInt8 := [180, 0, 9, 42, 180, 0, 16, 184, 0, 58, 42, 4, 181, 0, 62, 4, 61, 42, 3, 181, 0, 239, 3, 62]
abbrev dktX5_run_2 : List UInt8 := dkwX5_run_2 ++ dktX5_run_3
def dkwX5_run_1 : List UInt8 := [181, 0, 40, 42, 4, 42, 180, 0, 236, 182, 0, 84, 153, 0, 10, 42, 3, 181, 0, 233, 3, 172, 42]
abbrev dktX5_run_1 : List UInt8 := dkwX5_run_1 ++ dktX5_run_2
def dkwX5_run_0 : List UInt8 := [42, 182, 1, 35, 60, 42, 42, 180, 0, 236, 153, 0, 10, 42, 180, 0, 239, 167, 0, 7, 42, 180, 0, 40]
abbrev dktX5_run_0 : List UInt8 := dkwX5_run_0 ++ dktX5_run_1
theorem dksX5_run_0 : cX5_run.data.toList.drop 0 = dktX5_run_0 := by decide +kernel
theorem dksX5_run_1 : cX5_run.data.toList.drop 24 = dktX5_run_1 := dk_seg dksX5_run_0 24 rfl rfl
theorem dksX5_run_2 : cX5_run.data.toList.drop 47 = dktX5_run_2 := dk_seg dksX5_run_1 23 rfl rfl
theorem dksX5_run_3 : cX5_run.data.toList.drop 71 = dktX5_run_3 := dk_seg dksX5_run_2 24 rfl rfl
theorem dksX5_run_4 : cX5_run.data.toList.drop 95 = dktX5_run_4 := dk_seg dksX5_run_3 24 rfl rfl
theorem dksX5_run_5 : cX5_run.data.toList.drop 119 = dktX5_run_5 := dk_seg dksX5_run_4 24 rfl rfl
theorem dksX5_run_6 : cX5_run.data.toList.drop 143 = dktX5_run_6 := dk_seg dksX5_run_5 24 rfl rfl
theorem dksX5_run_7 : cX5_run.data.toList.drop 167 = dktX5_run_7 := dk_seg dksX5_run_6 24 rfl rfl
theorem dX5_run_0 : decode cX5_run 0 = .ok (.aload_n 0, 1) := dk_42 (dk_at dksX5_run_0 0 rfl rfl)
theorem dX5_run_1 : decode cX5_run 1 = .ok (.invokevirtual 291, 3) := dk_182 1 35 (dk_at dksX5_run_0 1 rfl rfl)
theorem dX5_run_4 : decode cX5_run 4 = .ok (.istore_n 1, 1) := dk_60 (dk_at dksX5_run_0 4 rfl rfl)
theorem dX5_run_5 : decode cX5_run 5 = .ok (.aload_n 0, 1) := dk_42 (dk_at dksX5_run_0 5 rfl rfl)
theorem dX5_run_6 : decode cX5_run 6 = .ok (.aload_n 0, 1) := dk_42 (dk_at dksX5_run_0 6 rfl rfl)
theorem dX5_run_7 : decode cX5_run 7 = .ok (.getfield 236, 3) := dk_180 0 236 (dk_at dksX5_run_0 7 rfl rfl)
theorem dX5_run_10 : decode cX5_run 10 = .ok (.ifCond .eq 10, 3) := dk_153 0 10 (dk_at dksX5_run_0 10 rfl rfl)
theorem dX5_run_13 : decode cX5_run 13 = .ok (.aload_n 0, 1) := dk_42 (dk_at dksX5_run_0 13 rfl rfl)
theorem dX5_run_14 : decode cX5_run 14 = .ok (.getfield 239, 3) := dk_180 0 239 (dk_at dksX5_run_0 14 rfl rfl)
theorem dX5_run_17 : decode cX5_run 17 = .ok (.goto 7, 3) := dk_167 0 7 (dk_at dksX5_run_0 17 rfl rfl)
theorem dX5_run_20 : decode cX5_run 20 = .ok (.aload_n 0, 1) := dk_42 (dk_at dksX5_run_0 20 rfl rfl)
theorem dX5_run_21 : decode cX5_run 21 = .ok (.getfield 40, 3) := dk_180 0 40 (dk_at dksX5_run_0 21 rfl rfl)
theorem dX5_run_24 : decode cX5_run 24 = .ok (.putfield 40, 3) := dk_181 0 40 (dk_at dksX5_run_1 0 rfl rfl)
theorem dX5_run_27 : decode cX5_run 27 = .ok (.aload_n 0, 1) := dk_42 (dk_at dksX5_run_1 3 rfl rfl)
theorem dX5_run_28 : decode cX5_run 28 = .ok (.iconst 1, 1) := dk_4 (dk_at dksX5_run_1 4 rfl rfl)
theorem dX5_run_29 : decode cX5_run 29 = .ok (.aload_n 0, 1) := dk_42 (dk_at dksX5_run_1 5 rfl rfl)
theorem dX5_run_30 : decode cX5_run 30 = .ok (.getfield 236, 3) := dk_180 0 236 (dk_at dksX5_run_1 6 rfl rfl)
theorem dX5_run_33 : decode cX5_run 33 = .ok (.invokevirtual 84, 3) := dk_182 0 84 (dk_at dksX5_run_1 9 rfl rfl)
theorem dX5_run_36 : decode cX5_run 36 = .ok (.ifCond .eq 10, 3) := dk_153 0 10 (dk_at dksX5_run_1 12 rfl rfl)
theorem dX5_run_39 : decode cX5_run 39 = .ok (.aload_n 0, 1) := dk_42 (dk_at dksX5_run_1 15 rfl rfl)
theorem dX5_run_40 : decode cX5_run 40 = .ok (.iconst 0, 1) := dk_3 (dk_at dksX5_run_1 16 rfl rfl)
theorem dX5_run_41 : decode cX5_run 41 = .ok (.putfield 233, 3) := dk_181 0 233 (dk_at dksX5_run_1 17 rfl rfl)
theorem dX5_run_44 : decode cX5_run 44 = .ok (.iconst 0, 1) := dk_3 (dk_at dksX5_run_1 20 rfl rfl)
theorem dX5_run_45 : decode cX5_run 45 = .ok (.ireturn, 1) := dk_172 (dk_at dksX5_run_1 21 rfl rfl)
theorem dX5_run_46 : decode cX5_run 46 = .ok (.aload_n 0, 1) := dk_42 (dk_at dksX5_run_1 22 rfl rfl)
theorem dX5_run_47 : decode cX5_run 47 = .ok (.getfield 9, 3) := dk_180 0 9 (dk_at dksX5_run_2 0 rfl rfl)
theorem dX5_run_50 : decode cX5_run 50 = .ok (.aload_n 0, 1) := dk_42 (dk_at dksX5_run_2 3 rfl rfl)
theorem dX5_run_51 : decode cX5_run 51 = .ok (.getfield 16, 3) := dk_180 0 16 (dk_at dksX5_run_2 4 rfl rfl)
theorem dX5_run_54 : decode cX5_run 54 = .ok (.invokestatic 58, 3) := dk_184 0 58 (dk_at dksX5_run_2 7 rfl rfl)
theorem dX5_run_57 : decode cX5_run 57 = .ok (.aload_n 0, 1) := dk_42 (dk_at dksX5_run_2 10 rfl rfl)
theorem dX5_run_58 : decode cX5_run 58 = .ok (.iconst 1, 1) := dk_4 (dk_at dksX5_run_2 11 rfl rfl)
theorem dX5_run_59 : decode cX5_run 59 = .ok (.putfield 62, 3) := dk_181 0 62 (dk_at dksX5_run_2 12 rfl rfl)
theorem dX5_run_62 : decode cX5_run 62 = .ok (.iconst 1, 1) := dk_4 (dk_at dksX5_run_2 15 rfl rfl)
theorem dX5_run_63 : decode cX5_run 63 = .ok (.istore_n 2, 1) := dk_61 (dk_at dksX5_run_2 16 rfl rfl)
theorem dX5_run_64 : decode cX5_run 64 = .ok (.aload_n 0, 1) := dk_42 (dk_at dksX5_run_2 17 rfl rfl)
theorem dX5_run_65 : decode cX5_run 65 = .ok (.iconst 0, 1) := dk_3 (dk_at dksX5_run_2 18 rfl rfl)
theorem dX5_run_66 : decode cX5_run 66 = .ok (.putfield 239, 3) := dk_181 0 239 (dk_at dksX5_run_2 19 rfl rfl)
theorem dX5_run_69 : decode cX5_run 69 = .ok (.iconst 0, 1) := dk_3 (dk_at dksX5_run_2 22 rfl rfl)
theorem dX5_run_70 : decode cX5_run 70 = .ok (.istore_n 3, 1) := dk_62 (dk_at dksX5_run_2 23 rfl rfl)
theorem dX5_run_71 : decode cX5_run 71 = .ok (.iload_n 3, 1) := dk_29 (dk_at dksX5_run_3 0 rfl rfl)
theorem dX5_run_72 : decode cX5_run 72 = .ok (.iload_n 1, 1) := dk_27 (dk_at dksX5_run_3 1 rfl rfl)
theorem dX5_run_73 : decode cX5_run 73 = .ok (.if_icmp .ge 49, 3) := dk_162 0 49 (dk_at dksX5_run_3 2 rfl rfl)
theorem dX5_run_76 : decode cX5_run 76 = .ok (.iload_n 2, 1) := dk_28 (dk_at dksX5_run_3 5 rfl rfl)
theorem dX5_run_77 : decode cX5_run 77 = .ok (.ifCond .eq 45, 3) := dk_153 0 45 (dk_at dksX5_run_3 6 rfl rfl)
theorem dX5_run_80 : decode cX5_run 80 = .ok (.aload_n 0, 1) := dk_42 (dk_at dksX5_run_3 9 rfl rfl)
theorem dX5_run_81 : decode cX5_run 81 = .ok (.invokevirtual 267, 3) := dk_182 1 11 (dk_at dksX5_run_3 10 rfl rfl)
theorem dX5_run_84 : decode cX5_run 84 = .ok (.aload_n 0, 1) := dk_42 (dk_at dksX5_run_3 13 rfl rfl)
theorem dX5_run_85 : decode cX5_run 85 = .ok (.dup, 1) := dk_89 (dk_at dksX5_run_3 14 rfl rfl)
theorem dX5_run_86 : decode cX5_run 86 = .ok (.getfield 239, 3) := dk_180 0 239 (dk_at dksX5_run_3 15 rfl rfl)
theorem dX5_run_89 : decode cX5_run 89 = .ok (.iconst 1, 1) := dk_4 (dk_at dksX5_run_3 18 rfl rfl)
theorem dX5_run_90 : decode cX5_run 90 = .ok (.iadd, 1) := dk_96 (dk_at dksX5_run_3 19 rfl rfl)
theorem dX5_run_91 : decode cX5_run 91 = .ok (.putfield 239, 3) := dk_181 0 239 (dk_at dksX5_run_3 20 rfl rfl)
theorem dX5_run_94 : decode cX5_run 94 = .ok (.aload_n 0, 1) := dk_42 (dk_at dksX5_run_3 23 rfl rfl)
theorem dX5_run_95 : decode cX5_run 95 = .ok (.invokevirtual 295, 3) := dk_182 1 39 (dk_at dksX5_run_4 0 rfl rfl)
theorem dX5_run_98 : decode cX5_run 98 = .ok (.ifCond .ne 7, 3) := dk_154 0 7 (dk_at dksX5_run_4 3 rfl rfl)
theorem dX5_run_101 : decode cX5_run 101 = .ok (.iconst 1, 1) := dk_4 (dk_at dksX5_run_4 6 rfl rfl)
theorem dX5_run_102 : decode cX5_run 102 = .ok (.goto 4, 3) := dk_167 0 4 (dk_at dksX5_run_4 7 rfl rfl)
theorem dX5_run_105 : decode cX5_run 105 = .ok (.iconst 0, 1) := dk_3 (dk_at dksX5_run_4 10 rfl rfl)
theorem dX5_run_106 : decode cX5_run 106 = .ok (.istore_n 2, 1) := dk_61 (dk_at dksX5_run_4 11 rfl rfl)
theorem dX5_run_107 : decode cX5_run 107 = .ok (.iload_n 2, 1) := dk_28 (dk_at dksX5_run_4 12 rfl rfl)
theorem dX5_run_108 : decode cX5_run 108 = .ok (.ifCond .ne 8, 3) := dk_154 0 8 (dk_at dksX5_run_4 13 rfl rfl)
theorem dX5_run_111 : decode cX5_run 111 = .ok (.aload_n 0, 1) := dk_42 (dk_at dksX5_run_4 16 rfl rfl)
theorem dX5_run_112 : decode cX5_run 112 = .ok (.iload_n 3, 1) := dk_29 (dk_at dksX5_run_4 17 rfl rfl)
theorem dX5_run_113 : decode cX5_run 113 = .ok (.invokevirtual 80, 3) := dk_182 0 80 (dk_at dksX5_run_4 18 rfl rfl)
theorem dX5_run_116 : decode cX5_run 116 = .ok (.iinc 3 1, 3) := dk_132 3 1 (dk_at dksX5_run_4 21 rfl rfl)
theorem dX5_run_119 : decode cX5_run 119 = .ok (.goto (-48), 3) := dk_167 255 208 (dk_at dksX5_run_5 0 rfl rfl)
theorem dX5_run_122 : decode cX5_run 122 = .ok (.aload_n 0, 1) := dk_42 (dk_at dksX5_run_5 3 rfl rfl)
theorem dX5_run_123 : decode cX5_run 123 = .ok (.iconst 0, 1) := dk_3 (dk_at dksX5_run_5 4 rfl rfl)
theorem dX5_run_124 : decode cX5_run 124 = .ok (.putfield 62, 3) := dk_181 0 62 (dk_at dksX5_run_5 5 rfl rfl)
theorem dX5_run_127 : decode cX5_run 127 = .ok (.aload_n 0, 1) := dk_42 (dk_at dksX5_run_5 8 rfl rfl)
theorem dX5_run_128 : decode cX5_run 128 = .ok (.iconst 0, 1) := dk_3 (dk_at dksX5_run_5 9 rfl rfl)
theorem dX5_run_129 : decode cX5_run 129 = .ok (.putfield 233, 3) := dk_181 0 233 (dk_at dksX5_run_5 10 rfl rfl)
theorem dX5_run_132 : decode cX5_run 132 = .ok (.aload_n 0, 1) := dk_42 (dk_at dksX5_run_5 13 rfl rfl)
theorem dX5_run_133 : decode cX5_run 133 = .ok (.iconst 2, 1) := dk_5 (dk_at dksX5_run_5 14 rfl rfl)
theorem dX5_run_134 : decode cX5_run 134 = .ok (.iload_n 2, 1) := dk_28 (dk_at dksX5_run_5 15 rfl rfl)
theorem dX5_run_135 : decode cX5_run 135 = .ok (.ifCond .ne 7, 3) := dk_154 0 7 (dk_at dksX5_run_5 16 rfl rfl)
theorem dX5_run_138 : decode cX5_run 138 = .ok (.iconst 1, 1) := dk_4 (dk_at dksX5_run_5 19 rfl rfl)
theorem dX5_run_139 : decode cX5_run 139 = .ok (.goto 4, 3) := dk_167 0 4 (dk_at dksX5_run_5 20 rfl rfl)
theorem dX5_run_142 : decode cX5_run 142 = .ok (.iconst 0, 1) := dk_3 (dk_at dksX5_run_5 23 rfl rfl)
theorem dX5_run_143 : decode cX5_run 143 = .ok (.invokevirtual 84, 3) := dk_182 0 84 (dk_at dksX5_run_6 0 rfl rfl)
theorem dX5_run_146 : decode cX5_run 146 = .ok (.ifCond .eq 16, 3) := dk_153 0 16 (dk_at dksX5_run_6 3 rfl rfl)
theorem dX5_run_149 : decode cX5_run 149 = .ok (.aload_n 0, 1) := dk_42 (dk_at dksX5_run_6 6 rfl rfl)
theorem dX5_run_150 : decode cX5_run 150 = .ok (.getfield 16, 3) := dk_180 0 16 (dk_at dksX5_run_6 7 rfl rfl)
theorem dX5_run_153 : decode cX5_run 153 = .ok (.aload_n 0, 1) := dk_42 (dk_at dksX5_run_6 10 rfl rfl)
theorem dX5_run_154 : decode cX5_run 154 = .ok (.getfield 9, 3) := dk_180 0 9 (dk_at dksX5_run_6 11 rfl rfl)
theorem dX5_run_157 : decode cX5_run 157 = .ok (.invokestatic 58, 3) := dk_184 0 58 (dk_at dksX5_run_6 14 rfl rfl)
theorem dX5_run_160 : decode cX5_run 160 = .ok (.iconst 0, 1) := dk_3 (dk_at dksX5_run_6 17 rfl rfl)
theorem dX5_run_161 : decode cX5_run 161 = .ok (.ireturn, 1) := dk_172 (dk_at dksX5_run_6 18 rfl rfl)
theorem dX5_run_162 : decode cX5_run 162 = .ok (.aload_n 0, 1) := dk_42 (dk_at dksX5_run_6 19 rfl rfl)
theorem dX5_run_163 : decode cX5_run 163 = .ok (.aload_n 0, 1) := dk_42 (dk_at dksX5_run_6 20 rfl rfl)
theorem dX5_run_164 : decode cX5_run 164 = .ok (.getfield 16, 3) := dk_180 0 16 (dk_at dksX5_run_6 21 rfl rfl)
theorem dX5_run_167 : decode cX5_run 167 = .ok (.invokevirtual 66, 3) := dk_182 0 66 (dk_at dksX5_run_7 0 rfl rfl)
theorem dX5_run_170 : decode cX5_run 170 = .ok (.iload_n 1, 1) := dk_27 (dk_at dksX5_run_7 3 rfl rfl)
theorem dX5_run_171 : decode cX5_run 171 = .ok (.ireturn, 1) := dk_172 (dk_at dksX5_run_7 4 rfl rfl)
abbrev cX5_countOrders : ByteArray := prog_20_method_84_code
def yX5_countOrders : MethodName := ⟨RX5, "countOrders", "()I"⟩
def dkwX5_countOrders_2 : List UInt8 := [167, 255, 225, 27, 172]
abbrev dktX5_countOrders_2 : List UInt8 := dkwX5_countOrders_2 ++ []
def dkwX5_countOrders_1 : List UInt8 := [180, 0, 239, 42, 180, 0, 233, 162, 0, 19, 42, 16, 59, 182, 1, 4, 42, 182, 1, 11, 132, 1, 1]
abbrev dktX5_countOrders_1 : List UInt8 := dkwX5_countOrders_1 ++ dktX5_countOrders_2
def dkwX5_countOrders_0 : List UInt8 := [42, 3, 181, 0, 239, 42, 3, 181, 0, 236, 4, 60, 42, 182, 1, 11, 42, 180, 0, 236, 154, 0, 30, 42]
abbrev dktX5_countOrders_0 : List UInt8 := dkwX5_countOrders_0 ++ dktX5_countOrders_1
theorem dksX5_countOrders_0 : cX5_countOrders.data.toList.drop 0 = dktX5_countOrders_0 := by decide +kernel
theorem dksX5_countOrders_1 : cX5_countOrders.data.toList.drop 24 = dktX5_countOrders_1 := dk_seg dksX5_countOrders_0 24 rfl rfl
theorem dksX5_countOrders_2 : cX5_countOrders.data.toList.drop 47 = dktX5_countOrders_2 := dk_seg dksX5_countOrders_1 23 rfl rfl
theorem dX5_countOrders_0 : decode cX5_countOrders 0 = .ok (.aload_n 0, 1) := dk_42 (dk_at dksX5_countOrders_0 0 rfl rfl)
theorem dX5_countOrders_1 : decode cX5_countOrders 1 = .ok (.iconst 0, 1) := dk_3 (dk_at dksX5_countOrders_0 1 rfl rfl)
theorem dX5_countOrders_2 : decode cX5_countOrders 2 = .ok (.putfield 239, 3) := dk_181 0 239 (dk_at dksX5_countOrders_0 2 rfl rfl)
theorem dX5_countOrders_5 : decode cX5_countOrders 5 = .ok (.aload_n 0, 1) := dk_42 (dk_at dksX5_countOrders_0 5 rfl rfl)
theorem dX5_countOrders_6 : decode cX5_countOrders 6 = .ok (.iconst 0, 1) := dk_3 (dk_at dksX5_countOrders_0 6 rfl rfl)
theorem dX5_countOrders_7 : decode cX5_countOrders 7 = .ok (.putfield 236, 3) := dk_181 0 236 (dk_at dksX5_countOrders_0 7 rfl rfl)
theorem dX5_countOrders_10 : decode cX5_countOrders 10 = .ok (.iconst 1, 1) := dk_4 (dk_at dksX5_countOrders_0 10 rfl rfl)
theorem dX5_countOrders_11 : decode cX5_countOrders 11 = .ok (.istore_n 1, 1) := dk_60 (dk_at dksX5_countOrders_0 11 rfl rfl)
theorem dX5_countOrders_12 : decode cX5_countOrders 12 = .ok (.aload_n 0, 1) := dk_42 (dk_at dksX5_countOrders_0 12 rfl rfl)
theorem dX5_countOrders_13 : decode cX5_countOrders 13 = .ok (.invokevirtual 267, 3) := dk_182 1 11 (dk_at dksX5_countOrders_0 13 rfl rfl)
theorem dX5_countOrders_16 : decode cX5_countOrders 16 = .ok (.aload_n 0, 1) := dk_42 (dk_at dksX5_countOrders_0 16 rfl rfl)
theorem dX5_countOrders_17 : decode cX5_countOrders 17 = .ok (.getfield 236, 3) := dk_180 0 236 (dk_at dksX5_countOrders_0 17 rfl rfl)
theorem dX5_countOrders_20 : decode cX5_countOrders 20 = .ok (.ifCond .ne 30, 3) := dk_154 0 30 (dk_at dksX5_countOrders_0 20 rfl rfl)
theorem dX5_countOrders_23 : decode cX5_countOrders 23 = .ok (.aload_n 0, 1) := dk_42 (dk_at dksX5_countOrders_0 23 rfl rfl)
theorem dX5_countOrders_24 : decode cX5_countOrders 24 = .ok (.getfield 239, 3) := dk_180 0 239 (dk_at dksX5_countOrders_1 0 rfl rfl)
theorem dX5_countOrders_27 : decode cX5_countOrders 27 = .ok (.aload_n 0, 1) := dk_42 (dk_at dksX5_countOrders_1 3 rfl rfl)
theorem dX5_countOrders_28 : decode cX5_countOrders 28 = .ok (.getfield 233, 3) := dk_180 0 233 (dk_at dksX5_countOrders_1 4 rfl rfl)
theorem dX5_countOrders_31 : decode cX5_countOrders 31 = .ok (.if_icmp .ge 19, 3) := dk_162 0 19 (dk_at dksX5_countOrders_1 7 rfl rfl)
theorem dX5_countOrders_34 : decode cX5_countOrders 34 = .ok (.aload_n 0, 1) := dk_42 (dk_at dksX5_countOrders_1 10 rfl rfl)
theorem dX5_countOrders_35 : decode cX5_countOrders 35 = .ok (.bipush 59, 2) := dk_16 59 (dk_at dksX5_countOrders_1 11 rfl rfl)
theorem dX5_countOrders_37 : decode cX5_countOrders 37 = .ok (.invokevirtual 260, 3) := dk_182 1 4 (dk_at dksX5_countOrders_1 13 rfl rfl)
theorem dX5_countOrders_40 : decode cX5_countOrders 40 = .ok (.aload_n 0, 1) := dk_42 (dk_at dksX5_countOrders_1 16 rfl rfl)
theorem dX5_countOrders_41 : decode cX5_countOrders 41 = .ok (.invokevirtual 267, 3) := dk_182 1 11 (dk_at dksX5_countOrders_1 17 rfl rfl)
theorem dX5_countOrders_44 : decode cX5_countOrders 44 = .ok (.iinc 1 1, 3) := dk_132 1 1 (dk_at dksX5_countOrders_1 20 rfl rfl)
theorem dX5_countOrders_47 : decode cX5_countOrders 47 = .ok (.goto (-31), 3) := dk_167 255 225 (dk_at dksX5_countOrders_2 0 rfl rfl)
theorem dX5_countOrders_50 : decode cX5_countOrders 50 = .ok (.iload_n 1, 1) := dk_27 (dk_at dksX5_countOrders_2 3 rfl rfl)
theorem dX5_countOrders_51 : decode cX5_countOrders 51 = .ok (.ireturn, 1) := dk_172 (dk_at dksX5_countOrders_2 4 rfl rfl)
abbrev cX5_readOrder : ByteArray := prog_20_method_83_code
def yX5_readOrder : MethodName := ⟨RX5, "readOrder", "()V"⟩
def dkwX5_readOrder_6 : List UInt8 := [16, 100, 160, 0, 7, 5, 167, 0, 4, 4, 182, 0, 254, 181, 1, 8, 177]
abbrev dktX5_readOrder_6 : List UInt8 := dkwX5_readOrder_6 ++ []
def dkwX5_readOrder_5 : List UInt8 := [4, 182, 0, 254, 181, 1, 1, 27, 16, 32, 159, 0, 30, 42, 27, 182, 1, 4, 42, 42, 42, 180, 0, 246]
abbrev dktX5_readOrder_5 : List UInt8 := dkwX5_readOrder_5 ++ dktX5_readOrder_6
def dkwX5_readOrder_4 : List UInt8 := [3, 167, 0, 4, 4, 96, 181, 0, 239, 42, 42, 42, 180, 0, 246, 16, 119, 160, 0, 7, 5, 167, 0, 4]
abbrev dktX5_readOrder_4 : List UInt8 := dkwX5_readOrder_4 ++ dktX5_readOrder_5
def dkwX5_readOrder_3 : List UInt8 := [159, 0, 7, 4, 167, 0, 4, 3, 128, 181, 0, 236, 42, 89, 180, 0, 239, 42, 180, 0, 236, 153, 0, 7]
abbrev dktX5_readOrder_3 : List UInt8 := dkwX5_readOrder_3 ++ dktX5_readOrder_4
def dkwX5_readOrder_2 : List UInt8 := [180, 0, 236, 27, 16, 32, 160, 0, 25, 42, 180, 0, 246, 16, 119, 159, 0, 16, 42, 180, 0, 246, 16, 108]
abbrev dktX5_readOrder_2 : List UInt8 := dkwX5_readOrder_2 ++ dktX5_readOrder_3
def dkwX5_readOrder_1 : List UInt8 := [180, 0, 239, 52, 167, 0, 5, 16, 32, 181, 0, 246, 42, 180, 0, 246, 184, 0, 250, 60, 42, 89]
abbrev dktX5_readOrder_1 : List UInt8 := dkwX5_readOrder_1 ++ dktX5_readOrder_2
def dkwX5_readOrder_0 : List UInt8 := [42, 42, 180, 0, 236, 154, 0, 26, 42, 180, 0, 239, 42, 180, 0, 233, 162, 0, 15, 42, 180, 0, 36, 42]
abbrev dktX5_readOrder_0 : List UInt8 := dkwX5_readOrder_0 ++ dktX5_readOrder_1
theorem dksX5_readOrder_0 : cX5_readOrder.data.toList.drop 0 = dktX5_readOrder_0 := by decide +kernel
theorem dksX5_readOrder_1 : cX5_readOrder.data.toList.drop 24 = dktX5_readOrder_1 := dk_seg dksX5_readOrder_0 24 rfl rfl
theorem dksX5_readOrder_2 : cX5_readOrder.data.toList.drop 46 = dktX5_readOrder_2 := dk_seg dksX5_readOrder_1 22 rfl rfl
theorem dksX5_readOrder_3 : cX5_readOrder.data.toList.drop 70 = dktX5_readOrder_3 := dk_seg dksX5_readOrder_2 24 rfl rfl
theorem dksX5_readOrder_4 : cX5_readOrder.data.toList.drop 94 = dktX5_readOrder_4 := dk_seg dksX5_readOrder_3 24 rfl rfl
theorem dksX5_readOrder_5 : cX5_readOrder.data.toList.drop 118 = dktX5_readOrder_5 := dk_seg dksX5_readOrder_4 24 rfl rfl
theorem dksX5_readOrder_6 : cX5_readOrder.data.toList.drop 142 = dktX5_readOrder_6 := dk_seg dksX5_readOrder_5 24 rfl rfl
theorem dX5_readOrder_0 : decode cX5_readOrder 0 = .ok (.aload_n 0, 1) := dk_42 (dk_at dksX5_readOrder_0 0 rfl rfl)
theorem dX5_readOrder_1 : decode cX5_readOrder 1 = .ok (.aload_n 0, 1) := dk_42 (dk_at dksX5_readOrder_0 1 rfl rfl)
theorem dX5_readOrder_2 : decode cX5_readOrder 2 = .ok (.getfield 236, 3) := dk_180 0 236 (dk_at dksX5_readOrder_0 2 rfl rfl)
theorem dX5_readOrder_5 : decode cX5_readOrder 5 = .ok (.ifCond .ne 26, 3) := dk_154 0 26 (dk_at dksX5_readOrder_0 5 rfl rfl)
theorem dX5_readOrder_8 : decode cX5_readOrder 8 = .ok (.aload_n 0, 1) := dk_42 (dk_at dksX5_readOrder_0 8 rfl rfl)
theorem dX5_readOrder_9 : decode cX5_readOrder 9 = .ok (.getfield 239, 3) := dk_180 0 239 (dk_at dksX5_readOrder_0 9 rfl rfl)
theorem dX5_readOrder_12 : decode cX5_readOrder 12 = .ok (.aload_n 0, 1) := dk_42 (dk_at dksX5_readOrder_0 12 rfl rfl)
theorem dX5_readOrder_13 : decode cX5_readOrder 13 = .ok (.getfield 233, 3) := dk_180 0 233 (dk_at dksX5_readOrder_0 13 rfl rfl)
theorem dX5_readOrder_16 : decode cX5_readOrder 16 = .ok (.if_icmp .ge 15, 3) := dk_162 0 15 (dk_at dksX5_readOrder_0 16 rfl rfl)
theorem dX5_readOrder_19 : decode cX5_readOrder 19 = .ok (.aload_n 0, 1) := dk_42 (dk_at dksX5_readOrder_0 19 rfl rfl)
theorem dX5_readOrder_20 : decode cX5_readOrder 20 = .ok (.getfield 36, 3) := dk_180 0 36 (dk_at dksX5_readOrder_0 20 rfl rfl)
theorem dX5_readOrder_23 : decode cX5_readOrder 23 = .ok (.aload_n 0, 1) := dk_42 (dk_at dksX5_readOrder_0 23 rfl rfl)
theorem dX5_readOrder_24 : decode cX5_readOrder 24 = .ok (.getfield 239, 3) := dk_180 0 239 (dk_at dksX5_readOrder_1 0 rfl rfl)
theorem dX5_readOrder_27 : decode cX5_readOrder 27 = .ok (.caload, 1) := dk_52 (dk_at dksX5_readOrder_1 3 rfl rfl)
theorem dX5_readOrder_28 : decode cX5_readOrder 28 = .ok (.goto 5, 3) := dk_167 0 5 (dk_at dksX5_readOrder_1 4 rfl rfl)
theorem dX5_readOrder_31 : decode cX5_readOrder 31 = .ok (.bipush 32, 2) := dk_16 32 (dk_at dksX5_readOrder_1 7 rfl rfl)
theorem dX5_readOrder_33 : decode cX5_readOrder 33 = .ok (.putfield 246, 3) := dk_181 0 246 (dk_at dksX5_readOrder_1 9 rfl rfl)
theorem dX5_readOrder_36 : decode cX5_readOrder 36 = .ok (.aload_n 0, 1) := dk_42 (dk_at dksX5_readOrder_1 12 rfl rfl)
theorem dX5_readOrder_37 : decode cX5_readOrder 37 = .ok (.getfield 246, 3) := dk_180 0 246 (dk_at dksX5_readOrder_1 13 rfl rfl)
theorem dX5_readOrder_40 : decode cX5_readOrder 40 = .ok (.invokestatic 250, 3) := dk_184 0 250 (dk_at dksX5_readOrder_1 16 rfl rfl)
theorem dX5_readOrder_43 : decode cX5_readOrder 43 = .ok (.istore_n 1, 1) := dk_60 (dk_at dksX5_readOrder_1 19 rfl rfl)
theorem dX5_readOrder_44 : decode cX5_readOrder 44 = .ok (.aload_n 0, 1) := dk_42 (dk_at dksX5_readOrder_1 20 rfl rfl)
theorem dX5_readOrder_45 : decode cX5_readOrder 45 = .ok (.dup, 1) := dk_89 (dk_at dksX5_readOrder_1 21 rfl rfl)
theorem dX5_readOrder_46 : decode cX5_readOrder 46 = .ok (.getfield 236, 3) := dk_180 0 236 (dk_at dksX5_readOrder_2 0 rfl rfl)
theorem dX5_readOrder_49 : decode cX5_readOrder 49 = .ok (.iload_n 1, 1) := dk_27 (dk_at dksX5_readOrder_2 3 rfl rfl)
theorem dX5_readOrder_50 : decode cX5_readOrder 50 = .ok (.bipush 32, 2) := dk_16 32 (dk_at dksX5_readOrder_2 4 rfl rfl)
theorem dX5_readOrder_52 : decode cX5_readOrder 52 = .ok (.if_icmp .ne 25, 3) := dk_160 0 25 (dk_at dksX5_readOrder_2 6 rfl rfl)
theorem dX5_readOrder_55 : decode cX5_readOrder 55 = .ok (.aload_n 0, 1) := dk_42 (dk_at dksX5_readOrder_2 9 rfl rfl)
theorem dX5_readOrder_56 : decode cX5_readOrder 56 = .ok (.getfield 246, 3) := dk_180 0 246 (dk_at dksX5_readOrder_2 10 rfl rfl)
theorem dX5_readOrder_59 : decode cX5_readOrder 59 = .ok (.bipush 119, 2) := dk_16 119 (dk_at dksX5_readOrder_2 13 rfl rfl)
theorem dX5_readOrder_61 : decode cX5_readOrder 61 = .ok (.if_icmp .eq 16, 3) := dk_159 0 16 (dk_at dksX5_readOrder_2 15 rfl rfl)
theorem dX5_readOrder_64 : decode cX5_readOrder 64 = .ok (.aload_n 0, 1) := dk_42 (dk_at dksX5_readOrder_2 18 rfl rfl)
theorem dX5_readOrder_65 : decode cX5_readOrder 65 = .ok (.getfield 246, 3) := dk_180 0 246 (dk_at dksX5_readOrder_2 19 rfl rfl)
theorem dX5_readOrder_68 : decode cX5_readOrder 68 = .ok (.bipush 108, 2) := dk_16 108 (dk_at dksX5_readOrder_2 22 rfl rfl)
theorem dX5_readOrder_70 : decode cX5_readOrder 70 = .ok (.if_icmp .eq 7, 3) := dk_159 0 7 (dk_at dksX5_readOrder_3 0 rfl rfl)
theorem dX5_readOrder_73 : decode cX5_readOrder 73 = .ok (.iconst 1, 1) := dk_4 (dk_at dksX5_readOrder_3 3 rfl rfl)
theorem dX5_readOrder_74 : decode cX5_readOrder 74 = .ok (.goto 4, 3) := dk_167 0 4 (dk_at dksX5_readOrder_3 4 rfl rfl)
theorem dX5_readOrder_77 : decode cX5_readOrder 77 = .ok (.iconst 0, 1) := dk_3 (dk_at dksX5_readOrder_3 7 rfl rfl)
theorem dX5_readOrder_78 : decode cX5_readOrder 78 = .ok (.ior, 1) := dk_128 (dk_at dksX5_readOrder_3 8 rfl rfl)
theorem dX5_readOrder_79 : decode cX5_readOrder 79 = .ok (.putfield 236, 3) := dk_181 0 236 (dk_at dksX5_readOrder_3 9 rfl rfl)
theorem dX5_readOrder_82 : decode cX5_readOrder 82 = .ok (.aload_n 0, 1) := dk_42 (dk_at dksX5_readOrder_3 12 rfl rfl)
theorem dX5_readOrder_83 : decode cX5_readOrder 83 = .ok (.dup, 1) := dk_89 (dk_at dksX5_readOrder_3 13 rfl rfl)
theorem dX5_readOrder_84 : decode cX5_readOrder 84 = .ok (.getfield 239, 3) := dk_180 0 239 (dk_at dksX5_readOrder_3 14 rfl rfl)
theorem dX5_readOrder_87 : decode cX5_readOrder 87 = .ok (.aload_n 0, 1) := dk_42 (dk_at dksX5_readOrder_3 17 rfl rfl)
theorem dX5_readOrder_88 : decode cX5_readOrder 88 = .ok (.getfield 236, 3) := dk_180 0 236 (dk_at dksX5_readOrder_3 18 rfl rfl)
theorem dX5_readOrder_91 : decode cX5_readOrder 91 = .ok (.ifCond .eq 7, 3) := dk_153 0 7 (dk_at dksX5_readOrder_3 21 rfl rfl)
theorem dX5_readOrder_94 : decode cX5_readOrder 94 = .ok (.iconst 0, 1) := dk_3 (dk_at dksX5_readOrder_4 0 rfl rfl)
theorem dX5_readOrder_95 : decode cX5_readOrder 95 = .ok (.goto 4, 3) := dk_167 0 4 (dk_at dksX5_readOrder_4 1 rfl rfl)
theorem dX5_readOrder_98 : decode cX5_readOrder 98 = .ok (.iconst 1, 1) := dk_4 (dk_at dksX5_readOrder_4 4 rfl rfl)
theorem dX5_readOrder_99 : decode cX5_readOrder 99 = .ok (.iadd, 1) := dk_96 (dk_at dksX5_readOrder_4 5 rfl rfl)
theorem dX5_readOrder_100 : decode cX5_readOrder 100 = .ok (.putfield 239, 3) := dk_181 0 239 (dk_at dksX5_readOrder_4 6 rfl rfl)
theorem dX5_readOrder_103 : decode cX5_readOrder 103 = .ok (.aload_n 0, 1) := dk_42 (dk_at dksX5_readOrder_4 9 rfl rfl)
theorem dX5_readOrder_104 : decode cX5_readOrder 104 = .ok (.aload_n 0, 1) := dk_42 (dk_at dksX5_readOrder_4 10 rfl rfl)
theorem dX5_readOrder_105 : decode cX5_readOrder 105 = .ok (.aload_n 0, 1) := dk_42 (dk_at dksX5_readOrder_4 11 rfl rfl)
theorem dX5_readOrder_106 : decode cX5_readOrder 106 = .ok (.getfield 246, 3) := dk_180 0 246 (dk_at dksX5_readOrder_4 12 rfl rfl)
theorem dX5_readOrder_109 : decode cX5_readOrder 109 = .ok (.bipush 119, 2) := dk_16 119 (dk_at dksX5_readOrder_4 15 rfl rfl)
theorem dX5_readOrder_111 : decode cX5_readOrder 111 = .ok (.if_icmp .ne 7, 3) := dk_160 0 7 (dk_at dksX5_readOrder_4 17 rfl rfl)
theorem dX5_readOrder_114 : decode cX5_readOrder 114 = .ok (.iconst 2, 1) := dk_5 (dk_at dksX5_readOrder_4 20 rfl rfl)
theorem dX5_readOrder_115 : decode cX5_readOrder 115 = .ok (.goto 4, 3) := dk_167 0 4 (dk_at dksX5_readOrder_4 21 rfl rfl)
theorem dX5_readOrder_118 : decode cX5_readOrder 118 = .ok (.iconst 1, 1) := dk_4 (dk_at dksX5_readOrder_5 0 rfl rfl)
theorem dX5_readOrder_119 : decode cX5_readOrder 119 = .ok (.invokevirtual 254, 3) := dk_182 0 254 (dk_at dksX5_readOrder_5 1 rfl rfl)
theorem dX5_readOrder_122 : decode cX5_readOrder 122 = .ok (.putfield 257, 3) := dk_181 1 1 (dk_at dksX5_readOrder_5 4 rfl rfl)
theorem dX5_readOrder_125 : decode cX5_readOrder 125 = .ok (.iload_n 1, 1) := dk_27 (dk_at dksX5_readOrder_5 7 rfl rfl)
theorem dX5_readOrder_126 : decode cX5_readOrder 126 = .ok (.bipush 32, 2) := dk_16 32 (dk_at dksX5_readOrder_5 8 rfl rfl)
theorem dX5_readOrder_128 : decode cX5_readOrder 128 = .ok (.if_icmp .eq 30, 3) := dk_159 0 30 (dk_at dksX5_readOrder_5 10 rfl rfl)
theorem dX5_readOrder_131 : decode cX5_readOrder 131 = .ok (.aload_n 0, 1) := dk_42 (dk_at dksX5_readOrder_5 13 rfl rfl)
theorem dX5_readOrder_132 : decode cX5_readOrder 132 = .ok (.iload_n 1, 1) := dk_27 (dk_at dksX5_readOrder_5 14 rfl rfl)
theorem dX5_readOrder_133 : decode cX5_readOrder 133 = .ok (.invokevirtual 260, 3) := dk_182 1 4 (dk_at dksX5_readOrder_5 15 rfl rfl)
theorem dX5_readOrder_136 : decode cX5_readOrder 136 = .ok (.aload_n 0, 1) := dk_42 (dk_at dksX5_readOrder_5 18 rfl rfl)
theorem dX5_readOrder_137 : decode cX5_readOrder 137 = .ok (.aload_n 0, 1) := dk_42 (dk_at dksX5_readOrder_5 19 rfl rfl)
theorem dX5_readOrder_138 : decode cX5_readOrder 138 = .ok (.aload_n 0, 1) := dk_42 (dk_at dksX5_readOrder_5 20 rfl rfl)
theorem dX5_readOrder_139 : decode cX5_readOrder 139 = .ok (.getfield 246, 3) := dk_180 0 246 (dk_at dksX5_readOrder_5 21 rfl rfl)
theorem dX5_readOrder_142 : decode cX5_readOrder 142 = .ok (.bipush 100, 2) := dk_16 100 (dk_at dksX5_readOrder_6 0 rfl rfl)
theorem dX5_readOrder_144 : decode cX5_readOrder 144 = .ok (.if_icmp .ne 7, 3) := dk_160 0 7 (dk_at dksX5_readOrder_6 2 rfl rfl)
theorem dX5_readOrder_147 : decode cX5_readOrder 147 = .ok (.iconst 2, 1) := dk_5 (dk_at dksX5_readOrder_6 5 rfl rfl)
theorem dX5_readOrder_148 : decode cX5_readOrder 148 = .ok (.goto 4, 3) := dk_167 0 4 (dk_at dksX5_readOrder_6 6 rfl rfl)
theorem dX5_readOrder_151 : decode cX5_readOrder 151 = .ok (.iconst 1, 1) := dk_4 (dk_at dksX5_readOrder_6 9 rfl rfl)
theorem dX5_readOrder_152 : decode cX5_readOrder 152 = .ok (.invokevirtual 254, 3) := dk_182 0 254 (dk_at dksX5_readOrder_6 10 rfl rfl)
theorem dX5_readOrder_155 : decode cX5_readOrder 155 = .ok (.putfield 264, 3) := dk_181 1 8 (dk_at dksX5_readOrder_6 13 rfl rfl)
theorem dX5_readOrder_158 : decode cX5_readOrder 158 = .ok (.return_, 1) := dk_177 (dk_at dksX5_readOrder_6 16 rfl rfl)
abbrev cX5_signOf : ByteArray := prog_20_method_82_code
def yX5_signOf : MethodName := ⟨RX5, "signOf", "(C)C"⟩
def dkwX5_signOf_2 : List UInt8 := [16, 62, 172, 16, 64, 172, 16, 47, 172, 16, 58, 172, 16, 43, 172, 16, 32, 172]
abbrev dktX5_signOf_2 : List UInt8 := dkwX5_signOf_2 ++ []
def dkwX5_signOf_1 : List UInt8 := [171, 0, 0, 0, 0, 0, 66, 0, 0, 0, 5, 0, 0, 0, 99, 0, 0, 0, 63, 0, 0, 0, 100, 0, 0, 0, 60, 0, 0, 0, 102, 0, 0, 0, 54, 0, 0, 0, 112, 0, 0, 0, 57, 0, 0, 0, 115, 0, 0, 0, 51]
abbrev dktX5_signOf_1 : List UInt8 := dkwX5_signOf_1 ++ dktX5_signOf_2
def dkwX5_signOf_0 : List UInt8 := [26]
abbrev dktX5_signOf_0 : List UInt8 := dkwX5_signOf_0 ++ dktX5_signOf_1
theorem dksX5_signOf_0 : cX5_signOf.data.toList.drop 0 = dktX5_signOf_0 := by decide +kernel
theorem dksX5_signOf_1 : cX5_signOf.data.toList.drop 1 = dktX5_signOf_1 := dk_seg dksX5_signOf_0 1 rfl rfl
theorem dksX5_signOf_2 : cX5_signOf.data.toList.drop 52 = dktX5_signOf_2 := dk_seg dksX5_signOf_1 51 rfl rfl
theorem dX5_signOf_0 : decode cX5_signOf 0 = .ok (.iload_n 0, 1) := dk_26 (dk_at dksX5_signOf_0 0 rfl rfl)
theorem dX5_signOf_1 : decode cX5_signOf 1 = .ok (.lookupswitch 66 #[(99, 63), (100, 60), (102, 54), (112, 57), (115, 51)], 51) := by decide +kernel
theorem dX5_signOf_52 : decode cX5_signOf 52 = .ok (.bipush 62, 2) := dk_16 62 (dk_at dksX5_signOf_2 0 rfl rfl)
theorem dX5_signOf_54 : decode cX5_signOf 54 = .ok (.ireturn, 1) := dk_172 (dk_at dksX5_signOf_2 2 rfl rfl)
theorem dX5_signOf_55 : decode cX5_signOf 55 = .ok (.bipush 64, 2) := dk_16 64 (dk_at dksX5_signOf_2 3 rfl rfl)
theorem dX5_signOf_57 : decode cX5_signOf 57 = .ok (.ireturn, 1) := dk_172 (dk_at dksX5_signOf_2 5 rfl rfl)
theorem dX5_signOf_58 : decode cX5_signOf 58 = .ok (.bipush 47, 2) := dk_16 47 (dk_at dksX5_signOf_2 6 rfl rfl)
theorem dX5_signOf_60 : decode cX5_signOf 60 = .ok (.ireturn, 1) := dk_172 (dk_at dksX5_signOf_2 8 rfl rfl)
theorem dX5_signOf_61 : decode cX5_signOf 61 = .ok (.bipush 58, 2) := dk_16 58 (dk_at dksX5_signOf_2 9 rfl rfl)
theorem dX5_signOf_63 : decode cX5_signOf 63 = .ok (.ireturn, 1) := dk_172 (dk_at dksX5_signOf_2 11 rfl rfl)
theorem dX5_signOf_64 : decode cX5_signOf 64 = .ok (.bipush 43, 2) := dk_16 43 (dk_at dksX5_signOf_2 12 rfl rfl)
theorem dX5_signOf_66 : decode cX5_signOf 66 = .ok (.ireturn, 1) := dk_172 (dk_at dksX5_signOf_2 14 rfl rfl)
theorem dX5_signOf_67 : decode cX5_signOf 67 = .ok (.bipush 32, 2) := dk_16 32 (dk_at dksX5_signOf_2 15 rfl rfl)
theorem dX5_signOf_69 : decode cX5_signOf 69 = .ok (.ireturn, 1) := dk_172 (dk_at dksX5_signOf_2 17 rfl rfl)
abbrev cX5_number : ByteArray := prog_20_method_81_code
def yX5_number : MethodName := ⟨RX5, "number", "(I)I"⟩
def dkwX5_number_3 : List UInt8 := [96, 181, 0, 239, 132, 3, 1, 167, 255, 209, 28, 172]
abbrev dktX5_number_3 : List UInt8 := dkwX5_number_3 ++ []
def dkwX5_number_2 : List UInt8 := [16, 10, 28, 104, 42, 180, 0, 36, 42, 180, 0, 239, 52, 96, 16, 48, 100, 61, 42, 89, 180, 0, 239, 4]
abbrev dktX5_number_2 : List UInt8 := dkwX5_number_2 ++ dktX5_number_3
def dkwX5_number_1 : List UInt8 := [181, 0, 236, 3, 61, 3, 62, 29, 27, 162, 0, 48, 42, 16, 48, 16, 57, 182, 0, 242, 153, 0, 37]
abbrev dktX5_number_1 : List UInt8 := dkwX5_number_1 ++ dktX5_number_2
def dkwX5_number_0 : List UInt8 := [42, 89, 180, 0, 236, 42, 16, 48, 16, 57, 182, 0, 242, 154, 0, 7, 4, 167, 0, 4, 3, 128]
abbrev dktX5_number_0 : List UInt8 := dkwX5_number_0 ++ dktX5_number_1
theorem dksX5_number_0 : cX5_number.data.toList.drop 0 = dktX5_number_0 := by decide +kernel
theorem dksX5_number_1 : cX5_number.data.toList.drop 22 = dktX5_number_1 := dk_seg dksX5_number_0 22 rfl rfl
theorem dksX5_number_2 : cX5_number.data.toList.drop 45 = dktX5_number_2 := dk_seg dksX5_number_1 23 rfl rfl
theorem dksX5_number_3 : cX5_number.data.toList.drop 69 = dktX5_number_3 := dk_seg dksX5_number_2 24 rfl rfl
theorem dX5_number_0 : decode cX5_number 0 = .ok (.aload_n 0, 1) := dk_42 (dk_at dksX5_number_0 0 rfl rfl)
theorem dX5_number_1 : decode cX5_number 1 = .ok (.dup, 1) := dk_89 (dk_at dksX5_number_0 1 rfl rfl)
theorem dX5_number_2 : decode cX5_number 2 = .ok (.getfield 236, 3) := dk_180 0 236 (dk_at dksX5_number_0 2 rfl rfl)
theorem dX5_number_5 : decode cX5_number 5 = .ok (.aload_n 0, 1) := dk_42 (dk_at dksX5_number_0 5 rfl rfl)
theorem dX5_number_6 : decode cX5_number 6 = .ok (.bipush 48, 2) := dk_16 48 (dk_at dksX5_number_0 6 rfl rfl)
theorem dX5_number_8 : decode cX5_number 8 = .ok (.bipush 57, 2) := dk_16 57 (dk_at dksX5_number_0 8 rfl rfl)
theorem dX5_number_10 : decode cX5_number 10 = .ok (.invokevirtual 242, 3) := dk_182 0 242 (dk_at dksX5_number_0 10 rfl rfl)
theorem dX5_number_13 : decode cX5_number 13 = .ok (.ifCond .ne 7, 3) := dk_154 0 7 (dk_at dksX5_number_0 13 rfl rfl)
theorem dX5_number_16 : decode cX5_number 16 = .ok (.iconst 1, 1) := dk_4 (dk_at dksX5_number_0 16 rfl rfl)
theorem dX5_number_17 : decode cX5_number 17 = .ok (.goto 4, 3) := dk_167 0 4 (dk_at dksX5_number_0 17 rfl rfl)
theorem dX5_number_20 : decode cX5_number 20 = .ok (.iconst 0, 1) := dk_3 (dk_at dksX5_number_0 20 rfl rfl)
theorem dX5_number_21 : decode cX5_number 21 = .ok (.ior, 1) := dk_128 (dk_at dksX5_number_0 21 rfl rfl)
theorem dX5_number_22 : decode cX5_number 22 = .ok (.putfield 236, 3) := dk_181 0 236 (dk_at dksX5_number_1 0 rfl rfl)
theorem dX5_number_25 : decode cX5_number 25 = .ok (.iconst 0, 1) := dk_3 (dk_at dksX5_number_1 3 rfl rfl)
theorem dX5_number_26 : decode cX5_number 26 = .ok (.istore_n 2, 1) := dk_61 (dk_at dksX5_number_1 4 rfl rfl)
theorem dX5_number_27 : decode cX5_number 27 = .ok (.iconst 0, 1) := dk_3 (dk_at dksX5_number_1 5 rfl rfl)
theorem dX5_number_28 : decode cX5_number 28 = .ok (.istore_n 3, 1) := dk_62 (dk_at dksX5_number_1 6 rfl rfl)
theorem dX5_number_29 : decode cX5_number 29 = .ok (.iload_n 3, 1) := dk_29 (dk_at dksX5_number_1 7 rfl rfl)
theorem dX5_number_30 : decode cX5_number 30 = .ok (.iload_n 1, 1) := dk_27 (dk_at dksX5_number_1 8 rfl rfl)
theorem dX5_number_31 : decode cX5_number 31 = .ok (.if_icmp .ge 48, 3) := dk_162 0 48 (dk_at dksX5_number_1 9 rfl rfl)
theorem dX5_number_34 : decode cX5_number 34 = .ok (.aload_n 0, 1) := dk_42 (dk_at dksX5_number_1 12 rfl rfl)
theorem dX5_number_35 : decode cX5_number 35 = .ok (.bipush 48, 2) := dk_16 48 (dk_at dksX5_number_1 13 rfl rfl)
theorem dX5_number_37 : decode cX5_number 37 = .ok (.bipush 57, 2) := dk_16 57 (dk_at dksX5_number_1 15 rfl rfl)
theorem dX5_number_39 : decode cX5_number 39 = .ok (.invokevirtual 242, 3) := dk_182 0 242 (dk_at dksX5_number_1 17 rfl rfl)
theorem dX5_number_42 : decode cX5_number 42 = .ok (.ifCond .eq 37, 3) := dk_153 0 37 (dk_at dksX5_number_1 20 rfl rfl)
theorem dX5_number_45 : decode cX5_number 45 = .ok (.bipush 10, 2) := dk_16 10 (dk_at dksX5_number_2 0 rfl rfl)
theorem dX5_number_47 : decode cX5_number 47 = .ok (.iload_n 2, 1) := dk_28 (dk_at dksX5_number_2 2 rfl rfl)
theorem dX5_number_48 : decode cX5_number 48 = .ok (.imul, 1) := dk_104 (dk_at dksX5_number_2 3 rfl rfl)
theorem dX5_number_49 : decode cX5_number 49 = .ok (.aload_n 0, 1) := dk_42 (dk_at dksX5_number_2 4 rfl rfl)
theorem dX5_number_50 : decode cX5_number 50 = .ok (.getfield 36, 3) := dk_180 0 36 (dk_at dksX5_number_2 5 rfl rfl)
theorem dX5_number_53 : decode cX5_number 53 = .ok (.aload_n 0, 1) := dk_42 (dk_at dksX5_number_2 8 rfl rfl)
theorem dX5_number_54 : decode cX5_number 54 = .ok (.getfield 239, 3) := dk_180 0 239 (dk_at dksX5_number_2 9 rfl rfl)
theorem dX5_number_57 : decode cX5_number 57 = .ok (.caload, 1) := dk_52 (dk_at dksX5_number_2 12 rfl rfl)
theorem dX5_number_58 : decode cX5_number 58 = .ok (.iadd, 1) := dk_96 (dk_at dksX5_number_2 13 rfl rfl)
theorem dX5_number_59 : decode cX5_number 59 = .ok (.bipush 48, 2) := dk_16 48 (dk_at dksX5_number_2 14 rfl rfl)
theorem dX5_number_61 : decode cX5_number 61 = .ok (.isub, 1) := dk_100 (dk_at dksX5_number_2 16 rfl rfl)
theorem dX5_number_62 : decode cX5_number 62 = .ok (.istore_n 2, 1) := dk_61 (dk_at dksX5_number_2 17 rfl rfl)
theorem dX5_number_63 : decode cX5_number 63 = .ok (.aload_n 0, 1) := dk_42 (dk_at dksX5_number_2 18 rfl rfl)
theorem dX5_number_64 : decode cX5_number 64 = .ok (.dup, 1) := dk_89 (dk_at dksX5_number_2 19 rfl rfl)
theorem dX5_number_65 : decode cX5_number 65 = .ok (.getfield 239, 3) := dk_180 0 239 (dk_at dksX5_number_2 20 rfl rfl)
theorem dX5_number_68 : decode cX5_number 68 = .ok (.iconst 1, 1) := dk_4 (dk_at dksX5_number_2 23 rfl rfl)
theorem dX5_number_69 : decode cX5_number 69 = .ok (.iadd, 1) := dk_96 (dk_at dksX5_number_3 0 rfl rfl)
theorem dX5_number_70 : decode cX5_number 70 = .ok (.putfield 239, 3) := dk_181 0 239 (dk_at dksX5_number_3 1 rfl rfl)
theorem dX5_number_73 : decode cX5_number 73 = .ok (.iinc 3 1, 3) := dk_132 3 1 (dk_at dksX5_number_3 4 rfl rfl)
theorem dX5_number_76 : decode cX5_number 76 = .ok (.goto (-47), 3) := dk_167 255 209 (dk_at dksX5_number_3 7 rfl rfl)
theorem dX5_number_79 : decode cX5_number 79 = .ok (.iload_n 2, 1) := dk_28 (dk_at dksX5_number_3 10 rfl rfl)
theorem dX5_number_80 : decode cX5_number 80 = .ok (.ireturn, 1) := dk_172 (dk_at dksX5_number_3 11 rfl rfl)
abbrev cX5_sees : ByteArray := prog_20_method_79_code
def yX5_sees : MethodName := ⟨RX5, "sees", "(CC)Z"⟩
def dkwX5_sees_1 : List UInt8 := [180, 0, 239, 52, 27, 28, 184, 0, 88, 153, 0, 7, 4, 167, 0, 4, 3, 172]
abbrev dktX5_sees_1 : List UInt8 := dkwX5_sees_1 ++ []
def dkwX5_sees_0 : List UInt8 := [42, 180, 0, 236, 154, 0, 35, 42, 180, 0, 239, 42, 180, 0, 233, 162, 0, 24, 42, 180, 0, 36, 42]
abbrev dktX5_sees_0 : List UInt8 := dkwX5_sees_0 ++ dktX5_sees_1
theorem dksX5_sees_0 : cX5_sees.data.toList.drop 0 = dktX5_sees_0 := by decide +kernel
theorem dksX5_sees_1 : cX5_sees.data.toList.drop 23 = dktX5_sees_1 := dk_seg dksX5_sees_0 23 rfl rfl
theorem dX5_sees_0 : decode cX5_sees 0 = .ok (.aload_n 0, 1) := dk_42 (dk_at dksX5_sees_0 0 rfl rfl)
theorem dX5_sees_1 : decode cX5_sees 1 = .ok (.getfield 236, 3) := dk_180 0 236 (dk_at dksX5_sees_0 1 rfl rfl)
theorem dX5_sees_4 : decode cX5_sees 4 = .ok (.ifCond .ne 35, 3) := dk_154 0 35 (dk_at dksX5_sees_0 4 rfl rfl)
theorem dX5_sees_7 : decode cX5_sees 7 = .ok (.aload_n 0, 1) := dk_42 (dk_at dksX5_sees_0 7 rfl rfl)
theorem dX5_sees_8 : decode cX5_sees 8 = .ok (.getfield 239, 3) := dk_180 0 239 (dk_at dksX5_sees_0 8 rfl rfl)
theorem dX5_sees_11 : decode cX5_sees 11 = .ok (.aload_n 0, 1) := dk_42 (dk_at dksX5_sees_0 11 rfl rfl)
theorem dX5_sees_12 : decode cX5_sees 12 = .ok (.getfield 233, 3) := dk_180 0 233 (dk_at dksX5_sees_0 12 rfl rfl)
theorem dX5_sees_15 : decode cX5_sees 15 = .ok (.if_icmp .ge 24, 3) := dk_162 0 24 (dk_at dksX5_sees_0 15 rfl rfl)
theorem dX5_sees_18 : decode cX5_sees 18 = .ok (.aload_n 0, 1) := dk_42 (dk_at dksX5_sees_0 18 rfl rfl)
theorem dX5_sees_19 : decode cX5_sees 19 = .ok (.getfield 36, 3) := dk_180 0 36 (dk_at dksX5_sees_0 19 rfl rfl)
theorem dX5_sees_22 : decode cX5_sees 22 = .ok (.aload_n 0, 1) := dk_42 (dk_at dksX5_sees_0 22 rfl rfl)
theorem dX5_sees_23 : decode cX5_sees 23 = .ok (.getfield 239, 3) := dk_180 0 239 (dk_at dksX5_sees_1 0 rfl rfl)
theorem dX5_sees_26 : decode cX5_sees 26 = .ok (.caload, 1) := dk_52 (dk_at dksX5_sees_1 3 rfl rfl)
theorem dX5_sees_27 : decode cX5_sees 27 = .ok (.iload_n 1, 1) := dk_27 (dk_at dksX5_sees_1 4 rfl rfl)
theorem dX5_sees_28 : decode cX5_sees 28 = .ok (.iload_n 2, 1) := dk_28 (dk_at dksX5_sees_1 5 rfl rfl)
theorem dX5_sees_29 : decode cX5_sees 29 = .ok (.invokestatic 88, 3) := dk_184 0 88 (dk_at dksX5_sees_1 6 rfl rfl)
theorem dX5_sees_32 : decode cX5_sees 32 = .ok (.ifCond .eq 7, 3) := dk_153 0 7 (dk_at dksX5_sees_1 9 rfl rfl)
theorem dX5_sees_35 : decode cX5_sees 35 = .ok (.iconst 1, 1) := dk_4 (dk_at dksX5_sees_1 12 rfl rfl)
theorem dX5_sees_36 : decode cX5_sees 36 = .ok (.goto 4, 3) := dk_167 0 4 (dk_at dksX5_sees_1 13 rfl rfl)
theorem dX5_sees_39 : decode cX5_sees 39 = .ok (.iconst 0, 1) := dk_3 (dk_at dksX5_sees_1 16 rfl rfl)
theorem dX5_sees_40 : decode cX5_sees 40 = .ok (.ireturn, 1) := dk_172 (dk_at dksX5_sees_1 17 rfl rfl)
abbrev cX5_must : ByteArray := prog_20_method_80_code
def yX5_must : MethodName := ⟨RX5, "must", "(C)V"⟩
def dkwX5_must_1 : List UInt8 := [89, 180, 0, 239, 42, 180, 0, 236, 153, 0, 7, 3, 167, 0, 4, 4, 96, 181, 0, 239, 177]
abbrev dktX5_must_1 : List UInt8 := dkwX5_must_1 ++ []
def dkwX5_must_0 : List UInt8 := [42, 89, 180, 0, 236, 42, 27, 27, 182, 0, 242, 154, 0, 7, 4, 167, 0, 4, 3, 128, 181, 0, 236, 42]
abbrev dktX5_must_0 : List UInt8 := dkwX5_must_0 ++ dktX5_must_1
theorem dksX5_must_0 : cX5_must.data.toList.drop 0 = dktX5_must_0 := by decide +kernel
theorem dksX5_must_1 : cX5_must.data.toList.drop 24 = dktX5_must_1 := dk_seg dksX5_must_0 24 rfl rfl
theorem dX5_must_0 : decode cX5_must 0 = .ok (.aload_n 0, 1) := dk_42 (dk_at dksX5_must_0 0 rfl rfl)
theorem dX5_must_1 : decode cX5_must 1 = .ok (.dup, 1) := dk_89 (dk_at dksX5_must_0 1 rfl rfl)
theorem dX5_must_2 : decode cX5_must 2 = .ok (.getfield 236, 3) := dk_180 0 236 (dk_at dksX5_must_0 2 rfl rfl)
theorem dX5_must_5 : decode cX5_must 5 = .ok (.aload_n 0, 1) := dk_42 (dk_at dksX5_must_0 5 rfl rfl)
theorem dX5_must_6 : decode cX5_must 6 = .ok (.iload_n 1, 1) := dk_27 (dk_at dksX5_must_0 6 rfl rfl)
theorem dX5_must_7 : decode cX5_must 7 = .ok (.iload_n 1, 1) := dk_27 (dk_at dksX5_must_0 7 rfl rfl)
theorem dX5_must_8 : decode cX5_must 8 = .ok (.invokevirtual 242, 3) := dk_182 0 242 (dk_at dksX5_must_0 8 rfl rfl)
theorem dX5_must_11 : decode cX5_must 11 = .ok (.ifCond .ne 7, 3) := dk_154 0 7 (dk_at dksX5_must_0 11 rfl rfl)
theorem dX5_must_14 : decode cX5_must 14 = .ok (.iconst 1, 1) := dk_4 (dk_at dksX5_must_0 14 rfl rfl)
theorem dX5_must_15 : decode cX5_must 15 = .ok (.goto 4, 3) := dk_167 0 4 (dk_at dksX5_must_0 15 rfl rfl)
theorem dX5_must_18 : decode cX5_must 18 = .ok (.iconst 0, 1) := dk_3 (dk_at dksX5_must_0 18 rfl rfl)
theorem dX5_must_19 : decode cX5_must 19 = .ok (.ior, 1) := dk_128 (dk_at dksX5_must_0 19 rfl rfl)
theorem dX5_must_20 : decode cX5_must 20 = .ok (.putfield 236, 3) := dk_181 0 236 (dk_at dksX5_must_0 20 rfl rfl)
theorem dX5_must_23 : decode cX5_must 23 = .ok (.aload_n 0, 1) := dk_42 (dk_at dksX5_must_0 23 rfl rfl)
theorem dX5_must_24 : decode cX5_must 24 = .ok (.dup, 1) := dk_89 (dk_at dksX5_must_1 0 rfl rfl)
theorem dX5_must_25 : decode cX5_must 25 = .ok (.getfield 239, 3) := dk_180 0 239 (dk_at dksX5_must_1 1 rfl rfl)
theorem dX5_must_28 : decode cX5_must 28 = .ok (.aload_n 0, 1) := dk_42 (dk_at dksX5_must_1 4 rfl rfl)
theorem dX5_must_29 : decode cX5_must 29 = .ok (.getfield 236, 3) := dk_180 0 236 (dk_at dksX5_must_1 5 rfl rfl)
theorem dX5_must_32 : decode cX5_must 32 = .ok (.ifCond .eq 7, 3) := dk_153 0 7 (dk_at dksX5_must_1 8 rfl rfl)
theorem dX5_must_35 : decode cX5_must 35 = .ok (.iconst 0, 1) := dk_3 (dk_at dksX5_must_1 11 rfl rfl)
theorem dX5_must_36 : decode cX5_must 36 = .ok (.goto 4, 3) := dk_167 0 4 (dk_at dksX5_must_1 12 rfl rfl)
theorem dX5_must_39 : decode cX5_must 39 = .ok (.iconst 1, 1) := dk_4 (dk_at dksX5_must_1 15 rfl rfl)
theorem dX5_must_40 : decode cX5_must 40 = .ok (.iadd, 1) := dk_96 (dk_at dksX5_must_1 16 rfl rfl)
theorem dX5_must_41 : decode cX5_must 41 = .ok (.putfield 239, 3) := dk_181 0 239 (dk_at dksX5_must_1 17 rfl rfl)
theorem dX5_must_44 : decode cX5_must 44 = .ok (.return_, 1) := dk_177 (dk_at dksX5_must_1 20 rfl rfl)
abbrev cX5_isOrderRefused : ByteArray := prog_20_method_85_code
def yX5_isOrderRefused : MethodName := ⟨RX5, "isOrderRefused", "()Z"⟩
def dkwX5_isOrderRefused_12 : List UInt8 := [153, 0, 7, 4, 167, 0, 4, 3, 172]
abbrev dktX5_isOrderRefused_12 : List UInt8 := dkwX5_isOrderRefused_12 ++ []
def dkwX5_isOrderRefused_11 : List UInt8 := [153, 0, 5, 4, 172, 42, 42, 180, 1, 1, 42, 180, 1, 8, 182, 1, 32, 87, 42, 180, 0, 52]
abbrev dktX5_isOrderRefused_11 : List UInt8 := dkwX5_isOrderRefused_11 ++ dktX5_isOrderRefused_12
def dkwX5_isOrderRefused_10 : List UInt8 := [180, 1, 1, 42, 180, 1, 8, 160, 0, 7, 4, 167, 0, 4, 3, 16, 19, 42, 180, 1, 8, 182, 0, 110]
abbrev dktX5_isOrderRefused_10 : List UInt8 := dkwX5_isOrderRefused_10 ++ dktX5_isOrderRefused_11
def dkwX5_isOrderRefused_9 : List UInt8 := [42, 180, 1, 8, 182, 1, 29, 87, 167, 0, 58, 42, 42, 180, 1, 1, 182, 0, 153, 154, 0, 32, 42, 42]
abbrev dktX5_isOrderRefused_9 : List UInt8 := dkwX5_isOrderRefused_9 ++ dktX5_isOrderRefused_10
def dkwX5_isOrderRefused_8 : List UInt8 := [167, 0, 90, 42, 42, 180, 1, 1, 42, 180, 1, 8, 182, 1, 26, 87, 167, 0, 74, 42, 42, 180, 1, 1]
abbrev dktX5_isOrderRefused_8 : List UInt8 := dkwX5_isOrderRefused_8 ++ dktX5_isOrderRefused_9
def dkwX5_isOrderRefused_7 : List UInt8 := [180, 1, 8, 182, 0, 110, 153, 0, 5, 4, 172, 42, 42, 180, 1, 1, 42, 180, 1, 8, 182, 1, 23, 87]
abbrev dktX5_isOrderRefused_7 : List UInt8 := dkwX5_isOrderRefused_7 ++ dktX5_isOrderRefused_8
def dkwX5_isOrderRefused_6 : List UInt8 := [42, 180, 1, 1, 42, 180, 1, 8, 184, 0, 205, 154, 0, 7, 4, 167, 0, 4, 3, 16, 19, 42]
abbrev dktX5_isOrderRefused_6 : List UInt8 := dkwX5_isOrderRefused_6 ++ dktX5_isOrderRefused_7
def dkwX5_isOrderRefused_5 : List UInt8 := [167, 0, 160, 42, 180, 1, 1, 184, 0, 123, 153, 0, 47, 42, 180, 1, 8, 184, 0, 106, 153, 0, 37, 42]
abbrev dktX5_isOrderRefused_5 : List UInt8 := dkwX5_isOrderRefused_5 ++ dktX5_isOrderRefused_6
def dkwX5_isOrderRefused_4 : List UInt8 := [172, 42, 42, 180, 1, 1, 182, 1, 17, 87, 167, 0, 172, 42, 42, 180, 1, 1, 182, 1, 20, 87]
abbrev dktX5_isOrderRefused_4 : List UInt8 := dkwX5_isOrderRefused_4 ++ dktX5_isOrderRefused_5
def dkwX5_isOrderRefused_3 : List UInt8 := [184, 0, 88, 154, 0, 7, 4, 167, 0, 4, 3, 16, 19, 42, 180, 1, 1, 182, 0, 110, 153, 0, 5, 4]
abbrev dktX5_isOrderRefused_3 : List UInt8 := dkwX5_isOrderRefused_3 ++ dktX5_isOrderRefused_4
def dkwX5_isOrderRefused_2 : List UInt8 := [42, 42, 180, 1, 1, 42, 180, 1, 8, 182, 1, 14, 87, 167, 0, 217, 42, 42, 180, 1, 1, 4, 16, 60]
abbrev dktX5_isOrderRefused_2 : List UInt8 := dkwX5_isOrderRefused_2 ++ dktX5_isOrderRefused_3
def dkwX5_isOrderRefused_1 : List UInt8 := [170, 0, 0, 0, 0, 0, 1, 15, 0, 0, 0, 100, 0, 0, 0, 119, 0, 0, 0, 255, 0, 0, 1, 15, 0, 0, 0, 169, 0, 0, 1, 15, 0, 0, 1, 15, 0, 0, 1, 15, 0, 0, 1, 15, 0, 0, 1, 15, 0, 0, 0, 157, 0, 0, 1, 15, 0, 0, 1, 15, 0, 0, 1, 15, 0, 0, 0, 239, 0, 0, 1, 15, 0, 0, 1, 15, 0, 0, 0, 96, 0, 0, 1, 15, 0, 0, 1, 15, 0, 0, 1, 15, 0, 0, 0, 112]
abbrev dktX5_isOrderRefused_1 : List UInt8 := dkwX5_isOrderRefused_1 ++ dktX5_isOrderRefused_2
def dkwX5_isOrderRefused_0 : List UInt8 := [42, 180, 0, 246]
abbrev dktX5_isOrderRefused_0 : List UInt8 := dkwX5_isOrderRefused_0 ++ dktX5_isOrderRefused_1
theorem dksX5_isOrderRefused_0 : cX5_isOrderRefused.data.toList.drop 0 = dktX5_isOrderRefused_0 := by decide +kernel
theorem dksX5_isOrderRefused_1 : cX5_isOrderRefused.data.toList.drop 4 = dktX5_isOrderRefused_1 := dk_seg dksX5_isOrderRefused_0 4 rfl rfl
theorem dksX5_isOrderRefused_2 : cX5_isOrderRefused.data.toList.drop 100 = dktX5_isOrderRefused_2 := dk_seg dksX5_isOrderRefused_1 96 rfl rfl
theorem dksX5_isOrderRefused_3 : cX5_isOrderRefused.data.toList.drop 124 = dktX5_isOrderRefused_3 := dk_seg dksX5_isOrderRefused_2 24 rfl rfl
theorem dksX5_isOrderRefused_4 : cX5_isOrderRefused.data.toList.drop 148 = dktX5_isOrderRefused_4 := dk_seg dksX5_isOrderRefused_3 24 rfl rfl
theorem dksX5_isOrderRefused_5 : cX5_isOrderRefused.data.toList.drop 170 = dktX5_isOrderRefused_5 := dk_seg dksX5_isOrderRefused_4 22 rfl rfl
theorem dksX5_isOrderRefused_6 : cX5_isOrderRefused.data.toList.drop 194 = dktX5_isOrderRefused_6 := dk_seg dksX5_isOrderRefused_5 24 rfl rfl
theorem dksX5_isOrderRefused_7 : cX5_isOrderRefused.data.toList.drop 216 = dktX5_isOrderRefused_7 := dk_seg dksX5_isOrderRefused_6 22 rfl rfl
theorem dksX5_isOrderRefused_8 : cX5_isOrderRefused.data.toList.drop 240 = dktX5_isOrderRefused_8 := dk_seg dksX5_isOrderRefused_7 24 rfl rfl
theorem dksX5_isOrderRefused_9 : cX5_isOrderRefused.data.toList.drop 264 = dktX5_isOrderRefused_9 := dk_seg dksX5_isOrderRefused_8 24 rfl rfl
theorem dksX5_isOrderRefused_10 : cX5_isOrderRefused.data.toList.drop 288 = dktX5_isOrderRefused_10 := dk_seg dksX5_isOrderRefused_9 24 rfl rfl
theorem dksX5_isOrderRefused_11 : cX5_isOrderRefused.data.toList.drop 312 = dktX5_isOrderRefused_11 := dk_seg dksX5_isOrderRefused_10 24 rfl rfl
theorem dksX5_isOrderRefused_12 : cX5_isOrderRefused.data.toList.drop 334 = dktX5_isOrderRefused_12 := dk_seg dksX5_isOrderRefused_11 22 rfl rfl
theorem dX5_isOrderRefused_0 : decode cX5_isOrderRefused 0 = .ok (.aload_n 0, 1) := dk_42 (dk_at dksX5_isOrderRefused_0 0 rfl rfl)
theorem dX5_isOrderRefused_1 : decode cX5_isOrderRefused 1 = .ok (.getfield 246, 3) := dk_180 0 246 (dk_at dksX5_isOrderRefused_0 1 rfl rfl)
theorem dX5_isOrderRefused_4 : decode cX5_isOrderRefused 4 = .ok (.tableswitch 271 100 119 #[255, 271, 169, 271, 271, 271, 271, 271, 157, 271, 271, 271, 239, 271, 271, 96, 271, 271, 271, 112], 96) := by decide +kernel
theorem dX5_isOrderRefused_100 : decode cX5_isOrderRefused 100 = .ok (.aload_n 0, 1) := dk_42 (dk_at dksX5_isOrderRefused_2 0 rfl rfl)
theorem dX5_isOrderRefused_101 : decode cX5_isOrderRefused 101 = .ok (.aload_n 0, 1) := dk_42 (dk_at dksX5_isOrderRefused_2 1 rfl rfl)
theorem dX5_isOrderRefused_102 : decode cX5_isOrderRefused 102 = .ok (.getfield 257, 3) := dk_180 1 1 (dk_at dksX5_isOrderRefused_2 2 rfl rfl)
theorem dX5_isOrderRefused_105 : decode cX5_isOrderRefused 105 = .ok (.aload_n 0, 1) := dk_42 (dk_at dksX5_isOrderRefused_2 5 rfl rfl)
theorem dX5_isOrderRefused_106 : decode cX5_isOrderRefused 106 = .ok (.getfield 264, 3) := dk_180 1 8 (dk_at dksX5_isOrderRefused_2 6 rfl rfl)
theorem dX5_isOrderRefused_109 : decode cX5_isOrderRefused 109 = .ok (.invokevirtual 270, 3) := dk_182 1 14 (dk_at dksX5_isOrderRefused_2 9 rfl rfl)
theorem dX5_isOrderRefused_112 : decode cX5_isOrderRefused 112 = .ok (.pop, 1) := dk_87 (dk_at dksX5_isOrderRefused_2 12 rfl rfl)
theorem dX5_isOrderRefused_113 : decode cX5_isOrderRefused 113 = .ok (.goto 217, 3) := dk_167 0 217 (dk_at dksX5_isOrderRefused_2 13 rfl rfl)
theorem dX5_isOrderRefused_116 : decode cX5_isOrderRefused 116 = .ok (.aload_n 0, 1) := dk_42 (dk_at dksX5_isOrderRefused_2 16 rfl rfl)
theorem dX5_isOrderRefused_117 : decode cX5_isOrderRefused 117 = .ok (.aload_n 0, 1) := dk_42 (dk_at dksX5_isOrderRefused_2 17 rfl rfl)
theorem dX5_isOrderRefused_118 : decode cX5_isOrderRefused 118 = .ok (.getfield 257, 3) := dk_180 1 1 (dk_at dksX5_isOrderRefused_2 18 rfl rfl)
theorem dX5_isOrderRefused_121 : decode cX5_isOrderRefused 121 = .ok (.iconst 1, 1) := dk_4 (dk_at dksX5_isOrderRefused_2 21 rfl rfl)
theorem dX5_isOrderRefused_122 : decode cX5_isOrderRefused 122 = .ok (.bipush 60, 2) := dk_16 60 (dk_at dksX5_isOrderRefused_2 22 rfl rfl)
theorem dX5_isOrderRefused_124 : decode cX5_isOrderRefused 124 = .ok (.invokestatic 88, 3) := dk_184 0 88 (dk_at dksX5_isOrderRefused_3 0 rfl rfl)
theorem dX5_isOrderRefused_127 : decode cX5_isOrderRefused 127 = .ok (.ifCond .ne 7, 3) := dk_154 0 7 (dk_at dksX5_isOrderRefused_3 3 rfl rfl)
theorem dX5_isOrderRefused_130 : decode cX5_isOrderRefused 130 = .ok (.iconst 1, 1) := dk_4 (dk_at dksX5_isOrderRefused_3 6 rfl rfl)
theorem dX5_isOrderRefused_131 : decode cX5_isOrderRefused 131 = .ok (.goto 4, 3) := dk_167 0 4 (dk_at dksX5_isOrderRefused_3 7 rfl rfl)
theorem dX5_isOrderRefused_134 : decode cX5_isOrderRefused 134 = .ok (.iconst 0, 1) := dk_3 (dk_at dksX5_isOrderRefused_3 10 rfl rfl)
theorem dX5_isOrderRefused_135 : decode cX5_isOrderRefused 135 = .ok (.bipush 19, 2) := dk_16 19 (dk_at dksX5_isOrderRefused_3 11 rfl rfl)
theorem dX5_isOrderRefused_137 : decode cX5_isOrderRefused 137 = .ok (.aload_n 0, 1) := dk_42 (dk_at dksX5_isOrderRefused_3 13 rfl rfl)
theorem dX5_isOrderRefused_138 : decode cX5_isOrderRefused 138 = .ok (.getfield 257, 3) := dk_180 1 1 (dk_at dksX5_isOrderRefused_3 14 rfl rfl)
theorem dX5_isOrderRefused_141 : decode cX5_isOrderRefused 141 = .ok (.invokevirtual 110, 3) := dk_182 0 110 (dk_at dksX5_isOrderRefused_3 17 rfl rfl)
theorem dX5_isOrderRefused_144 : decode cX5_isOrderRefused 144 = .ok (.ifCond .eq 5, 3) := dk_153 0 5 (dk_at dksX5_isOrderRefused_3 20 rfl rfl)
theorem dX5_isOrderRefused_147 : decode cX5_isOrderRefused 147 = .ok (.iconst 1, 1) := dk_4 (dk_at dksX5_isOrderRefused_3 23 rfl rfl)
theorem dX5_isOrderRefused_148 : decode cX5_isOrderRefused 148 = .ok (.ireturn, 1) := dk_172 (dk_at dksX5_isOrderRefused_4 0 rfl rfl)
theorem dX5_isOrderRefused_149 : decode cX5_isOrderRefused 149 = .ok (.aload_n 0, 1) := dk_42 (dk_at dksX5_isOrderRefused_4 1 rfl rfl)
theorem dX5_isOrderRefused_150 : decode cX5_isOrderRefused 150 = .ok (.aload_n 0, 1) := dk_42 (dk_at dksX5_isOrderRefused_4 2 rfl rfl)
theorem dX5_isOrderRefused_151 : decode cX5_isOrderRefused 151 = .ok (.getfield 257, 3) := dk_180 1 1 (dk_at dksX5_isOrderRefused_4 3 rfl rfl)
theorem dX5_isOrderRefused_154 : decode cX5_isOrderRefused 154 = .ok (.invokevirtual 273, 3) := dk_182 1 17 (dk_at dksX5_isOrderRefused_4 6 rfl rfl)
theorem dX5_isOrderRefused_157 : decode cX5_isOrderRefused 157 = .ok (.pop, 1) := dk_87 (dk_at dksX5_isOrderRefused_4 9 rfl rfl)
theorem dX5_isOrderRefused_158 : decode cX5_isOrderRefused 158 = .ok (.goto 172, 3) := dk_167 0 172 (dk_at dksX5_isOrderRefused_4 10 rfl rfl)
theorem dX5_isOrderRefused_161 : decode cX5_isOrderRefused 161 = .ok (.aload_n 0, 1) := dk_42 (dk_at dksX5_isOrderRefused_4 13 rfl rfl)
theorem dX5_isOrderRefused_162 : decode cX5_isOrderRefused 162 = .ok (.aload_n 0, 1) := dk_42 (dk_at dksX5_isOrderRefused_4 14 rfl rfl)
theorem dX5_isOrderRefused_163 : decode cX5_isOrderRefused 163 = .ok (.getfield 257, 3) := dk_180 1 1 (dk_at dksX5_isOrderRefused_4 15 rfl rfl)
theorem dX5_isOrderRefused_166 : decode cX5_isOrderRefused 166 = .ok (.invokevirtual 276, 3) := dk_182 1 20 (dk_at dksX5_isOrderRefused_4 18 rfl rfl)
theorem dX5_isOrderRefused_169 : decode cX5_isOrderRefused 169 = .ok (.pop, 1) := dk_87 (dk_at dksX5_isOrderRefused_4 21 rfl rfl)
theorem dX5_isOrderRefused_170 : decode cX5_isOrderRefused 170 = .ok (.goto 160, 3) := dk_167 0 160 (dk_at dksX5_isOrderRefused_5 0 rfl rfl)
theorem dX5_isOrderRefused_173 : decode cX5_isOrderRefused 173 = .ok (.aload_n 0, 1) := dk_42 (dk_at dksX5_isOrderRefused_5 3 rfl rfl)
theorem dX5_isOrderRefused_174 : decode cX5_isOrderRefused 174 = .ok (.getfield 257, 3) := dk_180 1 1 (dk_at dksX5_isOrderRefused_5 4 rfl rfl)
theorem dX5_isOrderRefused_177 : decode cX5_isOrderRefused 177 = .ok (.invokestatic 123, 3) := dk_184 0 123 (dk_at dksX5_isOrderRefused_5 7 rfl rfl)
theorem dX5_isOrderRefused_180 : decode cX5_isOrderRefused 180 = .ok (.ifCond .eq 47, 3) := dk_153 0 47 (dk_at dksX5_isOrderRefused_5 10 rfl rfl)
theorem dX5_isOrderRefused_183 : decode cX5_isOrderRefused 183 = .ok (.aload_n 0, 1) := dk_42 (dk_at dksX5_isOrderRefused_5 13 rfl rfl)
theorem dX5_isOrderRefused_184 : decode cX5_isOrderRefused 184 = .ok (.getfield 264, 3) := dk_180 1 8 (dk_at dksX5_isOrderRefused_5 14 rfl rfl)
theorem dX5_isOrderRefused_187 : decode cX5_isOrderRefused 187 = .ok (.invokestatic 106, 3) := dk_184 0 106 (dk_at dksX5_isOrderRefused_5 17 rfl rfl)
theorem dX5_isOrderRefused_190 : decode cX5_isOrderRefused 190 = .ok (.ifCond .eq 37, 3) := dk_153 0 37 (dk_at dksX5_isOrderRefused_5 20 rfl rfl)
theorem dX5_isOrderRefused_193 : decode cX5_isOrderRefused 193 = .ok (.aload_n 0, 1) := dk_42 (dk_at dksX5_isOrderRefused_5 23 rfl rfl)
theorem dX5_isOrderRefused_194 : decode cX5_isOrderRefused 194 = .ok (.aload_n 0, 1) := dk_42 (dk_at dksX5_isOrderRefused_6 0 rfl rfl)
theorem dX5_isOrderRefused_195 : decode cX5_isOrderRefused 195 = .ok (.getfield 257, 3) := dk_180 1 1 (dk_at dksX5_isOrderRefused_6 1 rfl rfl)
theorem dX5_isOrderRefused_198 : decode cX5_isOrderRefused 198 = .ok (.aload_n 0, 1) := dk_42 (dk_at dksX5_isOrderRefused_6 4 rfl rfl)
theorem dX5_isOrderRefused_199 : decode cX5_isOrderRefused 199 = .ok (.getfield 264, 3) := dk_180 1 8 (dk_at dksX5_isOrderRefused_6 5 rfl rfl)
theorem dX5_isOrderRefused_202 : decode cX5_isOrderRefused 202 = .ok (.invokestatic 205, 3) := dk_184 0 205 (dk_at dksX5_isOrderRefused_6 8 rfl rfl)
theorem dX5_isOrderRefused_205 : decode cX5_isOrderRefused 205 = .ok (.ifCond .ne 7, 3) := dk_154 0 7 (dk_at dksX5_isOrderRefused_6 11 rfl rfl)
theorem dX5_isOrderRefused_208 : decode cX5_isOrderRefused 208 = .ok (.iconst 1, 1) := dk_4 (dk_at dksX5_isOrderRefused_6 14 rfl rfl)
theorem dX5_isOrderRefused_209 : decode cX5_isOrderRefused 209 = .ok (.goto 4, 3) := dk_167 0 4 (dk_at dksX5_isOrderRefused_6 15 rfl rfl)
theorem dX5_isOrderRefused_212 : decode cX5_isOrderRefused 212 = .ok (.iconst 0, 1) := dk_3 (dk_at dksX5_isOrderRefused_6 18 rfl rfl)
theorem dX5_isOrderRefused_213 : decode cX5_isOrderRefused 213 = .ok (.bipush 19, 2) := dk_16 19 (dk_at dksX5_isOrderRefused_6 19 rfl rfl)
theorem dX5_isOrderRefused_215 : decode cX5_isOrderRefused 215 = .ok (.aload_n 0, 1) := dk_42 (dk_at dksX5_isOrderRefused_6 21 rfl rfl)
theorem dX5_isOrderRefused_216 : decode cX5_isOrderRefused 216 = .ok (.getfield 264, 3) := dk_180 1 8 (dk_at dksX5_isOrderRefused_7 0 rfl rfl)
theorem dX5_isOrderRefused_219 : decode cX5_isOrderRefused 219 = .ok (.invokevirtual 110, 3) := dk_182 0 110 (dk_at dksX5_isOrderRefused_7 3 rfl rfl)
theorem dX5_isOrderRefused_222 : decode cX5_isOrderRefused 222 = .ok (.ifCond .eq 5, 3) := dk_153 0 5 (dk_at dksX5_isOrderRefused_7 6 rfl rfl)
theorem dX5_isOrderRefused_225 : decode cX5_isOrderRefused 225 = .ok (.iconst 1, 1) := dk_4 (dk_at dksX5_isOrderRefused_7 9 rfl rfl)
theorem dX5_isOrderRefused_226 : decode cX5_isOrderRefused 226 = .ok (.ireturn, 1) := dk_172 (dk_at dksX5_isOrderRefused_7 10 rfl rfl)
theorem dX5_isOrderRefused_227 : decode cX5_isOrderRefused 227 = .ok (.aload_n 0, 1) := dk_42 (dk_at dksX5_isOrderRefused_7 11 rfl rfl)
theorem dX5_isOrderRefused_228 : decode cX5_isOrderRefused 228 = .ok (.aload_n 0, 1) := dk_42 (dk_at dksX5_isOrderRefused_7 12 rfl rfl)
theorem dX5_isOrderRefused_229 : decode cX5_isOrderRefused 229 = .ok (.getfield 257, 3) := dk_180 1 1 (dk_at dksX5_isOrderRefused_7 13 rfl rfl)
theorem dX5_isOrderRefused_232 : decode cX5_isOrderRefused 232 = .ok (.aload_n 0, 1) := dk_42 (dk_at dksX5_isOrderRefused_7 16 rfl rfl)
theorem dX5_isOrderRefused_233 : decode cX5_isOrderRefused 233 = .ok (.getfield 264, 3) := dk_180 1 8 (dk_at dksX5_isOrderRefused_7 17 rfl rfl)
theorem dX5_isOrderRefused_236 : decode cX5_isOrderRefused 236 = .ok (.invokevirtual 279, 3) := dk_182 1 23 (dk_at dksX5_isOrderRefused_7 20 rfl rfl)
theorem dX5_isOrderRefused_239 : decode cX5_isOrderRefused 239 = .ok (.pop, 1) := dk_87 (dk_at dksX5_isOrderRefused_7 23 rfl rfl)
theorem dX5_isOrderRefused_240 : decode cX5_isOrderRefused 240 = .ok (.goto 90, 3) := dk_167 0 90 (dk_at dksX5_isOrderRefused_8 0 rfl rfl)
theorem dX5_isOrderRefused_243 : decode cX5_isOrderRefused 243 = .ok (.aload_n 0, 1) := dk_42 (dk_at dksX5_isOrderRefused_8 3 rfl rfl)
theorem dX5_isOrderRefused_244 : decode cX5_isOrderRefused 244 = .ok (.aload_n 0, 1) := dk_42 (dk_at dksX5_isOrderRefused_8 4 rfl rfl)
theorem dX5_isOrderRefused_245 : decode cX5_isOrderRefused 245 = .ok (.getfield 257, 3) := dk_180 1 1 (dk_at dksX5_isOrderRefused_8 5 rfl rfl)
theorem dX5_isOrderRefused_248 : decode cX5_isOrderRefused 248 = .ok (.aload_n 0, 1) := dk_42 (dk_at dksX5_isOrderRefused_8 8 rfl rfl)
theorem dX5_isOrderRefused_249 : decode cX5_isOrderRefused 249 = .ok (.getfield 264, 3) := dk_180 1 8 (dk_at dksX5_isOrderRefused_8 9 rfl rfl)
theorem dX5_isOrderRefused_252 : decode cX5_isOrderRefused 252 = .ok (.invokevirtual 282, 3) := dk_182 1 26 (dk_at dksX5_isOrderRefused_8 12 rfl rfl)
theorem dX5_isOrderRefused_255 : decode cX5_isOrderRefused 255 = .ok (.pop, 1) := dk_87 (dk_at dksX5_isOrderRefused_8 15 rfl rfl)
theorem dX5_isOrderRefused_256 : decode cX5_isOrderRefused 256 = .ok (.goto 74, 3) := dk_167 0 74 (dk_at dksX5_isOrderRefused_8 16 rfl rfl)
theorem dX5_isOrderRefused_259 : decode cX5_isOrderRefused 259 = .ok (.aload_n 0, 1) := dk_42 (dk_at dksX5_isOrderRefused_8 19 rfl rfl)
theorem dX5_isOrderRefused_260 : decode cX5_isOrderRefused 260 = .ok (.aload_n 0, 1) := dk_42 (dk_at dksX5_isOrderRefused_8 20 rfl rfl)
theorem dX5_isOrderRefused_261 : decode cX5_isOrderRefused 261 = .ok (.getfield 257, 3) := dk_180 1 1 (dk_at dksX5_isOrderRefused_8 21 rfl rfl)
theorem dX5_isOrderRefused_264 : decode cX5_isOrderRefused 264 = .ok (.aload_n 0, 1) := dk_42 (dk_at dksX5_isOrderRefused_9 0 rfl rfl)
theorem dX5_isOrderRefused_265 : decode cX5_isOrderRefused 265 = .ok (.getfield 264, 3) := dk_180 1 8 (dk_at dksX5_isOrderRefused_9 1 rfl rfl)
theorem dX5_isOrderRefused_268 : decode cX5_isOrderRefused 268 = .ok (.invokevirtual 285, 3) := dk_182 1 29 (dk_at dksX5_isOrderRefused_9 4 rfl rfl)
theorem dX5_isOrderRefused_271 : decode cX5_isOrderRefused 271 = .ok (.pop, 1) := dk_87 (dk_at dksX5_isOrderRefused_9 7 rfl rfl)
theorem dX5_isOrderRefused_272 : decode cX5_isOrderRefused 272 = .ok (.goto 58, 3) := dk_167 0 58 (dk_at dksX5_isOrderRefused_9 8 rfl rfl)
theorem dX5_isOrderRefused_275 : decode cX5_isOrderRefused 275 = .ok (.aload_n 0, 1) := dk_42 (dk_at dksX5_isOrderRefused_9 11 rfl rfl)
theorem dX5_isOrderRefused_276 : decode cX5_isOrderRefused 276 = .ok (.aload_n 0, 1) := dk_42 (dk_at dksX5_isOrderRefused_9 12 rfl rfl)
theorem dX5_isOrderRefused_277 : decode cX5_isOrderRefused 277 = .ok (.getfield 257, 3) := dk_180 1 1 (dk_at dksX5_isOrderRefused_9 13 rfl rfl)
theorem dX5_isOrderRefused_280 : decode cX5_isOrderRefused 280 = .ok (.invokevirtual 153, 3) := dk_182 0 153 (dk_at dksX5_isOrderRefused_9 16 rfl rfl)
theorem dX5_isOrderRefused_283 : decode cX5_isOrderRefused 283 = .ok (.ifCond .ne 32, 3) := dk_154 0 32 (dk_at dksX5_isOrderRefused_9 19 rfl rfl)
theorem dX5_isOrderRefused_286 : decode cX5_isOrderRefused 286 = .ok (.aload_n 0, 1) := dk_42 (dk_at dksX5_isOrderRefused_9 22 rfl rfl)
theorem dX5_isOrderRefused_287 : decode cX5_isOrderRefused 287 = .ok (.aload_n 0, 1) := dk_42 (dk_at dksX5_isOrderRefused_9 23 rfl rfl)
theorem dX5_isOrderRefused_288 : decode cX5_isOrderRefused 288 = .ok (.getfield 257, 3) := dk_180 1 1 (dk_at dksX5_isOrderRefused_10 0 rfl rfl)
theorem dX5_isOrderRefused_291 : decode cX5_isOrderRefused 291 = .ok (.aload_n 0, 1) := dk_42 (dk_at dksX5_isOrderRefused_10 3 rfl rfl)
theorem dX5_isOrderRefused_292 : decode cX5_isOrderRefused 292 = .ok (.getfield 264, 3) := dk_180 1 8 (dk_at dksX5_isOrderRefused_10 4 rfl rfl)
theorem dX5_isOrderRefused_295 : decode cX5_isOrderRefused 295 = .ok (.if_icmp .ne 7, 3) := dk_160 0 7 (dk_at dksX5_isOrderRefused_10 7 rfl rfl)
theorem dX5_isOrderRefused_298 : decode cX5_isOrderRefused 298 = .ok (.iconst 1, 1) := dk_4 (dk_at dksX5_isOrderRefused_10 10 rfl rfl)
theorem dX5_isOrderRefused_299 : decode cX5_isOrderRefused 299 = .ok (.goto 4, 3) := dk_167 0 4 (dk_at dksX5_isOrderRefused_10 11 rfl rfl)
theorem dX5_isOrderRefused_302 : decode cX5_isOrderRefused 302 = .ok (.iconst 0, 1) := dk_3 (dk_at dksX5_isOrderRefused_10 14 rfl rfl)
theorem dX5_isOrderRefused_303 : decode cX5_isOrderRefused 303 = .ok (.bipush 19, 2) := dk_16 19 (dk_at dksX5_isOrderRefused_10 15 rfl rfl)
theorem dX5_isOrderRefused_305 : decode cX5_isOrderRefused 305 = .ok (.aload_n 0, 1) := dk_42 (dk_at dksX5_isOrderRefused_10 17 rfl rfl)
theorem dX5_isOrderRefused_306 : decode cX5_isOrderRefused 306 = .ok (.getfield 264, 3) := dk_180 1 8 (dk_at dksX5_isOrderRefused_10 18 rfl rfl)
theorem dX5_isOrderRefused_309 : decode cX5_isOrderRefused 309 = .ok (.invokevirtual 110, 3) := dk_182 0 110 (dk_at dksX5_isOrderRefused_10 21 rfl rfl)
theorem dX5_isOrderRefused_312 : decode cX5_isOrderRefused 312 = .ok (.ifCond .eq 5, 3) := dk_153 0 5 (dk_at dksX5_isOrderRefused_11 0 rfl rfl)
theorem dX5_isOrderRefused_315 : decode cX5_isOrderRefused 315 = .ok (.iconst 1, 1) := dk_4 (dk_at dksX5_isOrderRefused_11 3 rfl rfl)
theorem dX5_isOrderRefused_316 : decode cX5_isOrderRefused 316 = .ok (.ireturn, 1) := dk_172 (dk_at dksX5_isOrderRefused_11 4 rfl rfl)
theorem dX5_isOrderRefused_317 : decode cX5_isOrderRefused 317 = .ok (.aload_n 0, 1) := dk_42 (dk_at dksX5_isOrderRefused_11 5 rfl rfl)
theorem dX5_isOrderRefused_318 : decode cX5_isOrderRefused 318 = .ok (.aload_n 0, 1) := dk_42 (dk_at dksX5_isOrderRefused_11 6 rfl rfl)
theorem dX5_isOrderRefused_319 : decode cX5_isOrderRefused 319 = .ok (.getfield 257, 3) := dk_180 1 1 (dk_at dksX5_isOrderRefused_11 7 rfl rfl)
theorem dX5_isOrderRefused_322 : decode cX5_isOrderRefused 322 = .ok (.aload_n 0, 1) := dk_42 (dk_at dksX5_isOrderRefused_11 10 rfl rfl)
theorem dX5_isOrderRefused_323 : decode cX5_isOrderRefused 323 = .ok (.getfield 264, 3) := dk_180 1 8 (dk_at dksX5_isOrderRefused_11 11 rfl rfl)
theorem dX5_isOrderRefused_326 : decode cX5_isOrderRefused 326 = .ok (.invokevirtual 288, 3) := dk_182 1 32 (dk_at dksX5_isOrderRefused_11 14 rfl rfl)
theorem dX5_isOrderRefused_329 : decode cX5_isOrderRefused 329 = .ok (.pop, 1) := dk_87 (dk_at dksX5_isOrderRefused_11 17 rfl rfl)
theorem dX5_isOrderRefused_330 : decode cX5_isOrderRefused 330 = .ok (.aload_n 0, 1) := dk_42 (dk_at dksX5_isOrderRefused_11 18 rfl rfl)
theorem dX5_isOrderRefused_331 : decode cX5_isOrderRefused 331 = .ok (.getfield 52, 3) := dk_180 0 52 (dk_at dksX5_isOrderRefused_11 19 rfl rfl)
theorem dX5_isOrderRefused_334 : decode cX5_isOrderRefused 334 = .ok (.ifCond .eq 7, 3) := dk_153 0 7 (dk_at dksX5_isOrderRefused_12 0 rfl rfl)
theorem dX5_isOrderRefused_337 : decode cX5_isOrderRefused 337 = .ok (.iconst 1, 1) := dk_4 (dk_at dksX5_isOrderRefused_12 3 rfl rfl)
theorem dX5_isOrderRefused_338 : decode cX5_isOrderRefused 338 = .ok (.goto 4, 3) := dk_167 0 4 (dk_at dksX5_isOrderRefused_12 4 rfl rfl)
theorem dX5_isOrderRefused_341 : decode cX5_isOrderRefused 341 = .ok (.iconst 0, 1) := dk_3 (dk_at dksX5_isOrderRefused_12 7 rfl rfl)
theorem dX5_isOrderRefused_342 : decode cX5_isOrderRefused 342 = .ok (.ireturn, 1) := dk_172 (dk_at dksX5_isOrderRefused_12 8 rfl rfl)
abbrev cX5_fault : ByteArray := prog_20_method_87_code
def yX5_fault : MethodName := ⟨RX5, "fault", "()I"⟩
def dkwX5_fault_1 : List UInt8 := [42, 180, 0, 40, 172]
abbrev dktX5_fault_1 : List UInt8 := dkwX5_fault_1 ++ []
def dkwX5_fault_0 : List UInt8 := [42, 4, 42, 180, 0, 40, 156, 0, 7, 4, 167, 0, 4, 3, 182, 0, 84, 153, 0, 7, 3, 167, 0, 7]
abbrev dktX5_fault_0 : List UInt8 := dkwX5_fault_0 ++ dktX5_fault_1
theorem dksX5_fault_0 : cX5_fault.data.toList.drop 0 = dktX5_fault_0 := by decide +kernel
theorem dksX5_fault_1 : cX5_fault.data.toList.drop 24 = dktX5_fault_1 := dk_seg dksX5_fault_0 24 rfl rfl
theorem dX5_fault_0 : decode cX5_fault 0 = .ok (.aload_n 0, 1) := dk_42 (dk_at dksX5_fault_0 0 rfl rfl)
theorem dX5_fault_1 : decode cX5_fault 1 = .ok (.iconst 1, 1) := dk_4 (dk_at dksX5_fault_0 1 rfl rfl)
theorem dX5_fault_2 : decode cX5_fault 2 = .ok (.aload_n 0, 1) := dk_42 (dk_at dksX5_fault_0 2 rfl rfl)
theorem dX5_fault_3 : decode cX5_fault 3 = .ok (.getfield 40, 3) := dk_180 0 40 (dk_at dksX5_fault_0 3 rfl rfl)
theorem dX5_fault_6 : decode cX5_fault 6 = .ok (.ifCond .ge 7, 3) := dk_156 0 7 (dk_at dksX5_fault_0 6 rfl rfl)
theorem dX5_fault_9 : decode cX5_fault 9 = .ok (.iconst 1, 1) := dk_4 (dk_at dksX5_fault_0 9 rfl rfl)
theorem dX5_fault_10 : decode cX5_fault 10 = .ok (.goto 4, 3) := dk_167 0 4 (dk_at dksX5_fault_0 10 rfl rfl)
theorem dX5_fault_13 : decode cX5_fault 13 = .ok (.iconst 0, 1) := dk_3 (dk_at dksX5_fault_0 13 rfl rfl)
theorem dX5_fault_14 : decode cX5_fault 14 = .ok (.invokevirtual 84, 3) := dk_182 0 84 (dk_at dksX5_fault_0 14 rfl rfl)
theorem dX5_fault_17 : decode cX5_fault 17 = .ok (.ifCond .eq 7, 3) := dk_153 0 7 (dk_at dksX5_fault_0 17 rfl rfl)
theorem dX5_fault_20 : decode cX5_fault 20 = .ok (.iconst 0, 1) := dk_3 (dk_at dksX5_fault_0 20 rfl rfl)
theorem dX5_fault_21 : decode cX5_fault 21 = .ok (.goto 7, 3) := dk_167 0 7 (dk_at dksX5_fault_0 21 rfl rfl)
theorem dX5_fault_24 : decode cX5_fault 24 = .ok (.aload_n 0, 1) := dk_42 (dk_at dksX5_fault_1 0 rfl rfl)
theorem dX5_fault_25 : decode cX5_fault 25 = .ok (.getfield 40, 3) := dk_180 0 40 (dk_at dksX5_fault_1 1 rfl rfl)
theorem dX5_fault_28 : decode cX5_fault 28 = .ok (.ireturn, 1) := dk_172 (dk_at dksX5_fault_1 4 rfl rfl)
abbrev cX5_reason : ByteArray := prog_20_method_88_code
def yX5_reason : MethodName := ⟨RX5, "reason", "(IZ)I"⟩
def dkwX5_reason_2 : List UInt8 := [27, 46, 167, 0, 9, 42, 180, 0, 30, 27, 46, 172]
abbrev dktX5_reason_2 : List UInt8 := dkwX5_reason_2 ++ []
def dkwX5_reason_1 : List UInt8 := [161, 0, 7, 4, 167, 0, 4, 3, 182, 0, 84, 153, 0, 5, 3, 172, 28, 153, 0, 12, 42, 180, 0, 33]
abbrev dktX5_reason_1 : List UInt8 := dkwX5_reason_1 ++ dktX5_reason_2
def dkwX5_reason_0 : List UInt8 := [42, 4, 27, 156, 0, 7, 4, 167, 0, 4, 3, 182, 0, 84, 154, 0, 24, 42, 5, 27, 42, 180, 0, 77]
abbrev dktX5_reason_0 : List UInt8 := dkwX5_reason_0 ++ dktX5_reason_1
theorem dksX5_reason_0 : cX5_reason.data.toList.drop 0 = dktX5_reason_0 := by decide +kernel
theorem dksX5_reason_1 : cX5_reason.data.toList.drop 24 = dktX5_reason_1 := dk_seg dksX5_reason_0 24 rfl rfl
theorem dksX5_reason_2 : cX5_reason.data.toList.drop 48 = dktX5_reason_2 := dk_seg dksX5_reason_1 24 rfl rfl
theorem dX5_reason_0 : decode cX5_reason 0 = .ok (.aload_n 0, 1) := dk_42 (dk_at dksX5_reason_0 0 rfl rfl)
theorem dX5_reason_1 : decode cX5_reason 1 = .ok (.iconst 1, 1) := dk_4 (dk_at dksX5_reason_0 1 rfl rfl)
theorem dX5_reason_2 : decode cX5_reason 2 = .ok (.iload_n 1, 1) := dk_27 (dk_at dksX5_reason_0 2 rfl rfl)
theorem dX5_reason_3 : decode cX5_reason 3 = .ok (.ifCond .ge 7, 3) := dk_156 0 7 (dk_at dksX5_reason_0 3 rfl rfl)
theorem dX5_reason_6 : decode cX5_reason 6 = .ok (.iconst 1, 1) := dk_4 (dk_at dksX5_reason_0 6 rfl rfl)
theorem dX5_reason_7 : decode cX5_reason 7 = .ok (.goto 4, 3) := dk_167 0 4 (dk_at dksX5_reason_0 7 rfl rfl)
theorem dX5_reason_10 : decode cX5_reason 10 = .ok (.iconst 0, 1) := dk_3 (dk_at dksX5_reason_0 10 rfl rfl)
theorem dX5_reason_11 : decode cX5_reason 11 = .ok (.invokevirtual 84, 3) := dk_182 0 84 (dk_at dksX5_reason_0 11 rfl rfl)
theorem dX5_reason_14 : decode cX5_reason 14 = .ok (.ifCond .ne 24, 3) := dk_154 0 24 (dk_at dksX5_reason_0 14 rfl rfl)
theorem dX5_reason_17 : decode cX5_reason 17 = .ok (.aload_n 0, 1) := dk_42 (dk_at dksX5_reason_0 17 rfl rfl)
theorem dX5_reason_18 : decode cX5_reason 18 = .ok (.iconst 2, 1) := dk_5 (dk_at dksX5_reason_0 18 rfl rfl)
theorem dX5_reason_19 : decode cX5_reason 19 = .ok (.iload_n 1, 1) := dk_27 (dk_at dksX5_reason_0 19 rfl rfl)
theorem dX5_reason_20 : decode cX5_reason 20 = .ok (.aload_n 0, 1) := dk_42 (dk_at dksX5_reason_0 20 rfl rfl)
theorem dX5_reason_21 : decode cX5_reason 21 = .ok (.getfield 77, 3) := dk_180 0 77 (dk_at dksX5_reason_0 21 rfl rfl)
theorem dX5_reason_24 : decode cX5_reason 24 = .ok (.if_icmp .lt 7, 3) := dk_161 0 7 (dk_at dksX5_reason_1 0 rfl rfl)
theorem dX5_reason_27 : decode cX5_reason 27 = .ok (.iconst 1, 1) := dk_4 (dk_at dksX5_reason_1 3 rfl rfl)
theorem dX5_reason_28 : decode cX5_reason 28 = .ok (.goto 4, 3) := dk_167 0 4 (dk_at dksX5_reason_1 4 rfl rfl)
theorem dX5_reason_31 : decode cX5_reason 31 = .ok (.iconst 0, 1) := dk_3 (dk_at dksX5_reason_1 7 rfl rfl)
theorem dX5_reason_32 : decode cX5_reason 32 = .ok (.invokevirtual 84, 3) := dk_182 0 84 (dk_at dksX5_reason_1 8 rfl rfl)
theorem dX5_reason_35 : decode cX5_reason 35 = .ok (.ifCond .eq 5, 3) := dk_153 0 5 (dk_at dksX5_reason_1 11 rfl rfl)
theorem dX5_reason_38 : decode cX5_reason 38 = .ok (.iconst 0, 1) := dk_3 (dk_at dksX5_reason_1 14 rfl rfl)
theorem dX5_reason_39 : decode cX5_reason 39 = .ok (.ireturn, 1) := dk_172 (dk_at dksX5_reason_1 15 rfl rfl)
theorem dX5_reason_40 : decode cX5_reason 40 = .ok (.iload_n 2, 1) := dk_28 (dk_at dksX5_reason_1 16 rfl rfl)
theorem dX5_reason_41 : decode cX5_reason 41 = .ok (.ifCond .eq 12, 3) := dk_153 0 12 (dk_at dksX5_reason_1 17 rfl rfl)
theorem dX5_reason_44 : decode cX5_reason 44 = .ok (.aload_n 0, 1) := dk_42 (dk_at dksX5_reason_1 20 rfl rfl)
theorem dX5_reason_45 : decode cX5_reason 45 = .ok (.getfield 33, 3) := dk_180 0 33 (dk_at dksX5_reason_1 21 rfl rfl)
theorem dX5_reason_48 : decode cX5_reason 48 = .ok (.iload_n 1, 1) := dk_27 (dk_at dksX5_reason_2 0 rfl rfl)
theorem dX5_reason_49 : decode cX5_reason 49 = .ok (.iaload, 1) := dk_46 (dk_at dksX5_reason_2 1 rfl rfl)
theorem dX5_reason_50 : decode cX5_reason 50 = .ok (.goto 9, 3) := dk_167 0 9 (dk_at dksX5_reason_2 2 rfl rfl)
theorem dX5_reason_53 : decode cX5_reason 53 = .ok (.aload_n 0, 1) := dk_42 (dk_at dksX5_reason_2 5 rfl rfl)
theorem dX5_reason_54 : decode cX5_reason 54 = .ok (.getfield 30, 3) := dk_180 0 30 (dk_at dksX5_reason_2 6 rfl rfl)
theorem dX5_reason_57 : decode cX5_reason 57 = .ok (.iload_n 1, 1) := dk_27 (dk_at dksX5_reason_2 9 rfl rfl)
theorem dX5_reason_58 : decode cX5_reason 58 = .ok (.iaload, 1) := dk_46 (dk_at dksX5_reason_2 10 rfl rfl)
theorem dX5_reason_59 : decode cX5_reason 59 = .ok (.ireturn, 1) := dk_172 (dk_at dksX5_reason_2 11 rfl rfl)
abbrev cX5_account : ByteArray := prog_20_method_93_code
def yX5_account : MethodName := ⟨RX5, "account", "(I)I"⟩
def dkwX5_account_7 : List UInt8 := [46, 172, 42, 180, 0, 233, 172, 42, 180, 0, 55, 172]
abbrev dktX5_account_7 : List UInt8 := dkwX5_account_7 ++ []
def dkwX5_account_6 : List UInt8 := [180, 0, 9, 17, 0, 183, 46, 172, 42, 180, 0, 9, 17, 0, 184, 46, 172, 42, 180, 0, 9, 17, 0, 185]
abbrev dktX5_account_6 : List UInt8 := dkwX5_account_6 ++ dktX5_account_7
def dkwX5_account_5 : List UInt8 := [16, 6, 182, 1, 46, 172, 42, 8, 182, 1, 52, 172, 42, 180, 0, 9, 17, 0, 182, 46, 172, 42]
abbrev dktX5_account_5 : List UInt8 := dkwX5_account_5 ++ dktX5_account_6
def dkwX5_account_4 : List UInt8 := [17, 0, 181, 46, 172, 42, 182, 1, 49, 172, 42, 6, 182, 1, 52, 42, 7, 182, 1, 52, 96, 172, 42]
abbrev dktX5_account_4 : List UInt8 := dkwX5_account_4 ++ dktX5_account_5
def dkwX5_account_3 : List UInt8 := [42, 180, 0, 9, 17, 0, 180, 46, 172, 42, 182, 1, 43, 172, 42, 3, 182, 1, 46, 172, 42, 180, 0, 9]
abbrev dktX5_account_3 : List UInt8 := dkwX5_account_3 ++ dktX5_account_4
def dkwX5_account_2 : List UInt8 := [170, 0, 0, 0, 0, 166, 0, 0, 0, 0, 0, 0, 0, 12, 0, 0, 0, 66, 0, 0, 0, 75, 0, 0, 0, 80, 0, 0, 0, 86, 0, 0, 0, 95, 0, 0, 0, 100, 0, 0, 0, 112, 0, 0, 0, 119, 0, 0, 0, 125, 0, 0, 0, 134, 0, 0, 0, 143, 0, 0, 0, 152, 0, 0, 0, 161]
abbrev dktX5_account_2 : List UInt8 := dkwX5_account_2 ++ dktX5_account_3
def dkwX5_account_1 : List UInt8 := [172, 27]
abbrev dktX5_account_1 : List UInt8 := dkwX5_account_1 ++ dktX5_account_2
def dkwX5_account_0 : List UInt8 := [42, 4, 27, 3, 16, 13, 184, 0, 88, 154, 0, 7, 4, 167, 0, 4, 3, 182, 0, 84, 153, 0, 5, 3]
abbrev dktX5_account_0 : List UInt8 := dkwX5_account_0 ++ dktX5_account_1
theorem dksX5_account_0 : cX5_account.data.toList.drop 0 = dktX5_account_0 := by decide +kernel
theorem dksX5_account_1 : cX5_account.data.toList.drop 24 = dktX5_account_1 := dk_seg dksX5_account_0 24 rfl rfl
theorem dksX5_account_2 : cX5_account.data.toList.drop 26 = dktX5_account_2 := dk_seg dksX5_account_1 2 rfl rfl
theorem dksX5_account_3 : cX5_account.data.toList.drop 92 = dktX5_account_3 := dk_seg dksX5_account_2 66 rfl rfl
theorem dksX5_account_4 : cX5_account.data.toList.drop 116 = dktX5_account_4 := dk_seg dksX5_account_3 24 rfl rfl
theorem dksX5_account_5 : cX5_account.data.toList.drop 139 = dktX5_account_5 := dk_seg dksX5_account_4 23 rfl rfl
theorem dksX5_account_6 : cX5_account.data.toList.drop 161 = dktX5_account_6 := dk_seg dksX5_account_5 22 rfl rfl
theorem dksX5_account_7 : cX5_account.data.toList.drop 185 = dktX5_account_7 := dk_seg dksX5_account_6 24 rfl rfl
theorem dX5_account_0 : decode cX5_account 0 = .ok (.aload_n 0, 1) := dk_42 (dk_at dksX5_account_0 0 rfl rfl)
theorem dX5_account_1 : decode cX5_account 1 = .ok (.iconst 1, 1) := dk_4 (dk_at dksX5_account_0 1 rfl rfl)
theorem dX5_account_2 : decode cX5_account 2 = .ok (.iload_n 1, 1) := dk_27 (dk_at dksX5_account_0 2 rfl rfl)
theorem dX5_account_3 : decode cX5_account 3 = .ok (.iconst 0, 1) := dk_3 (dk_at dksX5_account_0 3 rfl rfl)
theorem dX5_account_4 : decode cX5_account 4 = .ok (.bipush 13, 2) := dk_16 13 (dk_at dksX5_account_0 4 rfl rfl)
theorem dX5_account_6 : decode cX5_account 6 = .ok (.invokestatic 88, 3) := dk_184 0 88 (dk_at dksX5_account_0 6 rfl rfl)
theorem dX5_account_9 : decode cX5_account 9 = .ok (.ifCond .ne 7, 3) := dk_154 0 7 (dk_at dksX5_account_0 9 rfl rfl)
theorem dX5_account_12 : decode cX5_account 12 = .ok (.iconst 1, 1) := dk_4 (dk_at dksX5_account_0 12 rfl rfl)
theorem dX5_account_13 : decode cX5_account 13 = .ok (.goto 4, 3) := dk_167 0 4 (dk_at dksX5_account_0 13 rfl rfl)
theorem dX5_account_16 : decode cX5_account 16 = .ok (.iconst 0, 1) := dk_3 (dk_at dksX5_account_0 16 rfl rfl)
theorem dX5_account_17 : decode cX5_account 17 = .ok (.invokevirtual 84, 3) := dk_182 0 84 (dk_at dksX5_account_0 17 rfl rfl)
theorem dX5_account_20 : decode cX5_account 20 = .ok (.ifCond .eq 5, 3) := dk_153 0 5 (dk_at dksX5_account_0 20 rfl rfl)
theorem dX5_account_23 : decode cX5_account 23 = .ok (.iconst 0, 1) := dk_3 (dk_at dksX5_account_0 23 rfl rfl)
theorem dX5_account_24 : decode cX5_account 24 = .ok (.ireturn, 1) := dk_172 (dk_at dksX5_account_1 0 rfl rfl)
theorem dX5_account_25 : decode cX5_account 25 = .ok (.iload_n 1, 1) := dk_27 (dk_at dksX5_account_1 1 rfl rfl)
theorem dX5_account_26 : decode cX5_account 26 = .ok (.tableswitch 166 0 12 #[66, 75, 80, 86, 95, 100, 112, 119, 125, 134, 143, 152, 161], 66) := by decide +kernel
theorem dX5_account_92 : decode cX5_account 92 = .ok (.aload_n 0, 1) := dk_42 (dk_at dksX5_account_3 0 rfl rfl)
theorem dX5_account_93 : decode cX5_account 93 = .ok (.getfield 9, 3) := dk_180 0 9 (dk_at dksX5_account_3 1 rfl rfl)
theorem dX5_account_96 : decode cX5_account 96 = .ok (.sipush 180, 3) := dk_17 0 180 (dk_at dksX5_account_3 4 rfl rfl)
theorem dX5_account_99 : decode cX5_account 99 = .ok (.iaload, 1) := dk_46 (dk_at dksX5_account_3 7 rfl rfl)
theorem dX5_account_100 : decode cX5_account 100 = .ok (.ireturn, 1) := dk_172 (dk_at dksX5_account_3 8 rfl rfl)
theorem dX5_account_101 : decode cX5_account 101 = .ok (.aload_n 0, 1) := dk_42 (dk_at dksX5_account_3 9 rfl rfl)
theorem dX5_account_102 : decode cX5_account 102 = .ok (.invokevirtual 299, 3) := dk_182 1 43 (dk_at dksX5_account_3 10 rfl rfl)
theorem dX5_account_105 : decode cX5_account 105 = .ok (.ireturn, 1) := dk_172 (dk_at dksX5_account_3 13 rfl rfl)
theorem dX5_account_106 : decode cX5_account 106 = .ok (.aload_n 0, 1) := dk_42 (dk_at dksX5_account_3 14 rfl rfl)
theorem dX5_account_107 : decode cX5_account 107 = .ok (.iconst 0, 1) := dk_3 (dk_at dksX5_account_3 15 rfl rfl)
theorem dX5_account_108 : decode cX5_account 108 = .ok (.invokevirtual 302, 3) := dk_182 1 46 (dk_at dksX5_account_3 16 rfl rfl)
theorem dX5_account_111 : decode cX5_account 111 = .ok (.ireturn, 1) := dk_172 (dk_at dksX5_account_3 19 rfl rfl)
theorem dX5_account_112 : decode cX5_account 112 = .ok (.aload_n 0, 1) := dk_42 (dk_at dksX5_account_3 20 rfl rfl)
theorem dX5_account_113 : decode cX5_account 113 = .ok (.getfield 9, 3) := dk_180 0 9 (dk_at dksX5_account_3 21 rfl rfl)
theorem dX5_account_116 : decode cX5_account 116 = .ok (.sipush 181, 3) := dk_17 0 181 (dk_at dksX5_account_4 0 rfl rfl)
theorem dX5_account_119 : decode cX5_account 119 = .ok (.iaload, 1) := dk_46 (dk_at dksX5_account_4 3 rfl rfl)
theorem dX5_account_120 : decode cX5_account 120 = .ok (.ireturn, 1) := dk_172 (dk_at dksX5_account_4 4 rfl rfl)
theorem dX5_account_121 : decode cX5_account 121 = .ok (.aload_n 0, 1) := dk_42 (dk_at dksX5_account_4 5 rfl rfl)
theorem dX5_account_122 : decode cX5_account 122 = .ok (.invokevirtual 305, 3) := dk_182 1 49 (dk_at dksX5_account_4 6 rfl rfl)
theorem dX5_account_125 : decode cX5_account 125 = .ok (.ireturn, 1) := dk_172 (dk_at dksX5_account_4 9 rfl rfl)
theorem dX5_account_126 : decode cX5_account 126 = .ok (.aload_n 0, 1) := dk_42 (dk_at dksX5_account_4 10 rfl rfl)
theorem dX5_account_127 : decode cX5_account 127 = .ok (.iconst 3, 1) := dk_6 (dk_at dksX5_account_4 11 rfl rfl)
theorem dX5_account_128 : decode cX5_account 128 = .ok (.invokevirtual 308, 3) := dk_182 1 52 (dk_at dksX5_account_4 12 rfl rfl)
theorem dX5_account_131 : decode cX5_account 131 = .ok (.aload_n 0, 1) := dk_42 (dk_at dksX5_account_4 15 rfl rfl)
theorem dX5_account_132 : decode cX5_account 132 = .ok (.iconst 4, 1) := dk_7 (dk_at dksX5_account_4 16 rfl rfl)
theorem dX5_account_133 : decode cX5_account 133 = .ok (.invokevirtual 308, 3) := dk_182 1 52 (dk_at dksX5_account_4 17 rfl rfl)
theorem dX5_account_136 : decode cX5_account 136 = .ok (.iadd, 1) := dk_96 (dk_at dksX5_account_4 20 rfl rfl)
theorem dX5_account_137 : decode cX5_account 137 = .ok (.ireturn, 1) := dk_172 (dk_at dksX5_account_4 21 rfl rfl)
theorem dX5_account_138 : decode cX5_account 138 = .ok (.aload_n 0, 1) := dk_42 (dk_at dksX5_account_4 22 rfl rfl)
theorem dX5_account_139 : decode cX5_account 139 = .ok (.bipush 6, 2) := dk_16 6 (dk_at dksX5_account_5 0 rfl rfl)
theorem dX5_account_141 : decode cX5_account 141 = .ok (.invokevirtual 302, 3) := dk_182 1 46 (dk_at dksX5_account_5 2 rfl rfl)
theorem dX5_account_144 : decode cX5_account 144 = .ok (.ireturn, 1) := dk_172 (dk_at dksX5_account_5 5 rfl rfl)
theorem dX5_account_145 : decode cX5_account 145 = .ok (.aload_n 0, 1) := dk_42 (dk_at dksX5_account_5 6 rfl rfl)
theorem dX5_account_146 : decode cX5_account 146 = .ok (.iconst 5, 1) := dk_8 (dk_at dksX5_account_5 7 rfl rfl)
theorem dX5_account_147 : decode cX5_account 147 = .ok (.invokevirtual 308, 3) := dk_182 1 52 (dk_at dksX5_account_5 8 rfl rfl)
theorem dX5_account_150 : decode cX5_account 150 = .ok (.ireturn, 1) := dk_172 (dk_at dksX5_account_5 11 rfl rfl)
theorem dX5_account_151 : decode cX5_account 151 = .ok (.aload_n 0, 1) := dk_42 (dk_at dksX5_account_5 12 rfl rfl)
theorem dX5_account_152 : decode cX5_account 152 = .ok (.getfield 9, 3) := dk_180 0 9 (dk_at dksX5_account_5 13 rfl rfl)
theorem dX5_account_155 : decode cX5_account 155 = .ok (.sipush 182, 3) := dk_17 0 182 (dk_at dksX5_account_5 16 rfl rfl)
theorem dX5_account_158 : decode cX5_account 158 = .ok (.iaload, 1) := dk_46 (dk_at dksX5_account_5 19 rfl rfl)
theorem dX5_account_159 : decode cX5_account 159 = .ok (.ireturn, 1) := dk_172 (dk_at dksX5_account_5 20 rfl rfl)
theorem dX5_account_160 : decode cX5_account 160 = .ok (.aload_n 0, 1) := dk_42 (dk_at dksX5_account_5 21 rfl rfl)
theorem dX5_account_161 : decode cX5_account 161 = .ok (.getfield 9, 3) := dk_180 0 9 (dk_at dksX5_account_6 0 rfl rfl)
theorem dX5_account_164 : decode cX5_account 164 = .ok (.sipush 183, 3) := dk_17 0 183 (dk_at dksX5_account_6 3 rfl rfl)
theorem dX5_account_167 : decode cX5_account 167 = .ok (.iaload, 1) := dk_46 (dk_at dksX5_account_6 6 rfl rfl)
theorem dX5_account_168 : decode cX5_account 168 = .ok (.ireturn, 1) := dk_172 (dk_at dksX5_account_6 7 rfl rfl)
theorem dX5_account_169 : decode cX5_account 169 = .ok (.aload_n 0, 1) := dk_42 (dk_at dksX5_account_6 8 rfl rfl)
theorem dX5_account_170 : decode cX5_account 170 = .ok (.getfield 9, 3) := dk_180 0 9 (dk_at dksX5_account_6 9 rfl rfl)
theorem dX5_account_173 : decode cX5_account 173 = .ok (.sipush 184, 3) := dk_17 0 184 (dk_at dksX5_account_6 12 rfl rfl)
theorem dX5_account_176 : decode cX5_account 176 = .ok (.iaload, 1) := dk_46 (dk_at dksX5_account_6 15 rfl rfl)
theorem dX5_account_177 : decode cX5_account 177 = .ok (.ireturn, 1) := dk_172 (dk_at dksX5_account_6 16 rfl rfl)
theorem dX5_account_178 : decode cX5_account 178 = .ok (.aload_n 0, 1) := dk_42 (dk_at dksX5_account_6 17 rfl rfl)
theorem dX5_account_179 : decode cX5_account 179 = .ok (.getfield 9, 3) := dk_180 0 9 (dk_at dksX5_account_6 18 rfl rfl)
theorem dX5_account_182 : decode cX5_account 182 = .ok (.sipush 185, 3) := dk_17 0 185 (dk_at dksX5_account_6 21 rfl rfl)
theorem dX5_account_185 : decode cX5_account 185 = .ok (.iaload, 1) := dk_46 (dk_at dksX5_account_7 0 rfl rfl)
theorem dX5_account_186 : decode cX5_account 186 = .ok (.ireturn, 1) := dk_172 (dk_at dksX5_account_7 1 rfl rfl)
theorem dX5_account_187 : decode cX5_account 187 = .ok (.aload_n 0, 1) := dk_42 (dk_at dksX5_account_7 2 rfl rfl)
theorem dX5_account_188 : decode cX5_account 188 = .ok (.getfield 233, 3) := dk_180 0 233 (dk_at dksX5_account_7 3 rfl rfl)
theorem dX5_account_191 : decode cX5_account 191 = .ok (.ireturn, 1) := dk_172 (dk_at dksX5_account_7 6 rfl rfl)
theorem dX5_account_192 : decode cX5_account 192 = .ok (.aload_n 0, 1) := dk_42 (dk_at dksX5_account_7 7 rfl rfl)
theorem dX5_account_193 : decode cX5_account 193 = .ok (.getfield 55, 3) := dk_180 0 55 (dk_at dksX5_account_7 8 rfl rfl)
theorem dX5_account_196 : decode cX5_account 196 = .ok (.ireturn, 1) := dk_172 (dk_at dksX5_account_7 11 rfl rfl)
abbrev cX5_underWay : ByteArray := prog_20_method_91_code
def yX5_underWay : MethodName := ⟨RX5, "underWay", "()I"⟩
def dkwX5_underWay_1 : List UInt8 := [184, 0, 92, 46, 156, 0, 7, 4, 167, 0, 4, 3, 96, 60, 132, 2, 1, 167, 255, 220, 27, 172]
abbrev dktX5_underWay_1 : List UInt8 := dkwX5_underWay_1 ++ []
def dkwX5_underWay_0 : List UInt8 := [3, 60, 3, 61, 28, 42, 180, 0, 9, 17, 0, 180, 46, 162, 0, 30, 27, 42, 180, 0, 9, 28, 4]
abbrev dktX5_underWay_0 : List UInt8 := dkwX5_underWay_0 ++ dktX5_underWay_1
theorem dksX5_underWay_0 : cX5_underWay.data.toList.drop 0 = dktX5_underWay_0 := by decide +kernel
theorem dksX5_underWay_1 : cX5_underWay.data.toList.drop 23 = dktX5_underWay_1 := dk_seg dksX5_underWay_0 23 rfl rfl
theorem dX5_underWay_0 : decode cX5_underWay 0 = .ok (.iconst 0, 1) := dk_3 (dk_at dksX5_underWay_0 0 rfl rfl)
theorem dX5_underWay_1 : decode cX5_underWay 1 = .ok (.istore_n 1, 1) := dk_60 (dk_at dksX5_underWay_0 1 rfl rfl)
theorem dX5_underWay_2 : decode cX5_underWay 2 = .ok (.iconst 0, 1) := dk_3 (dk_at dksX5_underWay_0 2 rfl rfl)
theorem dX5_underWay_3 : decode cX5_underWay 3 = .ok (.istore_n 2, 1) := dk_61 (dk_at dksX5_underWay_0 3 rfl rfl)
theorem dX5_underWay_4 : decode cX5_underWay 4 = .ok (.iload_n 2, 1) := dk_28 (dk_at dksX5_underWay_0 4 rfl rfl)
theorem dX5_underWay_5 : decode cX5_underWay 5 = .ok (.aload_n 0, 1) := dk_42 (dk_at dksX5_underWay_0 5 rfl rfl)
theorem dX5_underWay_6 : decode cX5_underWay 6 = .ok (.getfield 9, 3) := dk_180 0 9 (dk_at dksX5_underWay_0 6 rfl rfl)
theorem dX5_underWay_9 : decode cX5_underWay 9 = .ok (.sipush 180, 3) := dk_17 0 180 (dk_at dksX5_underWay_0 9 rfl rfl)
theorem dX5_underWay_12 : decode cX5_underWay 12 = .ok (.iaload, 1) := dk_46 (dk_at dksX5_underWay_0 12 rfl rfl)
theorem dX5_underWay_13 : decode cX5_underWay 13 = .ok (.if_icmp .ge 30, 3) := dk_162 0 30 (dk_at dksX5_underWay_0 13 rfl rfl)
theorem dX5_underWay_16 : decode cX5_underWay 16 = .ok (.iload_n 1, 1) := dk_27 (dk_at dksX5_underWay_0 16 rfl rfl)
theorem dX5_underWay_17 : decode cX5_underWay 17 = .ok (.aload_n 0, 1) := dk_42 (dk_at dksX5_underWay_0 17 rfl rfl)
theorem dX5_underWay_18 : decode cX5_underWay 18 = .ok (.getfield 9, 3) := dk_180 0 9 (dk_at dksX5_underWay_0 18 rfl rfl)
theorem dX5_underWay_21 : decode cX5_underWay 21 = .ok (.iload_n 2, 1) := dk_28 (dk_at dksX5_underWay_0 21 rfl rfl)
theorem dX5_underWay_22 : decode cX5_underWay 22 = .ok (.iconst 1, 1) := dk_4 (dk_at dksX5_underWay_0 22 rfl rfl)
theorem dX5_underWay_23 : decode cX5_underWay 23 = .ok (.invokestatic 92, 3) := dk_184 0 92 (dk_at dksX5_underWay_1 0 rfl rfl)
theorem dX5_underWay_26 : decode cX5_underWay 26 = .ok (.iaload, 1) := dk_46 (dk_at dksX5_underWay_1 3 rfl rfl)
theorem dX5_underWay_27 : decode cX5_underWay 27 = .ok (.ifCond .ge 7, 3) := dk_156 0 7 (dk_at dksX5_underWay_1 4 rfl rfl)
theorem dX5_underWay_30 : decode cX5_underWay 30 = .ok (.iconst 1, 1) := dk_4 (dk_at dksX5_underWay_1 7 rfl rfl)
theorem dX5_underWay_31 : decode cX5_underWay 31 = .ok (.goto 4, 3) := dk_167 0 4 (dk_at dksX5_underWay_1 8 rfl rfl)
theorem dX5_underWay_34 : decode cX5_underWay 34 = .ok (.iconst 0, 1) := dk_3 (dk_at dksX5_underWay_1 11 rfl rfl)
theorem dX5_underWay_35 : decode cX5_underWay 35 = .ok (.iadd, 1) := dk_96 (dk_at dksX5_underWay_1 12 rfl rfl)
theorem dX5_underWay_36 : decode cX5_underWay 36 = .ok (.istore_n 1, 1) := dk_60 (dk_at dksX5_underWay_1 13 rfl rfl)
theorem dX5_underWay_37 : decode cX5_underWay 37 = .ok (.iinc 2 1, 3) := dk_132 2 1 (dk_at dksX5_underWay_1 14 rfl rfl)
theorem dX5_underWay_40 : decode cX5_underWay 40 = .ok (.goto (-36), 3) := dk_167 255 220 (dk_at dksX5_underWay_1 17 rfl rfl)
theorem dX5_underWay_43 : decode cX5_underWay 43 = .ok (.iload_n 1, 1) := dk_27 (dk_at dksX5_underWay_1 20 rfl rfl)
theorem dX5_underWay_44 : decode cX5_underWay 44 = .ok (.ireturn, 1) := dk_172 (dk_at dksX5_underWay_1 21 rfl rfl)
abbrev cX5_sumOfTrains : ByteArray := prog_20_method_89_code
def yX5_sumOfTrains : MethodName := ⟨RX5, "sumOfTrains", "(I)I"⟩
def dkwX5_sumOfTrains_1 : List UInt8 := [184, 0, 92, 46, 96, 61, 132, 3, 1, 167, 255, 228, 28, 172]
abbrev dktX5_sumOfTrains_1 : List UInt8 := dkwX5_sumOfTrains_1 ++ []
def dkwX5_sumOfTrains_0 : List UInt8 := [3, 61, 3, 62, 29, 42, 180, 0, 9, 17, 0, 180, 46, 162, 0, 22, 28, 42, 180, 0, 9, 29, 27]
abbrev dktX5_sumOfTrains_0 : List UInt8 := dkwX5_sumOfTrains_0 ++ dktX5_sumOfTrains_1
theorem dksX5_sumOfTrains_0 : cX5_sumOfTrains.data.toList.drop 0 = dktX5_sumOfTrains_0 := by decide +kernel
theorem dksX5_sumOfTrains_1 : cX5_sumOfTrains.data.toList.drop 23 = dktX5_sumOfTrains_1 := dk_seg dksX5_sumOfTrains_0 23 rfl rfl
theorem dX5_sumOfTrains_0 : decode cX5_sumOfTrains 0 = .ok (.iconst 0, 1) := dk_3 (dk_at dksX5_sumOfTrains_0 0 rfl rfl)
theorem dX5_sumOfTrains_1 : decode cX5_sumOfTrains 1 = .ok (.istore_n 2, 1) := dk_61 (dk_at dksX5_sumOfTrains_0 1 rfl rfl)
theorem dX5_sumOfTrains_2 : decode cX5_sumOfTrains 2 = .ok (.iconst 0, 1) := dk_3 (dk_at dksX5_sumOfTrains_0 2 rfl rfl)
theorem dX5_sumOfTrains_3 : decode cX5_sumOfTrains 3 = .ok (.istore_n 3, 1) := dk_62 (dk_at dksX5_sumOfTrains_0 3 rfl rfl)
theorem dX5_sumOfTrains_4 : decode cX5_sumOfTrains 4 = .ok (.iload_n 3, 1) := dk_29 (dk_at dksX5_sumOfTrains_0 4 rfl rfl)
theorem dX5_sumOfTrains_5 : decode cX5_sumOfTrains 5 = .ok (.aload_n 0, 1) := dk_42 (dk_at dksX5_sumOfTrains_0 5 rfl rfl)
theorem dX5_sumOfTrains_6 : decode cX5_sumOfTrains 6 = .ok (.getfield 9, 3) := dk_180 0 9 (dk_at dksX5_sumOfTrains_0 6 rfl rfl)
theorem dX5_sumOfTrains_9 : decode cX5_sumOfTrains 9 = .ok (.sipush 180, 3) := dk_17 0 180 (dk_at dksX5_sumOfTrains_0 9 rfl rfl)
theorem dX5_sumOfTrains_12 : decode cX5_sumOfTrains 12 = .ok (.iaload, 1) := dk_46 (dk_at dksX5_sumOfTrains_0 12 rfl rfl)
theorem dX5_sumOfTrains_13 : decode cX5_sumOfTrains 13 = .ok (.if_icmp .ge 22, 3) := dk_162 0 22 (dk_at dksX5_sumOfTrains_0 13 rfl rfl)
theorem dX5_sumOfTrains_16 : decode cX5_sumOfTrains 16 = .ok (.iload_n 2, 1) := dk_28 (dk_at dksX5_sumOfTrains_0 16 rfl rfl)
theorem dX5_sumOfTrains_17 : decode cX5_sumOfTrains 17 = .ok (.aload_n 0, 1) := dk_42 (dk_at dksX5_sumOfTrains_0 17 rfl rfl)
theorem dX5_sumOfTrains_18 : decode cX5_sumOfTrains 18 = .ok (.getfield 9, 3) := dk_180 0 9 (dk_at dksX5_sumOfTrains_0 18 rfl rfl)
theorem dX5_sumOfTrains_21 : decode cX5_sumOfTrains 21 = .ok (.iload_n 3, 1) := dk_29 (dk_at dksX5_sumOfTrains_0 21 rfl rfl)
theorem dX5_sumOfTrains_22 : decode cX5_sumOfTrains 22 = .ok (.iload_n 1, 1) := dk_27 (dk_at dksX5_sumOfTrains_0 22 rfl rfl)
theorem dX5_sumOfTrains_23 : decode cX5_sumOfTrains 23 = .ok (.invokestatic 92, 3) := dk_184 0 92 (dk_at dksX5_sumOfTrains_1 0 rfl rfl)
theorem dX5_sumOfTrains_26 : decode cX5_sumOfTrains 26 = .ok (.iaload, 1) := dk_46 (dk_at dksX5_sumOfTrains_1 3 rfl rfl)
theorem dX5_sumOfTrains_27 : decode cX5_sumOfTrains 27 = .ok (.iadd, 1) := dk_96 (dk_at dksX5_sumOfTrains_1 4 rfl rfl)
theorem dX5_sumOfTrains_28 : decode cX5_sumOfTrains 28 = .ok (.istore_n 2, 1) := dk_61 (dk_at dksX5_sumOfTrains_1 5 rfl rfl)
theorem dX5_sumOfTrains_29 : decode cX5_sumOfTrains 29 = .ok (.iinc 3 1, 3) := dk_132 3 1 (dk_at dksX5_sumOfTrains_1 6 rfl rfl)
theorem dX5_sumOfTrains_32 : decode cX5_sumOfTrains 32 = .ok (.goto (-28), 3) := dk_167 255 228 (dk_at dksX5_sumOfTrains_1 9 rfl rfl)
theorem dX5_sumOfTrains_35 : decode cX5_sumOfTrains 35 = .ok (.iload_n 2, 1) := dk_28 (dk_at dksX5_sumOfTrains_1 12 rfl rfl)
theorem dX5_sumOfTrains_36 : decode cX5_sumOfTrains 36 = .ok (.ireturn, 1) := dk_172 (dk_at dksX5_sumOfTrains_1 13 rfl rfl)
abbrev cX5_appointed : ByteArray := prog_20_method_92_code
def yX5_appointed : MethodName := ⟨RX5, "appointed", "()I"⟩
def dkwX5_appointed_1 : List UInt8 := [184, 0, 99, 46, 155, 0, 7, 4, 167, 0, 4, 3, 96, 60, 132, 2, 1, 167, 255, 220, 27, 172]
abbrev dktX5_appointed_1 : List UInt8 := dkwX5_appointed_1 ++ []
def dkwX5_appointed_0 : List UInt8 := [3, 60, 3, 61, 28, 42, 180, 0, 9, 17, 0, 181, 46, 162, 0, 30, 27, 42, 180, 0, 9, 28, 4]
abbrev dktX5_appointed_0 : List UInt8 := dkwX5_appointed_0 ++ dktX5_appointed_1
theorem dksX5_appointed_0 : cX5_appointed.data.toList.drop 0 = dktX5_appointed_0 := by decide +kernel
theorem dksX5_appointed_1 : cX5_appointed.data.toList.drop 23 = dktX5_appointed_1 := dk_seg dksX5_appointed_0 23 rfl rfl
theorem dX5_appointed_0 : decode cX5_appointed 0 = .ok (.iconst 0, 1) := dk_3 (dk_at dksX5_appointed_0 0 rfl rfl)
theorem dX5_appointed_1 : decode cX5_appointed 1 = .ok (.istore_n 1, 1) := dk_60 (dk_at dksX5_appointed_0 1 rfl rfl)
theorem dX5_appointed_2 : decode cX5_appointed 2 = .ok (.iconst 0, 1) := dk_3 (dk_at dksX5_appointed_0 2 rfl rfl)
theorem dX5_appointed_3 : decode cX5_appointed 3 = .ok (.istore_n 2, 1) := dk_61 (dk_at dksX5_appointed_0 3 rfl rfl)
theorem dX5_appointed_4 : decode cX5_appointed 4 = .ok (.iload_n 2, 1) := dk_28 (dk_at dksX5_appointed_0 4 rfl rfl)
theorem dX5_appointed_5 : decode cX5_appointed 5 = .ok (.aload_n 0, 1) := dk_42 (dk_at dksX5_appointed_0 5 rfl rfl)
theorem dX5_appointed_6 : decode cX5_appointed 6 = .ok (.getfield 9, 3) := dk_180 0 9 (dk_at dksX5_appointed_0 6 rfl rfl)
theorem dX5_appointed_9 : decode cX5_appointed 9 = .ok (.sipush 181, 3) := dk_17 0 181 (dk_at dksX5_appointed_0 9 rfl rfl)
theorem dX5_appointed_12 : decode cX5_appointed 12 = .ok (.iaload, 1) := dk_46 (dk_at dksX5_appointed_0 12 rfl rfl)
theorem dX5_appointed_13 : decode cX5_appointed 13 = .ok (.if_icmp .ge 30, 3) := dk_162 0 30 (dk_at dksX5_appointed_0 13 rfl rfl)
theorem dX5_appointed_16 : decode cX5_appointed 16 = .ok (.iload_n 1, 1) := dk_27 (dk_at dksX5_appointed_0 16 rfl rfl)
theorem dX5_appointed_17 : decode cX5_appointed 17 = .ok (.aload_n 0, 1) := dk_42 (dk_at dksX5_appointed_0 17 rfl rfl)
theorem dX5_appointed_18 : decode cX5_appointed 18 = .ok (.getfield 9, 3) := dk_180 0 9 (dk_at dksX5_appointed_0 18 rfl rfl)
theorem dX5_appointed_21 : decode cX5_appointed 21 = .ok (.iload_n 2, 1) := dk_28 (dk_at dksX5_appointed_0 21 rfl rfl)
theorem dX5_appointed_22 : decode cX5_appointed 22 = .ok (.iconst 1, 1) := dk_4 (dk_at dksX5_appointed_0 22 rfl rfl)
theorem dX5_appointed_23 : decode cX5_appointed 23 = .ok (.invokestatic 99, 3) := dk_184 0 99 (dk_at dksX5_appointed_1 0 rfl rfl)
theorem dX5_appointed_26 : decode cX5_appointed 26 = .ok (.iaload, 1) := dk_46 (dk_at dksX5_appointed_1 3 rfl rfl)
theorem dX5_appointed_27 : decode cX5_appointed 27 = .ok (.ifCond .lt 7, 3) := dk_155 0 7 (dk_at dksX5_appointed_1 4 rfl rfl)
theorem dX5_appointed_30 : decode cX5_appointed 30 = .ok (.iconst 1, 1) := dk_4 (dk_at dksX5_appointed_1 7 rfl rfl)
theorem dX5_appointed_31 : decode cX5_appointed 31 = .ok (.goto 4, 3) := dk_167 0 4 (dk_at dksX5_appointed_1 8 rfl rfl)
theorem dX5_appointed_34 : decode cX5_appointed 34 = .ok (.iconst 0, 1) := dk_3 (dk_at dksX5_appointed_1 11 rfl rfl)
theorem dX5_appointed_35 : decode cX5_appointed 35 = .ok (.iadd, 1) := dk_96 (dk_at dksX5_appointed_1 12 rfl rfl)
theorem dX5_appointed_36 : decode cX5_appointed 36 = .ok (.istore_n 1, 1) := dk_60 (dk_at dksX5_appointed_1 13 rfl rfl)
theorem dX5_appointed_37 : decode cX5_appointed 37 = .ok (.iinc 2 1, 3) := dk_132 2 1 (dk_at dksX5_appointed_1 14 rfl rfl)
theorem dX5_appointed_40 : decode cX5_appointed 40 = .ok (.goto (-36), 3) := dk_167 255 220 (dk_at dksX5_appointed_1 17 rfl rfl)
theorem dX5_appointed_43 : decode cX5_appointed 43 = .ok (.iload_n 1, 1) := dk_27 (dk_at dksX5_appointed_1 20 rfl rfl)
theorem dX5_appointed_44 : decode cX5_appointed 44 = .ok (.ireturn, 1) := dk_172 (dk_at dksX5_appointed_1 21 rfl rfl)
abbrev cX5_sumOfStretches : ByteArray := prog_20_method_90_code
def yX5_sumOfStretches : MethodName := ⟨RX5, "sumOfStretches", "(I)I"⟩
def dkwX5_sumOfStretches_1 : List UInt8 := [132, 3, 1, 167, 255, 235, 28, 172]
abbrev dktX5_sumOfStretches_1 : List UInt8 := dkwX5_sumOfStretches_1 ++ []
def dkwX5_sumOfStretches_0 : List UInt8 := [3, 61, 3, 62, 29, 8, 162, 0, 22, 28, 42, 180, 0, 9, 29, 27, 184, 0, 117, 46, 96, 61]
abbrev dktX5_sumOfStretches_0 : List UInt8 := dkwX5_sumOfStretches_0 ++ dktX5_sumOfStretches_1
theorem dksX5_sumOfStretches_0 : cX5_sumOfStretches.data.toList.drop 0 = dktX5_sumOfStretches_0 := by decide +kernel
theorem dksX5_sumOfStretches_1 : cX5_sumOfStretches.data.toList.drop 22 = dktX5_sumOfStretches_1 := dk_seg dksX5_sumOfStretches_0 22 rfl rfl
theorem dX5_sumOfStretches_0 : decode cX5_sumOfStretches 0 = .ok (.iconst 0, 1) := dk_3 (dk_at dksX5_sumOfStretches_0 0 rfl rfl)
theorem dX5_sumOfStretches_1 : decode cX5_sumOfStretches 1 = .ok (.istore_n 2, 1) := dk_61 (dk_at dksX5_sumOfStretches_0 1 rfl rfl)
theorem dX5_sumOfStretches_2 : decode cX5_sumOfStretches 2 = .ok (.iconst 0, 1) := dk_3 (dk_at dksX5_sumOfStretches_0 2 rfl rfl)
theorem dX5_sumOfStretches_3 : decode cX5_sumOfStretches 3 = .ok (.istore_n 3, 1) := dk_62 (dk_at dksX5_sumOfStretches_0 3 rfl rfl)
theorem dX5_sumOfStretches_4 : decode cX5_sumOfStretches 4 = .ok (.iload_n 3, 1) := dk_29 (dk_at dksX5_sumOfStretches_0 4 rfl rfl)
theorem dX5_sumOfStretches_5 : decode cX5_sumOfStretches 5 = .ok (.iconst 5, 1) := dk_8 (dk_at dksX5_sumOfStretches_0 5 rfl rfl)
theorem dX5_sumOfStretches_6 : decode cX5_sumOfStretches 6 = .ok (.if_icmp .ge 22, 3) := dk_162 0 22 (dk_at dksX5_sumOfStretches_0 6 rfl rfl)
theorem dX5_sumOfStretches_9 : decode cX5_sumOfStretches 9 = .ok (.iload_n 2, 1) := dk_28 (dk_at dksX5_sumOfStretches_0 9 rfl rfl)
theorem dX5_sumOfStretches_10 : decode cX5_sumOfStretches 10 = .ok (.aload_n 0, 1) := dk_42 (dk_at dksX5_sumOfStretches_0 10 rfl rfl)
theorem dX5_sumOfStretches_11 : decode cX5_sumOfStretches 11 = .ok (.getfield 9, 3) := dk_180 0 9 (dk_at dksX5_sumOfStretches_0 11 rfl rfl)
theorem dX5_sumOfStretches_14 : decode cX5_sumOfStretches 14 = .ok (.iload_n 3, 1) := dk_29 (dk_at dksX5_sumOfStretches_0 14 rfl rfl)
theorem dX5_sumOfStretches_15 : decode cX5_sumOfStretches 15 = .ok (.iload_n 1, 1) := dk_27 (dk_at dksX5_sumOfStretches_0 15 rfl rfl)
theorem dX5_sumOfStretches_16 : decode cX5_sumOfStretches 16 = .ok (.invokestatic 117, 3) := dk_184 0 117 (dk_at dksX5_sumOfStretches_0 16 rfl rfl)
theorem dX5_sumOfStretches_19 : decode cX5_sumOfStretches 19 = .ok (.iaload, 1) := dk_46 (dk_at dksX5_sumOfStretches_0 19 rfl rfl)
theorem dX5_sumOfStretches_20 : decode cX5_sumOfStretches 20 = .ok (.iadd, 1) := dk_96 (dk_at dksX5_sumOfStretches_0 20 rfl rfl)
theorem dX5_sumOfStretches_21 : decode cX5_sumOfStretches 21 = .ok (.istore_n 2, 1) := dk_61 (dk_at dksX5_sumOfStretches_0 21 rfl rfl)
theorem dX5_sumOfStretches_22 : decode cX5_sumOfStretches 22 = .ok (.iinc 3 1, 3) := dk_132 3 1 (dk_at dksX5_sumOfStretches_1 0 rfl rfl)
theorem dX5_sumOfStretches_25 : decode cX5_sumOfStretches 25 = .ok (.goto (-21), 3) := dk_167 255 235 (dk_at dksX5_sumOfStretches_1 3 rfl rfl)
theorem dX5_sumOfStretches_28 : decode cX5_sumOfStretches 28 = .ok (.iload_n 2, 1) := dk_28 (dk_at dksX5_sumOfStretches_1 6 rfl rfl)
theorem dX5_sumOfStretches_29 : decode cX5_sumOfStretches 29 = .ok (.ireturn, 1) := dk_172 (dk_at dksX5_sumOfStretches_1 7 rfl rfl)
abbrev cX5_share : ByteArray := prog_20_method_94_code
def yX5_share : MethodName := ⟨RX5, "share", "()D"⟩
def dkwX5_share_1 : List UInt8 := [14, 175, 42, 182, 1, 43, 135, 42, 180, 0, 9, 17, 0, 180, 46, 135, 111, 175]
abbrev dktX5_share_1 : List UInt8 := dkwX5_share_1 ++ []
def dkwX5_share_0 : List UInt8 := [42, 4, 42, 180, 0, 9, 17, 0, 180, 46, 154, 0, 7, 4, 167, 0, 4, 3, 182, 0, 84, 153, 0, 5]
abbrev dktX5_share_0 : List UInt8 := dkwX5_share_0 ++ dktX5_share_1
theorem dksX5_share_0 : cX5_share.data.toList.drop 0 = dktX5_share_0 := by decide +kernel
theorem dksX5_share_1 : cX5_share.data.toList.drop 24 = dktX5_share_1 := dk_seg dksX5_share_0 24 rfl rfl
theorem dX5_share_0 : decode cX5_share 0 = .ok (.aload_n 0, 1) := dk_42 (dk_at dksX5_share_0 0 rfl rfl)
theorem dX5_share_1 : decode cX5_share 1 = .ok (.iconst 1, 1) := dk_4 (dk_at dksX5_share_0 1 rfl rfl)
theorem dX5_share_2 : decode cX5_share 2 = .ok (.aload_n 0, 1) := dk_42 (dk_at dksX5_share_0 2 rfl rfl)
theorem dX5_share_3 : decode cX5_share 3 = .ok (.getfield 9, 3) := dk_180 0 9 (dk_at dksX5_share_0 3 rfl rfl)
theorem dX5_share_6 : decode cX5_share 6 = .ok (.sipush 180, 3) := dk_17 0 180 (dk_at dksX5_share_0 6 rfl rfl)
theorem dX5_share_9 : decode cX5_share 9 = .ok (.iaload, 1) := dk_46 (dk_at dksX5_share_0 9 rfl rfl)
theorem dX5_share_10 : decode cX5_share 10 = .ok (.ifCond .ne 7, 3) := dk_154 0 7 (dk_at dksX5_share_0 10 rfl rfl)
theorem dX5_share_13 : decode cX5_share 13 = .ok (.iconst 1, 1) := dk_4 (dk_at dksX5_share_0 13 rfl rfl)
theorem dX5_share_14 : decode cX5_share 14 = .ok (.goto 4, 3) := dk_167 0 4 (dk_at dksX5_share_0 14 rfl rfl)
theorem dX5_share_17 : decode cX5_share 17 = .ok (.iconst 0, 1) := dk_3 (dk_at dksX5_share_0 17 rfl rfl)
theorem dX5_share_18 : decode cX5_share 18 = .ok (.invokevirtual 84, 3) := dk_182 0 84 (dk_at dksX5_share_0 18 rfl rfl)
theorem dX5_share_21 : decode cX5_share 21 = .ok (.ifCond .eq 5, 3) := dk_153 0 5 (dk_at dksX5_share_0 21 rfl rfl)
theorem dX5_share_24 : decode cX5_share 24 = .ok (.dconst 0, 1) := dk_14 (dk_at dksX5_share_1 0 rfl rfl)
theorem dX5_share_25 : decode cX5_share 25 = .ok (.dreturn, 1) := dk_175 (dk_at dksX5_share_1 1 rfl rfl)
theorem dX5_share_26 : decode cX5_share 26 = .ok (.aload_n 0, 1) := dk_42 (dk_at dksX5_share_1 2 rfl rfl)
theorem dX5_share_27 : decode cX5_share 27 = .ok (.invokevirtual 299, 3) := dk_182 1 43 (dk_at dksX5_share_1 3 rfl rfl)
theorem dX5_share_30 : decode cX5_share 30 = .ok (.i2d, 1) := dk_135 (dk_at dksX5_share_1 6 rfl rfl)
theorem dX5_share_31 : decode cX5_share 31 = .ok (.aload_n 0, 1) := dk_42 (dk_at dksX5_share_1 7 rfl rfl)
theorem dX5_share_32 : decode cX5_share 32 = .ok (.getfield 9, 3) := dk_180 0 9 (dk_at dksX5_share_1 8 rfl rfl)
theorem dX5_share_35 : decode cX5_share 35 = .ok (.sipush 180, 3) := dk_17 0 180 (dk_at dksX5_share_1 11 rfl rfl)
theorem dX5_share_38 : decode cX5_share 38 = .ok (.iaload, 1) := dk_46 (dk_at dksX5_share_1 14 rfl rfl)
theorem dX5_share_39 : decode cX5_share 39 = .ok (.i2d, 1) := dk_135 (dk_at dksX5_share_1 15 rfl rfl)
theorem dX5_share_40 : decode cX5_share 40 = .ok (.ddiv, 1) := dk_111 (dk_at dksX5_share_1 16 rfl rfl)
theorem dX5_share_41 : decode cX5_share 41 = .ok (.dreturn, 1) := dk_175 (dk_at dksX5_share_1 17 rfl rfl)
abbrev cX5_undo : ByteArray := prog_20_method_95_code
def yX5_undo : MethodName := ⟨RX5, "undo", "()I"⟩
def dkwX5_undo_2 : List UInt8 := [42, 180, 0, 55, 172]
abbrev dktX5_undo_2 : List UInt8 := dkwX5_undo_2 ++ []
def dkwX5_undo_1 : List UInt8 := [180, 0, 55, 4, 100, 181, 0, 55, 42, 180, 0, 21, 42, 180, 0, 55, 50, 42, 180, 0, 9, 184, 0, 58]
abbrev dktX5_undo_1 : List UInt8 := dkwX5_undo_1 ++ dktX5_undo_2
def dkwX5_undo_0 : List UInt8 := [42, 4, 42, 180, 0, 55, 154, 0, 7, 4, 167, 0, 4, 3, 182, 0, 84, 153, 0, 5, 3, 172, 42, 89]
abbrev dktX5_undo_0 : List UInt8 := dkwX5_undo_0 ++ dktX5_undo_1
theorem dksX5_undo_0 : cX5_undo.data.toList.drop 0 = dktX5_undo_0 := by decide +kernel
theorem dksX5_undo_1 : cX5_undo.data.toList.drop 24 = dktX5_undo_1 := dk_seg dksX5_undo_0 24 rfl rfl
theorem dksX5_undo_2 : cX5_undo.data.toList.drop 48 = dktX5_undo_2 := dk_seg dksX5_undo_1 24 rfl rfl
theorem dX5_undo_0 : decode cX5_undo 0 = .ok (.aload_n 0, 1) := dk_42 (dk_at dksX5_undo_0 0 rfl rfl)
theorem dX5_undo_1 : decode cX5_undo 1 = .ok (.iconst 1, 1) := dk_4 (dk_at dksX5_undo_0 1 rfl rfl)
theorem dX5_undo_2 : decode cX5_undo 2 = .ok (.aload_n 0, 1) := dk_42 (dk_at dksX5_undo_0 2 rfl rfl)
theorem dX5_undo_3 : decode cX5_undo 3 = .ok (.getfield 55, 3) := dk_180 0 55 (dk_at dksX5_undo_0 3 rfl rfl)
theorem dX5_undo_6 : decode cX5_undo 6 = .ok (.ifCond .ne 7, 3) := dk_154 0 7 (dk_at dksX5_undo_0 6 rfl rfl)
theorem dX5_undo_9 : decode cX5_undo 9 = .ok (.iconst 1, 1) := dk_4 (dk_at dksX5_undo_0 9 rfl rfl)
theorem dX5_undo_10 : decode cX5_undo 10 = .ok (.goto 4, 3) := dk_167 0 4 (dk_at dksX5_undo_0 10 rfl rfl)
theorem dX5_undo_13 : decode cX5_undo 13 = .ok (.iconst 0, 1) := dk_3 (dk_at dksX5_undo_0 13 rfl rfl)
theorem dX5_undo_14 : decode cX5_undo 14 = .ok (.invokevirtual 84, 3) := dk_182 0 84 (dk_at dksX5_undo_0 14 rfl rfl)
theorem dX5_undo_17 : decode cX5_undo 17 = .ok (.ifCond .eq 5, 3) := dk_153 0 5 (dk_at dksX5_undo_0 17 rfl rfl)
theorem dX5_undo_20 : decode cX5_undo 20 = .ok (.iconst 0, 1) := dk_3 (dk_at dksX5_undo_0 20 rfl rfl)
theorem dX5_undo_21 : decode cX5_undo 21 = .ok (.ireturn, 1) := dk_172 (dk_at dksX5_undo_0 21 rfl rfl)
theorem dX5_undo_22 : decode cX5_undo 22 = .ok (.aload_n 0, 1) := dk_42 (dk_at dksX5_undo_0 22 rfl rfl)
theorem dX5_undo_23 : decode cX5_undo 23 = .ok (.dup, 1) := dk_89 (dk_at dksX5_undo_0 23 rfl rfl)
theorem dX5_undo_24 : decode cX5_undo 24 = .ok (.getfield 55, 3) := dk_180 0 55 (dk_at dksX5_undo_1 0 rfl rfl)
theorem dX5_undo_27 : decode cX5_undo 27 = .ok (.iconst 1, 1) := dk_4 (dk_at dksX5_undo_1 3 rfl rfl)
theorem dX5_undo_28 : decode cX5_undo 28 = .ok (.isub, 1) := dk_100 (dk_at dksX5_undo_1 4 rfl rfl)
theorem dX5_undo_29 : decode cX5_undo 29 = .ok (.putfield 55, 3) := dk_181 0 55 (dk_at dksX5_undo_1 5 rfl rfl)
theorem dX5_undo_32 : decode cX5_undo 32 = .ok (.aload_n 0, 1) := dk_42 (dk_at dksX5_undo_1 8 rfl rfl)
theorem dX5_undo_33 : decode cX5_undo 33 = .ok (.getfield 21, 3) := dk_180 0 21 (dk_at dksX5_undo_1 9 rfl rfl)
theorem dX5_undo_36 : decode cX5_undo 36 = .ok (.aload_n 0, 1) := dk_42 (dk_at dksX5_undo_1 12 rfl rfl)
theorem dX5_undo_37 : decode cX5_undo 37 = .ok (.getfield 55, 3) := dk_180 0 55 (dk_at dksX5_undo_1 13 rfl rfl)
theorem dX5_undo_40 : decode cX5_undo 40 = .ok (.aaload, 1) := dk_50 (dk_at dksX5_undo_1 16 rfl rfl)
theorem dX5_undo_41 : decode cX5_undo 41 = .ok (.aload_n 0, 1) := dk_42 (dk_at dksX5_undo_1 17 rfl rfl)
theorem dX5_undo_42 : decode cX5_undo 42 = .ok (.getfield 9, 3) := dk_180 0 9 (dk_at dksX5_undo_1 18 rfl rfl)
theorem dX5_undo_45 : decode cX5_undo 45 = .ok (.invokestatic 58, 3) := dk_184 0 58 (dk_at dksX5_undo_1 21 rfl rfl)
theorem dX5_undo_48 : decode cX5_undo 48 = .ok (.aload_n 0, 1) := dk_42 (dk_at dksX5_undo_2 0 rfl rfl)
theorem dX5_undo_49 : decode cX5_undo 49 = .ok (.getfield 55, 3) := dk_180 0 55 (dk_at dksX5_undo_2 1 rfl rfl)
theorem dX5_undo_52 : decode cX5_undo 52 = .ok (.ireturn, 1) := dk_172 (dk_at dksX5_undo_2 4 rfl rfl)
abbrev cX5_save : ByteArray := prog_20_method_96_code
def yX5_save : MethodName := ⟨RX5, "save", "()I"⟩
def dkwX5_save_1 : List UInt8 := [180, 0, 9, 17, 0, 180, 46, 172]
abbrev dktX5_save_1 : List UInt8 := dkwX5_save_1 ++ []
def dkwX5_save_0 : List UInt8 := [42, 3, 181, 0, 52, 42, 4, 181, 1, 55, 42, 180, 0, 9, 42, 180, 0, 13, 184, 0, 58, 42]
abbrev dktX5_save_0 : List UInt8 := dkwX5_save_0 ++ dktX5_save_1
theorem dksX5_save_0 : cX5_save.data.toList.drop 0 = dktX5_save_0 := by decide +kernel
theorem dksX5_save_1 : cX5_save.data.toList.drop 22 = dktX5_save_1 := dk_seg dksX5_save_0 22 rfl rfl
theorem dX5_save_0 : decode cX5_save 0 = .ok (.aload_n 0, 1) := dk_42 (dk_at dksX5_save_0 0 rfl rfl)
theorem dX5_save_1 : decode cX5_save 1 = .ok (.iconst 0, 1) := dk_3 (dk_at dksX5_save_0 1 rfl rfl)
theorem dX5_save_2 : decode cX5_save 2 = .ok (.putfield 52, 3) := dk_181 0 52 (dk_at dksX5_save_0 2 rfl rfl)
theorem dX5_save_5 : decode cX5_save 5 = .ok (.aload_n 0, 1) := dk_42 (dk_at dksX5_save_0 5 rfl rfl)
theorem dX5_save_6 : decode cX5_save 6 = .ok (.iconst 1, 1) := dk_4 (dk_at dksX5_save_0 6 rfl rfl)
theorem dX5_save_7 : decode cX5_save 7 = .ok (.putfield 311, 3) := dk_181 1 55 (dk_at dksX5_save_0 7 rfl rfl)
theorem dX5_save_10 : decode cX5_save 10 = .ok (.aload_n 0, 1) := dk_42 (dk_at dksX5_save_0 10 rfl rfl)
theorem dX5_save_11 : decode cX5_save 11 = .ok (.getfield 9, 3) := dk_180 0 9 (dk_at dksX5_save_0 11 rfl rfl)
theorem dX5_save_14 : decode cX5_save 14 = .ok (.aload_n 0, 1) := dk_42 (dk_at dksX5_save_0 14 rfl rfl)
theorem dX5_save_15 : decode cX5_save 15 = .ok (.getfield 13, 3) := dk_180 0 13 (dk_at dksX5_save_0 15 rfl rfl)
theorem dX5_save_18 : decode cX5_save 18 = .ok (.invokestatic 58, 3) := dk_184 0 58 (dk_at dksX5_save_0 18 rfl rfl)
theorem dX5_save_21 : decode cX5_save 21 = .ok (.aload_n 0, 1) := dk_42 (dk_at dksX5_save_0 21 rfl rfl)
theorem dX5_save_22 : decode cX5_save 22 = .ok (.getfield 9, 3) := dk_180 0 9 (dk_at dksX5_save_1 0 rfl rfl)
theorem dX5_save_25 : decode cX5_save 25 = .ok (.sipush 180, 3) := dk_17 0 180 (dk_at dksX5_save_1 3 rfl rfl)
theorem dX5_save_28 : decode cX5_save 28 = .ok (.iaload, 1) := dk_46 (dk_at dksX5_save_1 6 rfl rfl)
theorem dX5_save_29 : decode cX5_save 29 = .ok (.ireturn, 1) := dk_172 (dk_at dksX5_save_1 7 rfl rfl)
abbrev cX5_restore : ByteArray := prog_20_method_97_code
def yX5_restore : MethodName := ⟨RX5, "restore", "()I"⟩
def dkwX5_restore_1 : List UInt8 := [180, 0, 13, 42, 180, 0, 9, 184, 0, 58, 42, 3, 181, 0, 55, 42, 180, 0, 9, 17, 0, 180, 46, 172]
abbrev dktX5_restore_1 : List UInt8 := dkwX5_restore_1 ++ []
def dkwX5_restore_0 : List UInt8 := [42, 4, 42, 180, 1, 55, 154, 0, 7, 4, 167, 0, 4, 3, 182, 0, 84, 153, 0, 5, 3, 172, 42]
abbrev dktX5_restore_0 : List UInt8 := dkwX5_restore_0 ++ dktX5_restore_1
theorem dksX5_restore_0 : cX5_restore.data.toList.drop 0 = dktX5_restore_0 := by decide +kernel
theorem dksX5_restore_1 : cX5_restore.data.toList.drop 23 = dktX5_restore_1 := dk_seg dksX5_restore_0 23 rfl rfl
theorem dX5_restore_0 : decode cX5_restore 0 = .ok (.aload_n 0, 1) := dk_42 (dk_at dksX5_restore_0 0 rfl rfl)
theorem dX5_restore_1 : decode cX5_restore 1 = .ok (.iconst 1, 1) := dk_4 (dk_at dksX5_restore_0 1 rfl rfl)
theorem dX5_restore_2 : decode cX5_restore 2 = .ok (.aload_n 0, 1) := dk_42 (dk_at dksX5_restore_0 2 rfl rfl)
theorem dX5_restore_3 : decode cX5_restore 3 = .ok (.getfield 311, 3) := dk_180 1 55 (dk_at dksX5_restore_0 3 rfl rfl)
theorem dX5_restore_6 : decode cX5_restore 6 = .ok (.ifCond .ne 7, 3) := dk_154 0 7 (dk_at dksX5_restore_0 6 rfl rfl)
theorem dX5_restore_9 : decode cX5_restore 9 = .ok (.iconst 1, 1) := dk_4 (dk_at dksX5_restore_0 9 rfl rfl)
theorem dX5_restore_10 : decode cX5_restore 10 = .ok (.goto 4, 3) := dk_167 0 4 (dk_at dksX5_restore_0 10 rfl rfl)
theorem dX5_restore_13 : decode cX5_restore 13 = .ok (.iconst 0, 1) := dk_3 (dk_at dksX5_restore_0 13 rfl rfl)
theorem dX5_restore_14 : decode cX5_restore 14 = .ok (.invokevirtual 84, 3) := dk_182 0 84 (dk_at dksX5_restore_0 14 rfl rfl)
theorem dX5_restore_17 : decode cX5_restore 17 = .ok (.ifCond .eq 5, 3) := dk_153 0 5 (dk_at dksX5_restore_0 17 rfl rfl)
theorem dX5_restore_20 : decode cX5_restore 20 = .ok (.iconst 0, 1) := dk_3 (dk_at dksX5_restore_0 20 rfl rfl)
theorem dX5_restore_21 : decode cX5_restore 21 = .ok (.ireturn, 1) := dk_172 (dk_at dksX5_restore_0 21 rfl rfl)
theorem dX5_restore_22 : decode cX5_restore 22 = .ok (.aload_n 0, 1) := dk_42 (dk_at dksX5_restore_0 22 rfl rfl)
theorem dX5_restore_23 : decode cX5_restore 23 = .ok (.getfield 13, 3) := dk_180 0 13 (dk_at dksX5_restore_1 0 rfl rfl)
theorem dX5_restore_26 : decode cX5_restore 26 = .ok (.aload_n 0, 1) := dk_42 (dk_at dksX5_restore_1 3 rfl rfl)
theorem dX5_restore_27 : decode cX5_restore 27 = .ok (.getfield 9, 3) := dk_180 0 9 (dk_at dksX5_restore_1 4 rfl rfl)
theorem dX5_restore_30 : decode cX5_restore 30 = .ok (.invokestatic 58, 3) := dk_184 0 58 (dk_at dksX5_restore_1 7 rfl rfl)
theorem dX5_restore_33 : decode cX5_restore 33 = .ok (.aload_n 0, 1) := dk_42 (dk_at dksX5_restore_1 10 rfl rfl)
theorem dX5_restore_34 : decode cX5_restore 34 = .ok (.iconst 0, 1) := dk_3 (dk_at dksX5_restore_1 11 rfl rfl)
theorem dX5_restore_35 : decode cX5_restore 35 = .ok (.putfield 55, 3) := dk_181 0 55 (dk_at dksX5_restore_1 12 rfl rfl)
theorem dX5_restore_38 : decode cX5_restore 38 = .ok (.aload_n 0, 1) := dk_42 (dk_at dksX5_restore_1 15 rfl rfl)
theorem dX5_restore_39 : decode cX5_restore 39 = .ok (.getfield 9, 3) := dk_180 0 9 (dk_at dksX5_restore_1 16 rfl rfl)
theorem dX5_restore_42 : decode cX5_restore 42 = .ok (.sipush 180, 3) := dk_17 0 180 (dk_at dksX5_restore_1 19 rfl rfl)
theorem dX5_restore_45 : decode cX5_restore 45 = .ok (.iaload, 1) := dk_46 (dk_at dksX5_restore_1 22 rfl rfl)
theorem dX5_restore_46 : decode cX5_restore 46 = .ok (.ireturn, 1) := dk_172 (dk_at dksX5_restore_1 23 rfl rfl)
theorem q118 : (Jvm.Cond.initialized "StaffRailwayModel") ∈ lw_all := lw_g (lw_at lw_m1 25 rfl) rfl
theorem q1022 : (Jvm.Cond.selects "StaffRailwayModel" ({ cls := "java/lang/Object", name := "getClass", desc := "()Ljava/lang/Class;" } : Jvm.MethodName) ({ cls := "java/lang/Object", name := "getClass", desc := "()Ljava/lang/Class;" } : Jvm.MethodName)) ∈ lw_all := lw_g (lw_at lw_m4 209 rfl) rfl
theorem q2167 : (Jvm.Cond.instantiable "StaffRailwayModel" (23 : Nat)) ∈ lw_all := lw_g (lw_at lw_m9 154 rfl) rfl
theorem q2169 : (Jvm.Cond.instanceMethod ({ cls := "StaffRailwayModel", name := "<init>", desc := "()V" } : Jvm.MethodName)) ∈ lw_all := lw_g (lw_at lw_m9 156 rfl) rfl
theorem q2170 : (Jvm.Cond.code ({ cls := "StaffRailwayModel", name := "<init>", desc := "()V" } : Jvm.MethodName) prog_20_method_1_code (2 : Nat) (Option.none : Option Jvm.ClassFile.FieldType)) ∈ lw_all := lw_g (lw_at lw_m9 157 rfl) rfl
theorem q2171 : (Jvm.Cond.methodLink "StaffRailwayModel" (3 : Nat) ({ cls := "java/lang/Object", name := "<init>", desc := "()V" } : Jvm.MethodName)) ∈ lw_all := lw_g (lw_at lw_m9 158 rfl) rfl
theorem q2172 : (Jvm.Cond.classLink "StaffRailwayModel" (19 : Nat) "[[I") ∈ lw_all := lw_g (lw_at lw_m9 159 rfl) rfl
theorem q2174 : (Jvm.Cond.methodLink "StaffRailwayModel" (44 : Nat) ({ cls := "StaffRailwayModel", name := "ofStation", desc := "(II)I" } : Jvm.MethodName)) ∈ lw_all := lw_g (lw_at lw_m9 161 rfl) rfl
theorem q2175 : (Jvm.Cond.static ({ cls := "StaffRailwayModel", name := "ofStation", desc := "(II)I" } : Jvm.MethodName)) ∈ lw_all := lw_g (lw_at lw_m9 162 rfl) rfl
theorem q2176 : (Jvm.Cond.code ({ cls := "StaffRailwayModel", name := "ofStation", desc := "(II)I" } : Jvm.MethodName) prog_20_method_12_code (2 : Nat) (Option.some Jvm.ClassFile.FieldType.int)) ∈ lw_all := lw_g (lw_at lw_m9 163 rfl) rfl
theorem q2177 : (Jvm.Cond.methodLink "StaffRailwayModel" (48 : Nat) ({ cls := "StaffRailwayModel", name := "setStretch", desc := "(IIII)V" } : Jvm.MethodName)) ∈ lw_all := lw_g (lw_at lw_m9 164 rfl) rfl
theorem q2178 : (Jvm.Cond.privateMethod ({ cls := "StaffRailwayModel", name := "setStretch", desc := "(IIII)V" } : Jvm.MethodName)) ∈ lw_tbl := lw_at lw_m9 165 rfl
theorem q2179 : (Jvm.Cond.instanceMethod ({ cls := "StaffRailwayModel", name := "setStretch", desc := "(IIII)V" } : Jvm.MethodName)) ∈ lw_all := lw_g (lw_at lw_m9 166 rfl) rfl
theorem q2180 : (Jvm.Cond.code ({ cls := "StaffRailwayModel", name := "setStretch", desc := "(IIII)V" } : Jvm.MethodName) prog_20_method_28_code (5 : Nat) (Option.none : Option Jvm.ClassFile.FieldType)) ∈ lw_all := lw_g (lw_at lw_m9 167 rfl) rfl
theorem q2181 : (Jvm.Cond.methodLink "StaffRailwayModel" (117 : Nat) ({ cls := "StaffRailwayModel", name := "ofStretch", desc := "(II)I" } : Jvm.MethodName)) ∈ lw_all := lw_g (lw_at lw_m9 168 rfl) rfl
theorem q2182 : (Jvm.Cond.static ({ cls := "StaffRailwayModel", name := "ofStretch", desc := "(II)I" } : Jvm.MethodName)) ∈ lw_all := lw_g (lw_at lw_m9 169 rfl) rfl
theorem q2183 : (Jvm.Cond.code ({ cls := "StaffRailwayModel", name := "ofStretch", desc := "(II)I" } : Jvm.MethodName) prog_20_method_13_code (2 : Nat) (Option.some Jvm.ClassFile.FieldType.int)) ∈ lw_all := lw_g (lw_at lw_m9 170 rfl) rfl
theorem q2184 : (Jvm.Cond.fieldLink "StaffRailwayModel" (52 : Nat) "StaffRailwayModel" "thrown" "I") ∈ lw_all := lw_g (lw_at lw_m9 171 rfl) rfl
theorem q2185 : (Jvm.Cond.fieldLink "StaffRailwayModel" (9 : Nat) "StaffRailwayModel" "now" "[I") ∈ lw_all := lw_g (lw_at lw_m9 172 rfl) rfl
theorem q2186 : (Jvm.Cond.fieldLink "StaffRailwayModel" (13 : Nat) "StaffRailwayModel" "saved" "[I") ∈ lw_all := lw_g (lw_at lw_m9 173 rfl) rfl
theorem q2187 : (Jvm.Cond.fieldLink "StaffRailwayModel" (16 : Nat) "StaffRailwayModel" "ahead" "[I") ∈ lw_all := lw_g (lw_at lw_m9 174 rfl) rfl
theorem q2188 : (Jvm.Cond.fieldLink "StaffRailwayModel" (21 : Nat) "StaffRailwayModel" "history" "[[I") ∈ lw_all := lw_g (lw_at lw_m9 175 rfl) rfl
theorem q2189 : (Jvm.Cond.fieldLink "StaffRailwayModel" (55 : Nat) "StaffRailwayModel" "kept" "I") ∈ lw_all := lw_g (lw_at lw_m9 176 rfl) rfl
theorem q2190 : (Jvm.Cond.fieldLink "StaffRailwayModel" (311 : Nat) "StaffRailwayModel" "isSaved" "Z") ∈ lw_all := lw_g (lw_at lw_m9 177 rfl) rfl
theorem q2191 : (Jvm.Cond.fieldLink "StaffRailwayModel" (62 : Nat) "StaffRailwayModel" "isInText" "Z") ∈ lw_all := lw_g (lw_at lw_m9 178 rfl) rfl
theorem q2192 : (Jvm.Cond.fieldLink "StaffRailwayModel" (24 : Nat) "StaffRailwayModel" "reasons" "[I") ∈ lw_all := lw_g (lw_at lw_m9 179 rfl) rfl
theorem q2193 : (Jvm.Cond.fieldLink "StaffRailwayModel" (27 : Nat) "StaffRailwayModel" "details" "[I") ∈ lw_all := lw_g (lw_at lw_m9 180 rfl) rfl
theorem q2194 : (Jvm.Cond.fieldLink "StaffRailwayModel" (30 : Nat) "StaffRailwayModel" "keptReasons" "[I") ∈ lw_all := lw_g (lw_at lw_m9 181 rfl) rfl
theorem q2195 : (Jvm.Cond.fieldLink "StaffRailwayModel" (33 : Nat) "StaffRailwayModel" "keptDetails" "[I") ∈ lw_all := lw_g (lw_at lw_m9 182 rfl) rfl
theorem q2196 : (Jvm.Cond.fieldLink "StaffRailwayModel" (70 : Nat) "StaffRailwayModel" "depth" "I") ∈ lw_all := lw_g (lw_at lw_m9 183 rfl) rfl
theorem q2197 : (Jvm.Cond.fieldLink "StaffRailwayModel" (77 : Nat) "StaffRailwayModel" "keptDepth" "I") ∈ lw_all := lw_g (lw_at lw_m9 184 rfl) rfl
theorem q2198 : (Jvm.Cond.fieldLink "StaffRailwayModel" (223 : Nat) "StaffRailwayModel" "minutesLaid" "I") ∈ lw_all := lw_g (lw_at lw_m9 185 rfl) rfl
theorem q2199 : (Jvm.Cond.fieldLink "StaffRailwayModel" (36 : Nat) "StaffRailwayModel" "text" "[C") ∈ lw_all := lw_g (lw_at lw_m9 186 rfl) rfl
theorem q2200 : (Jvm.Cond.fieldLink "StaffRailwayModel" (233 : Nat) "StaffRailwayModel" "length" "I") ∈ lw_all := lw_g (lw_at lw_m9 187 rfl) rfl
theorem q2201 : (Jvm.Cond.fieldLink "StaffRailwayModel" (239 : Nat) "StaffRailwayModel" "at" "I") ∈ lw_all := lw_g (lw_at lw_m9 188 rfl) rfl
theorem q2202 : (Jvm.Cond.fieldLink "StaffRailwayModel" (40 : Nat) "StaffRailwayModel" "fault" "I") ∈ lw_all := lw_g (lw_at lw_m9 189 rfl) rfl
theorem q2203 : (Jvm.Cond.fieldLink "StaffRailwayModel" (236 : Nat) "StaffRailwayModel" "isWrong" "Z") ∈ lw_all := lw_g (lw_at lw_m9 190 rfl) rfl
theorem q2204 : (Jvm.Cond.fieldLink "StaffRailwayModel" (246 : Nat) "StaffRailwayModel" "told" "C") ∈ lw_all := lw_g (lw_at lw_m9 191 rfl) rfl
theorem q2205 : (Jvm.Cond.fieldLink "StaffRailwayModel" (257 : Nat) "StaffRailwayModel" "toldOne" "I") ∈ lw_all := lw_g (lw_at lw_m9 192 rfl) rfl
theorem q2206 : (Jvm.Cond.fieldLink "StaffRailwayModel" (264 : Nat) "StaffRailwayModel" "toldTwo" "I") ∈ lw_all := lw_g (lw_at lw_m9 193 rfl) rfl
theorem q2207 : (Jvm.Cond.lays "StaffRailwayModel" "StaffRailwayModel" "thrown" "I") ∈ lw_all := lw_g (lw_at lw_m9 194 rfl) rfl
theorem q2208 : (Jvm.Cond.soleField "StaffRailwayModel" "thrown") ∈ lw_all := lw_g (lw_at lw_m9 195 rfl) rfl
theorem q2209 : (Jvm.Cond.laysFinal "StaffRailwayModel" "StaffRailwayModel" "now" "[I") ∈ lw_all := lw_g (lw_at lw_m9 196 rfl) rfl
theorem q2210 : (Jvm.Cond.soleField "StaffRailwayModel" "now") ∈ lw_all := lw_g (lw_at lw_m9 197 rfl) rfl
theorem q2211 : (Jvm.Cond.laysFinal "StaffRailwayModel" "StaffRailwayModel" "saved" "[I") ∈ lw_all := lw_g (lw_at lw_m9 198 rfl) rfl
theorem q2212 : (Jvm.Cond.soleField "StaffRailwayModel" "saved") ∈ lw_all := lw_g (lw_at lw_m9 199 rfl) rfl
theorem q2213 : (Jvm.Cond.laysFinal "StaffRailwayModel" "StaffRailwayModel" "ahead" "[I") ∈ lw_all := lw_g (lw_at lw_m9 200 rfl) rfl
theorem q2214 : (Jvm.Cond.soleField "StaffRailwayModel" "ahead") ∈ lw_all := lw_g (lw_at lw_m9 201 rfl) rfl
theorem q2215 : (Jvm.Cond.laysFinal "StaffRailwayModel" "StaffRailwayModel" "history" "[[I") ∈ lw_all := lw_g (lw_at lw_m9 202 rfl) rfl
theorem q2216 : (Jvm.Cond.soleField "StaffRailwayModel" "history") ∈ lw_all := lw_g (lw_at lw_m9 203 rfl) rfl
theorem q2217 : (Jvm.Cond.lays "StaffRailwayModel" "StaffRailwayModel" "kept" "I") ∈ lw_all := lw_g (lw_at lw_m9 204 rfl) rfl
theorem q2218 : (Jvm.Cond.soleField "StaffRailwayModel" "kept") ∈ lw_all := lw_g (lw_at lw_m9 205 rfl) rfl
theorem q2219 : (Jvm.Cond.lays "StaffRailwayModel" "StaffRailwayModel" "isSaved" "Z") ∈ lw_all := lw_g (lw_at lw_m9 206 rfl) rfl
theorem q2220 : (Jvm.Cond.soleField "StaffRailwayModel" "isSaved") ∈ lw_all := lw_g (lw_at lw_m9 207 rfl) rfl
theorem q2221 : (Jvm.Cond.lays "StaffRailwayModel" "StaffRailwayModel" "isInText" "Z") ∈ lw_all := lw_g (lw_at lw_m9 208 rfl) rfl
theorem q2222 : (Jvm.Cond.soleField "StaffRailwayModel" "isInText") ∈ lw_all := lw_g (lw_at lw_m9 209 rfl) rfl
theorem q2223 : (Jvm.Cond.laysFinal "StaffRailwayModel" "StaffRailwayModel" "reasons" "[I") ∈ lw_all := lw_g (lw_at lw_m9 210 rfl) rfl
theorem q2224 : (Jvm.Cond.soleField "StaffRailwayModel" "reasons") ∈ lw_all := lw_g (lw_at lw_m9 211 rfl) rfl
theorem q2225 : (Jvm.Cond.laysFinal "StaffRailwayModel" "StaffRailwayModel" "details" "[I") ∈ lw_all := lw_g (lw_at lw_m9 212 rfl) rfl
theorem q2226 : (Jvm.Cond.soleField "StaffRailwayModel" "details") ∈ lw_all := lw_g (lw_at lw_m9 213 rfl) rfl
theorem q2227 : (Jvm.Cond.laysFinal "StaffRailwayModel" "StaffRailwayModel" "keptReasons" "[I") ∈ lw_all := lw_g (lw_at lw_m9 214 rfl) rfl
theorem q2228 : (Jvm.Cond.soleField "StaffRailwayModel" "keptReasons") ∈ lw_all := lw_g (lw_at lw_m9 215 rfl) rfl
theorem q2229 : (Jvm.Cond.laysFinal "StaffRailwayModel" "StaffRailwayModel" "keptDetails" "[I") ∈ lw_all := lw_g (lw_at lw_m9 216 rfl) rfl
theorem q2230 : (Jvm.Cond.soleField "StaffRailwayModel" "keptDetails") ∈ lw_all := lw_g (lw_at lw_m9 217 rfl) rfl
theorem q2231 : (Jvm.Cond.lays "StaffRailwayModel" "StaffRailwayModel" "depth" "I") ∈ lw_all := lw_g (lw_at lw_m9 218 rfl) rfl
theorem q2232 : (Jvm.Cond.soleField "StaffRailwayModel" "depth") ∈ lw_all := lw_g (lw_at lw_m9 219 rfl) rfl
theorem q2233 : (Jvm.Cond.lays "StaffRailwayModel" "StaffRailwayModel" "keptDepth" "I") ∈ lw_all := lw_g (lw_at lw_m9 220 rfl) rfl
theorem q2234 : (Jvm.Cond.soleField "StaffRailwayModel" "keptDepth") ∈ lw_all := lw_g (lw_at lw_m9 221 rfl) rfl
theorem q2235 : (Jvm.Cond.lays "StaffRailwayModel" "StaffRailwayModel" "minutesLaid" "I") ∈ lw_all := lw_g (lw_at lw_m9 222 rfl) rfl
theorem q2236 : (Jvm.Cond.soleField "StaffRailwayModel" "minutesLaid") ∈ lw_all := lw_g (lw_at lw_m9 223 rfl) rfl
theorem q2237 : (Jvm.Cond.laysFinal "StaffRailwayModel" "StaffRailwayModel" "text" "[C") ∈ lw_all := lw_g (lw_at lw_m9 224 rfl) rfl
theorem q2238 : (Jvm.Cond.soleField "StaffRailwayModel" "text") ∈ lw_all := lw_g (lw_at lw_m9 225 rfl) rfl
theorem q2239 : (Jvm.Cond.lays "StaffRailwayModel" "StaffRailwayModel" "length" "I") ∈ lw_all := lw_g (lw_at lw_m9 226 rfl) rfl
theorem q2240 : (Jvm.Cond.soleField "StaffRailwayModel" "length") ∈ lw_all := lw_g (lw_at lw_m9 227 rfl) rfl
theorem q2241 : (Jvm.Cond.lays "StaffRailwayModel" "StaffRailwayModel" "at" "I") ∈ lw_all := lw_g (lw_at lw_m9 228 rfl) rfl
theorem q2242 : (Jvm.Cond.soleField "StaffRailwayModel" "at") ∈ lw_all := lw_g (lw_at lw_m9 229 rfl) rfl
theorem q2243 : (Jvm.Cond.lays "StaffRailwayModel" "StaffRailwayModel" "fault" "I") ∈ lw_all := lw_g (lw_at lw_m9 230 rfl) rfl
theorem q2244 : (Jvm.Cond.soleField "StaffRailwayModel" "fault") ∈ lw_all := lw_g (lw_at lw_m9 231 rfl) rfl
theorem q2245 : (Jvm.Cond.lays "StaffRailwayModel" "StaffRailwayModel" "isWrong" "Z") ∈ lw_all := lw_g (lw_at lw_m9 232 rfl) rfl
theorem q2246 : (Jvm.Cond.soleField "StaffRailwayModel" "isWrong") ∈ lw_all := lw_g (lw_at lw_m9 233 rfl) rfl
theorem q2247 : (Jvm.Cond.lays "StaffRailwayModel" "StaffRailwayModel" "told" "C") ∈ lw_all := lw_g (lw_at lw_m9 234 rfl) rfl
theorem q2248 : (Jvm.Cond.soleField "StaffRailwayModel" "told") ∈ lw_all := lw_g (lw_at lw_m9 235 rfl) rfl
theorem q2249 : (Jvm.Cond.lays "StaffRailwayModel" "StaffRailwayModel" "toldOne" "I") ∈ lw_all := lw_g (lw_at lw_m9 236 rfl) rfl
theorem q2250 : (Jvm.Cond.soleField "StaffRailwayModel" "toldOne") ∈ lw_all := lw_g (lw_at lw_m9 237 rfl) rfl
theorem q2251 : (Jvm.Cond.lays "StaffRailwayModel" "StaffRailwayModel" "toldTwo" "I") ∈ lw_all := lw_g (lw_at lw_m9 238 rfl) rfl
theorem q2252 : (Jvm.Cond.soleField "StaffRailwayModel" "toldTwo") ∈ lw_all := lw_g (lw_at lw_m9 239 rfl) rfl
theorem q2253 : (Jvm.Cond.superclass "StaffRailwayModel" "java/lang/Object") ∈ lw_all := lw_g (lw_at lw_m10 0 rfl) rfl
theorem q2256 : (Jvm.Cond.instanceMethod ({ cls := "StaffRailwayModel", name := "thrown", desc := "()I" } : Jvm.MethodName)) ∈ lw_all := lw_g (lw_at lw_m10 3 rfl) rfl
theorem q2257 : (Jvm.Cond.selects "StaffRailwayModel" ({ cls := "StaffRailwayModel", name := "thrown", desc := "()I" } : Jvm.MethodName) ({ cls := "StaffRailwayModel", name := "thrown", desc := "()I" } : Jvm.MethodName)) ∈ lw_all := lw_g (lw_at lw_m10 4 rfl) rfl
theorem q2258 : (Jvm.Cond.code ({ cls := "StaffRailwayModel", name := "thrown", desc := "()I" } : Jvm.MethodName) prog_20_method_2_code (1 : Nat) (Option.some Jvm.ClassFile.FieldType.int)) ∈ lw_all := lw_g (lw_at lw_m10 5 rfl) rfl
theorem q2260 : (Jvm.Cond.instanceMethod ({ cls := "StaffRailwayModel", name := "tracks", desc := "(II)I" } : Jvm.MethodName)) ∈ lw_all := lw_g (lw_at lw_m10 7 rfl) rfl
theorem q2261 : (Jvm.Cond.selects "StaffRailwayModel" ({ cls := "StaffRailwayModel", name := "tracks", desc := "(II)I" } : Jvm.MethodName) ({ cls := "StaffRailwayModel", name := "tracks", desc := "(II)I" } : Jvm.MethodName)) ∈ lw_all := lw_g (lw_at lw_m10 8 rfl) rfl
theorem q2262 : (Jvm.Cond.code ({ cls := "StaffRailwayModel", name := "tracks", desc := "(II)I" } : Jvm.MethodName) prog_20_method_27_code (4 : Nat) (Option.some Jvm.ClassFile.FieldType.int)) ∈ lw_all := lw_g (lw_at lw_m10 9 rfl) rfl
theorem q2263 : (Jvm.Cond.methodLink "StaffRailwayModel" (106 : Nat) ({ cls := "StaffRailwayModel", name := "isStation", desc := "(I)Z" } : Jvm.MethodName)) ∈ lw_all := lw_g (lw_at lw_m10 10 rfl) rfl
theorem q2264 : (Jvm.Cond.static ({ cls := "StaffRailwayModel", name := "isStation", desc := "(I)Z" } : Jvm.MethodName)) ∈ lw_all := lw_g (lw_at lw_m10 11 rfl) rfl
theorem q2265 : (Jvm.Cond.code ({ cls := "StaffRailwayModel", name := "isStation", desc := "(I)Z" } : Jvm.MethodName) prog_20_method_16_code (1 : Nat) (Option.some Jvm.ClassFile.FieldType.boolean)) ∈ lw_all := lw_g (lw_at lw_m10 12 rfl) rfl
theorem q2266 : (Jvm.Cond.methodLink "StaffRailwayModel" (88 : Nat) ({ cls := "StaffRailwayModel", name := "isBetween", desc := "(III)Z" } : Jvm.MethodName)) ∈ lw_all := lw_g (lw_at lw_m10 13 rfl) rfl
theorem q2267 : (Jvm.Cond.static ({ cls := "StaffRailwayModel", name := "isBetween", desc := "(III)Z" } : Jvm.MethodName)) ∈ lw_all := lw_g (lw_at lw_m10 14 rfl) rfl
theorem q2268 : (Jvm.Cond.code ({ cls := "StaffRailwayModel", name := "isBetween", desc := "(III)Z" } : Jvm.MethodName) prog_20_method_3_code (3 : Nat) (Option.some Jvm.ClassFile.FieldType.boolean)) ∈ lw_all := lw_g (lw_at lw_m10 15 rfl) rfl
theorem q2269 : (Jvm.Cond.methodLink "StaffRailwayModel" (84 : Nat) ({ cls := "StaffRailwayModel", name := "fails", desc := "(IZ)Z" } : Jvm.MethodName)) ∈ lw_all := lw_g (lw_at lw_m10 16 rfl) rfl
theorem q2270 : (Jvm.Cond.privateMethod ({ cls := "StaffRailwayModel", name := "fails", desc := "(IZ)Z" } : Jvm.MethodName)) ∈ lw_tbl := lw_at lw_m10 17 rfl
theorem q2271 : (Jvm.Cond.instanceMethod ({ cls := "StaffRailwayModel", name := "fails", desc := "(IZ)Z" } : Jvm.MethodName)) ∈ lw_all := lw_g (lw_at lw_m10 18 rfl) rfl
theorem q2272 : (Jvm.Cond.code ({ cls := "StaffRailwayModel", name := "fails", desc := "(IZ)Z" } : Jvm.MethodName) prog_20_method_5_code (3 : Nat) (Option.some Jvm.ClassFile.FieldType.boolean)) ∈ lw_all := lw_g (lw_at lw_m10 19 rfl) rfl
theorem q2273 : (Jvm.Cond.methodLink "StaffRailwayModel" (95 : Nat) ({ cls := "StaffRailwayModel", name := "standing", desc := "(I)I" } : Jvm.MethodName)) ∈ lw_all := lw_g (lw_at lw_m10 20 rfl) rfl
theorem q2274 : (Jvm.Cond.privateMethod ({ cls := "StaffRailwayModel", name := "standing", desc := "(I)I" } : Jvm.MethodName)) ∈ lw_tbl := lw_at lw_m10 21 rfl
theorem q2275 : (Jvm.Cond.instanceMethod ({ cls := "StaffRailwayModel", name := "standing", desc := "(I)I" } : Jvm.MethodName)) ∈ lw_all := lw_g (lw_at lw_m10 22 rfl) rfl
theorem q2276 : (Jvm.Cond.code ({ cls := "StaffRailwayModel", name := "standing", desc := "(I)I" } : Jvm.MethodName) prog_20_method_20_code (4 : Nat) (Option.some Jvm.ClassFile.FieldType.int)) ∈ lw_all := lw_g (lw_at lw_m10 23 rfl) rfl
theorem q2277 : (Jvm.Cond.methodLink "StaffRailwayModel" (92 : Nat) ({ cls := "StaffRailwayModel", name := "ofTrain", desc := "(II)I" } : Jvm.MethodName)) ∈ lw_all := lw_g (lw_at lw_m10 24 rfl) rfl
theorem q2278 : (Jvm.Cond.static ({ cls := "StaffRailwayModel", name := "ofTrain", desc := "(II)I" } : Jvm.MethodName)) ∈ lw_all := lw_g (lw_at lw_m10 25 rfl) rfl
theorem q2279 : (Jvm.Cond.code ({ cls := "StaffRailwayModel", name := "ofTrain", desc := "(II)I" } : Jvm.MethodName) prog_20_method_14_code (2 : Nat) (Option.some Jvm.ClassFile.FieldType.int)) ∈ lw_all := lw_g (lw_at lw_m10 26 rfl) rfl
theorem q2280 : (Jvm.Cond.methodLink "StaffRailwayModel" (110 : Nat) ({ cls := "StaffRailwayModel", name := "isFound", desc := "(ZII)Z" } : Jvm.MethodName)) ∈ lw_all := lw_g (lw_at lw_m10 27 rfl) rfl
theorem q2281 : (Jvm.Cond.privateMethod ({ cls := "StaffRailwayModel", name := "isFound", desc := "(ZII)Z" } : Jvm.MethodName)) ∈ lw_tbl := lw_at lw_m10 28 rfl
theorem q2282 : (Jvm.Cond.instanceMethod ({ cls := "StaffRailwayModel", name := "isFound", desc := "(ZII)Z" } : Jvm.MethodName)) ∈ lw_all := lw_g (lw_at lw_m10 29 rfl) rfl
theorem q2283 : (Jvm.Cond.code ({ cls := "StaffRailwayModel", name := "isFound", desc := "(ZII)Z" } : Jvm.MethodName) prog_20_method_9_code (4 : Nat) (Option.some Jvm.ClassFile.FieldType.boolean)) ∈ lw_all := lw_g (lw_at lw_m10 30 rfl) rfl
theorem q2284 : (Jvm.Cond.methodLink "StaffRailwayModel" (73 : Nat) ({ cls := "StaffRailwayModel", name := "tell", desc := "(II)V" } : Jvm.MethodName)) ∈ lw_all := lw_g (lw_at lw_m10 31 rfl) rfl
theorem q2285 : (Jvm.Cond.privateMethod ({ cls := "StaffRailwayModel", name := "tell", desc := "(II)V" } : Jvm.MethodName)) ∈ lw_tbl := lw_at lw_m10 32 rfl
theorem q2286 : (Jvm.Cond.instanceMethod ({ cls := "StaffRailwayModel", name := "tell", desc := "(II)V" } : Jvm.MethodName)) ∈ lw_all := lw_g (lw_at lw_m10 33 rfl) rfl
theorem q2287 : (Jvm.Cond.code ({ cls := "StaffRailwayModel", name := "tell", desc := "(II)V" } : Jvm.MethodName) prog_20_method_8_code (3 : Nat) (Option.none : Option Jvm.ClassFile.FieldType)) ∈ lw_all := lw_g (lw_at lw_m10 34 rfl) rfl
theorem q2288 : (Jvm.Cond.methodLink "StaffRailwayModel" (114 : Nat) ({ cls := "StaffRailwayModel", name := "isRefused", desc := "(IZ)Z" } : Jvm.MethodName)) ∈ lw_all := lw_g (lw_at lw_m10 35 rfl) rfl
theorem q2289 : (Jvm.Cond.privateMethod ({ cls := "StaffRailwayModel", name := "isRefused", desc := "(IZ)Z" } : Jvm.MethodName)) ∈ lw_tbl := lw_at lw_m10 36 rfl
theorem q2290 : (Jvm.Cond.instanceMethod ({ cls := "StaffRailwayModel", name := "isRefused", desc := "(IZ)Z" } : Jvm.MethodName)) ∈ lw_all := lw_g (lw_at lw_m10 37 rfl) rfl
theorem q2291 : (Jvm.Cond.code ({ cls := "StaffRailwayModel", name := "isRefused", desc := "(IZ)Z" } : Jvm.MethodName) prog_20_method_11_code (3 : Nat) (Option.some Jvm.ClassFile.FieldType.boolean)) ∈ lw_all := lw_g (lw_at lw_m10 38 rfl) rfl
theorem q2292 : (Jvm.Cond.methodLink "StaffRailwayModel" (80 : Nat) ({ cls := "StaffRailwayModel", name := "keep", desc := "(I)V" } : Jvm.MethodName)) ∈ lw_all := lw_g (lw_at lw_m10 39 rfl) rfl
theorem q2293 : (Jvm.Cond.privateMethod ({ cls := "StaffRailwayModel", name := "keep", desc := "(I)V" } : Jvm.MethodName)) ∈ lw_tbl := lw_at lw_m10 40 rfl
theorem q2294 : (Jvm.Cond.instanceMethod ({ cls := "StaffRailwayModel", name := "keep", desc := "(I)V" } : Jvm.MethodName)) ∈ lw_all := lw_g (lw_at lw_m10 41 rfl) rfl
theorem q2295 : (Jvm.Cond.code ({ cls := "StaffRailwayModel", name := "keep", desc := "(I)V" } : Jvm.MethodName) prog_20_method_10_code (4 : Nat) (Option.none : Option Jvm.ClassFile.FieldType)) ∈ lw_all := lw_g (lw_at lw_m10 42 rfl) rfl
theorem q2296 : (Jvm.Cond.methodLink "StaffRailwayModel" (66 : Nat) ({ cls := "StaffRailwayModel", name := "remember", desc := "([I)V" } : Jvm.MethodName)) ∈ lw_all := lw_g (lw_at lw_m10 43 rfl) rfl
theorem q2297 : (Jvm.Cond.privateMethod ({ cls := "StaffRailwayModel", name := "remember", desc := "([I)V" } : Jvm.MethodName)) ∈ lw_tbl := lw_at lw_m10 44 rfl
theorem q2298 : (Jvm.Cond.instanceMethod ({ cls := "StaffRailwayModel", name := "remember", desc := "([I)V" } : Jvm.MethodName)) ∈ lw_all := lw_g (lw_at lw_m10 45 rfl) rfl
theorem q2299 : (Jvm.Cond.code ({ cls := "StaffRailwayModel", name := "remember", desc := "([I)V" } : Jvm.MethodName) prog_20_method_6_code (3 : Nat) (Option.none : Option Jvm.ClassFile.FieldType)) ∈ lw_all := lw_g (lw_at lw_m10 46 rfl) rfl
theorem q2300 : (Jvm.Cond.methodLink "StaffRailwayModel" (58 : Nat) ({ cls := "StaffRailwayModel", name := "copyRow", desc := "([I[I)V" } : Jvm.MethodName)) ∈ lw_all := lw_g (lw_at lw_m10 47 rfl) rfl
theorem q2301 : (Jvm.Cond.static ({ cls := "StaffRailwayModel", name := "copyRow", desc := "([I[I)V" } : Jvm.MethodName)) ∈ lw_all := lw_g (lw_at lw_m10 48 rfl) rfl
theorem q2302 : (Jvm.Cond.code ({ cls := "StaffRailwayModel", name := "copyRow", desc := "([I[I)V" } : Jvm.MethodName) prog_20_method_4_code (3 : Nat) (Option.none : Option Jvm.ClassFile.FieldType)) ∈ lw_all := lw_g (lw_at lw_m10 49 rfl) rfl
theorem q2304 : (Jvm.Cond.instanceMethod ({ cls := "StaffRailwayModel", name := "stretch", desc := "(IIII)I" } : Jvm.MethodName)) ∈ lw_all := lw_g (lw_at lw_m10 51 rfl) rfl
theorem q2305 : (Jvm.Cond.selects "StaffRailwayModel" ({ cls := "StaffRailwayModel", name := "stretch", desc := "(IIII)I" } : Jvm.MethodName) ({ cls := "StaffRailwayModel", name := "stretch", desc := "(IIII)I" } : Jvm.MethodName)) ∈ lw_all := lw_g (lw_at lw_m10 52 rfl) rfl
theorem q2306 : (Jvm.Cond.code ({ cls := "StaffRailwayModel", name := "stretch", desc := "(IIII)I" } : Jvm.MethodName) prog_20_method_30_code (7 : Nat) (Option.some Jvm.ClassFile.FieldType.int)) ∈ lw_all := lw_g (lw_at lw_m10 53 rfl) rfl
theorem q2307 : (Jvm.Cond.methodLink "StaffRailwayModel" (123 : Nat) ({ cls := "StaffRailwayModel", name := "isStretch", desc := "(I)Z" } : Jvm.MethodName)) ∈ lw_all := lw_g (lw_at lw_m10 54 rfl) rfl
theorem q2308 : (Jvm.Cond.static ({ cls := "StaffRailwayModel", name := "isStretch", desc := "(I)Z" } : Jvm.MethodName)) ∈ lw_all := lw_g (lw_at lw_m10 55 rfl) rfl
theorem q2309 : (Jvm.Cond.code ({ cls := "StaffRailwayModel", name := "isStretch", desc := "(I)Z" } : Jvm.MethodName) prog_20_method_17_code (1 : Nat) (Option.some Jvm.ClassFile.FieldType.boolean)) ∈ lw_all := lw_g (lw_at lw_m10 56 rfl) rfl
theorem q2310 : (Jvm.Cond.methodLink "StaffRailwayModel" (126 : Nat) ({ cls := "StaffRailwayModel", name := "hasTrain", desc := "(I)Z" } : Jvm.MethodName)) ∈ lw_all := lw_g (lw_at lw_m10 57 rfl) rfl
theorem q2311 : (Jvm.Cond.privateMethod ({ cls := "StaffRailwayModel", name := "hasTrain", desc := "(I)Z" } : Jvm.MethodName)) ∈ lw_tbl := lw_at lw_m10 58 rfl
theorem q2312 : (Jvm.Cond.instanceMethod ({ cls := "StaffRailwayModel", name := "hasTrain", desc := "(I)Z" } : Jvm.MethodName)) ∈ lw_all := lw_g (lw_at lw_m10 59 rfl) rfl
theorem q2313 : (Jvm.Cond.code ({ cls := "StaffRailwayModel", name := "hasTrain", desc := "(I)Z" } : Jvm.MethodName) prog_20_method_29_code (2 : Nat) (Option.some Jvm.ClassFile.FieldType.boolean)) ∈ lw_all := lw_g (lw_at lw_m10 60 rfl) rfl
theorem q2314 : (Jvm.Cond.methodLink "StaffRailwayModel" (120 : Nat) ({ cls := "StaffRailwayModel", name := "trainIn", desc := "(I)I" } : Jvm.MethodName)) ∈ lw_all := lw_g (lw_at lw_m10 61 rfl) rfl
theorem q2315 : (Jvm.Cond.privateMethod ({ cls := "StaffRailwayModel", name := "trainIn", desc := "(I)I" } : Jvm.MethodName)) ∈ lw_tbl := lw_at lw_m10 62 rfl
theorem q2316 : (Jvm.Cond.instanceMethod ({ cls := "StaffRailwayModel", name := "trainIn", desc := "(I)I" } : Jvm.MethodName)) ∈ lw_all := lw_g (lw_at lw_m10 63 rfl) rfl
theorem q2317 : (Jvm.Cond.code ({ cls := "StaffRailwayModel", name := "trainIn", desc := "(I)I" } : Jvm.MethodName) prog_20_method_23_code (3 : Nat) (Option.some Jvm.ClassFile.FieldType.int)) ∈ lw_all := lw_g (lw_at lw_m10 64 rfl) rfl
theorem q2319 : (Jvm.Cond.instanceMethod ({ cls := "StaffRailwayModel", name := "stationOf", desc := "(II)I" } : Jvm.MethodName)) ∈ lw_all := lw_g (lw_at lw_m10 66 rfl) rfl
theorem q2320 : (Jvm.Cond.selects "StaffRailwayModel" ({ cls := "StaffRailwayModel", name := "stationOf", desc := "(II)I" } : Jvm.MethodName) ({ cls := "StaffRailwayModel", name := "stationOf", desc := "(II)I" } : Jvm.MethodName)) ∈ lw_all := lw_g (lw_at lw_m10 67 rfl) rfl
theorem q2321 : (Jvm.Cond.code ({ cls := "StaffRailwayModel", name := "stationOf", desc := "(II)I" } : Jvm.MethodName) prog_20_method_32_code (3 : Nat) (Option.some Jvm.ClassFile.FieldType.int)) ∈ lw_all := lw_g (lw_at lw_m10 68 rfl) rfl
theorem q2322 : (Jvm.Cond.methodLink "StaffRailwayModel" (129 : Nat) ({ cls := "StaffRailwayModel", name := "comingTo", desc := "(I)I" } : Jvm.MethodName)) ∈ lw_all := lw_g (lw_at lw_m10 69 rfl) rfl
theorem q2323 : (Jvm.Cond.privateMethod ({ cls := "StaffRailwayModel", name := "comingTo", desc := "(I)I" } : Jvm.MethodName)) ∈ lw_tbl := lw_at lw_m10 70 rfl
theorem q2324 : (Jvm.Cond.instanceMethod ({ cls := "StaffRailwayModel", name := "comingTo", desc := "(I)I" } : Jvm.MethodName)) ∈ lw_all := lw_g (lw_at lw_m10 71 rfl) rfl
theorem q2325 : (Jvm.Cond.code ({ cls := "StaffRailwayModel", name := "comingTo", desc := "(I)I" } : Jvm.MethodName) prog_20_method_21_code (4 : Nat) (Option.some Jvm.ClassFile.FieldType.int)) ∈ lw_all := lw_g (lw_at lw_m10 72 rfl) rfl
theorem q2326 : (Jvm.Cond.methodLink "StaffRailwayModel" (132 : Nat) ({ cls := "StaffRailwayModel", name := "menAt", desc := "(I)I" } : Jvm.MethodName)) ∈ lw_all := lw_g (lw_at lw_m10 73 rfl) rfl
theorem q2327 : (Jvm.Cond.privateMethod ({ cls := "StaffRailwayModel", name := "menAt", desc := "(I)I" } : Jvm.MethodName)) ∈ lw_tbl := lw_at lw_m10 74 rfl
theorem q2328 : (Jvm.Cond.instanceMethod ({ cls := "StaffRailwayModel", name := "menAt", desc := "(I)I" } : Jvm.MethodName)) ∈ lw_all := lw_g (lw_at lw_m10 75 rfl) rfl
theorem q2329 : (Jvm.Cond.code ({ cls := "StaffRailwayModel", name := "menAt", desc := "(I)I" } : Jvm.MethodName) prog_20_method_31_code (4 : Nat) (Option.some Jvm.ClassFile.FieldType.int)) ∈ lw_all := lw_g (lw_at lw_m10 76 rfl) rfl
theorem q2330 : (Jvm.Cond.methodLink "StaffRailwayModel" (99 : Nat) ({ cls := "StaffRailwayModel", name := "ofMan", desc := "(II)I" } : Jvm.MethodName)) ∈ lw_all := lw_g (lw_at lw_m10 77 rfl) rfl
theorem q2331 : (Jvm.Cond.static ({ cls := "StaffRailwayModel", name := "ofMan", desc := "(II)I" } : Jvm.MethodName)) ∈ lw_all := lw_g (lw_at lw_m10 78 rfl) rfl
theorem q2332 : (Jvm.Cond.code ({ cls := "StaffRailwayModel", name := "ofMan", desc := "(II)I" } : Jvm.MethodName) prog_20_method_15_code (2 : Nat) (Option.some Jvm.ClassFile.FieldType.int)) ∈ lw_all := lw_g (lw_at lw_m10 79 rfl) rfl
theorem q2334 : (Jvm.Cond.instanceMethod ({ cls := "StaffRailwayModel", name := "stretchOf", desc := "(II)I" } : Jvm.MethodName)) ∈ lw_all := lw_g (lw_at lw_m10 81 rfl) rfl
theorem q2335 : (Jvm.Cond.selects "StaffRailwayModel" ({ cls := "StaffRailwayModel", name := "stretchOf", desc := "(II)I" } : Jvm.MethodName) ({ cls := "StaffRailwayModel", name := "stretchOf", desc := "(II)I" } : Jvm.MethodName)) ∈ lw_all := lw_g (lw_at lw_m10 82 rfl) rfl
theorem q2336 : (Jvm.Cond.code ({ cls := "StaffRailwayModel", name := "stretchOf", desc := "(II)I" } : Jvm.MethodName) prog_20_method_33_code (3 : Nat) (Option.some Jvm.ClassFile.FieldType.int)) ∈ lw_all := lw_g (lw_at lw_m10 83 rfl) rfl
theorem q2337 : (Jvm.Cond.methodLink "StaffRailwayModel" (135 : Nat) ({ cls := "StaffRailwayModel", name := "manFor", desc := "(I)I" } : Jvm.MethodName)) ∈ lw_all := lw_g (lw_at lw_m10 84 rfl) rfl
theorem q2338 : (Jvm.Cond.privateMethod ({ cls := "StaffRailwayModel", name := "manFor", desc := "(I)I" } : Jvm.MethodName)) ∈ lw_tbl := lw_at lw_m10 85 rfl
theorem q2339 : (Jvm.Cond.instanceMethod ({ cls := "StaffRailwayModel", name := "manFor", desc := "(I)I" } : Jvm.MethodName)) ∈ lw_all := lw_g (lw_at lw_m10 86 rfl) rfl
theorem q2340 : (Jvm.Cond.code ({ cls := "StaffRailwayModel", name := "manFor", desc := "(I)I" } : Jvm.MethodName) prog_20_method_24_code (3 : Nat) (Option.some Jvm.ClassFile.FieldType.int)) ∈ lw_all := lw_g (lw_at lw_m10 87 rfl) rfl
theorem q2342 : (Jvm.Cond.instanceMethod ({ cls := "StaffRailwayModel", name := "train", desc := "(II)I" } : Jvm.MethodName)) ∈ lw_all := lw_g (lw_at lw_m10 89 rfl) rfl
theorem q2343 : (Jvm.Cond.selects "StaffRailwayModel" ({ cls := "StaffRailwayModel", name := "train", desc := "(II)I" } : Jvm.MethodName) ({ cls := "StaffRailwayModel", name := "train", desc := "(II)I" } : Jvm.MethodName)) ∈ lw_all := lw_g (lw_at lw_m10 90 rfl) rfl
theorem q2344 : (Jvm.Cond.code ({ cls := "StaffRailwayModel", name := "train", desc := "(II)I" } : Jvm.MethodName) prog_20_method_37_code (3 : Nat) (Option.some Jvm.ClassFile.FieldType.int)) ∈ lw_all := lw_g (lw_at lw_m10 91 rfl) rfl
theorem q2345 : (Jvm.Cond.methodLink "StaffRailwayModel" (144 : Nat) ({ cls := "StaffRailwayModel", name := "isCrowded", desc := "(I)Z" } : Jvm.MethodName)) ∈ lw_all := lw_g (lw_at lw_m10 92 rfl) rfl
theorem q2346 : (Jvm.Cond.privateMethod ({ cls := "StaffRailwayModel", name := "isCrowded", desc := "(I)Z" } : Jvm.MethodName)) ∈ lw_tbl := lw_at lw_m10 93 rfl
theorem q2347 : (Jvm.Cond.instanceMethod ({ cls := "StaffRailwayModel", name := "isCrowded", desc := "(I)Z" } : Jvm.MethodName)) ∈ lw_all := lw_g (lw_at lw_m10 94 rfl) rfl
theorem q2348 : (Jvm.Cond.code ({ cls := "StaffRailwayModel", name := "isCrowded", desc := "(I)Z" } : Jvm.MethodName) prog_20_method_36_code (2 : Nat) (Option.some Jvm.ClassFile.FieldType.boolean)) ∈ lw_all := lw_g (lw_at lw_m10 95 rfl) rfl
theorem q2349 : (Jvm.Cond.methodLink "StaffRailwayModel" (141 : Nat) ({ cls := "StaffRailwayModel", name := "hasTrack", desc := "(I)Z" } : Jvm.MethodName)) ∈ lw_all := lw_g (lw_at lw_m10 96 rfl) rfl
theorem q2350 : (Jvm.Cond.privateMethod ({ cls := "StaffRailwayModel", name := "hasTrack", desc := "(I)Z" } : Jvm.MethodName)) ∈ lw_tbl := lw_at lw_m10 97 rfl
theorem q2351 : (Jvm.Cond.instanceMethod ({ cls := "StaffRailwayModel", name := "hasTrack", desc := "(I)Z" } : Jvm.MethodName)) ∈ lw_all := lw_g (lw_at lw_m10 98 rfl) rfl
theorem q2352 : (Jvm.Cond.code ({ cls := "StaffRailwayModel", name := "hasTrack", desc := "(I)Z" } : Jvm.MethodName) prog_20_method_22_code (2 : Nat) (Option.some Jvm.ClassFile.FieldType.boolean)) ∈ lw_all := lw_g (lw_at lw_m10 99 rfl) rfl
theorem q2353 : (Jvm.Cond.methodLink "StaffRailwayModel" (147 : Nat) ({ cls := "StaffRailwayModel", name := "addTrain", desc := "(II)V" } : Jvm.MethodName)) ∈ lw_all := lw_g (lw_at lw_m10 100 rfl) rfl
theorem q2354 : (Jvm.Cond.privateMethod ({ cls := "StaffRailwayModel", name := "addTrain", desc := "(II)V" } : Jvm.MethodName)) ∈ lw_tbl := lw_at lw_m10 101 rfl
theorem q2355 : (Jvm.Cond.instanceMethod ({ cls := "StaffRailwayModel", name := "addTrain", desc := "(II)V" } : Jvm.MethodName)) ∈ lw_all := lw_g (lw_at lw_m10 102 rfl) rfl
theorem q2356 : (Jvm.Cond.code ({ cls := "StaffRailwayModel", name := "addTrain", desc := "(II)V" } : Jvm.MethodName) prog_20_method_34_code (4 : Nat) (Option.none : Option Jvm.ClassFile.FieldType)) ∈ lw_all := lw_g (lw_at lw_m10 103 rfl) rfl
theorem q2357 : (Jvm.Cond.methodLink "StaffRailwayModel" (138 : Nat) ({ cls := "StaffRailwayModel", name := "stand", desc := "(II)V" } : Jvm.MethodName)) ∈ lw_all := lw_g (lw_at lw_m10 104 rfl) rfl
theorem q2358 : (Jvm.Cond.privateMethod ({ cls := "StaffRailwayModel", name := "stand", desc := "(II)V" } : Jvm.MethodName)) ∈ lw_tbl := lw_at lw_m10 105 rfl
theorem q2359 : (Jvm.Cond.instanceMethod ({ cls := "StaffRailwayModel", name := "stand", desc := "(II)V" } : Jvm.MethodName)) ∈ lw_all := lw_g (lw_at lw_m10 106 rfl) rfl
theorem q2360 : (Jvm.Cond.code ({ cls := "StaffRailwayModel", name := "stand", desc := "(II)V" } : Jvm.MethodName) prog_20_method_35_code (3 : Nat) (Option.none : Option Jvm.ClassFile.FieldType)) ∈ lw_all := lw_g (lw_at lw_m10 107 rfl) rfl
theorem q2362 : (Jvm.Cond.instanceMethod ({ cls := "StaffRailwayModel", name := "remove", desc := "(I)I" } : Jvm.MethodName)) ∈ lw_all := lw_g (lw_at lw_m10 109 rfl) rfl
theorem q2363 : (Jvm.Cond.selects "StaffRailwayModel" ({ cls := "StaffRailwayModel", name := "remove", desc := "(I)I" } : Jvm.MethodName) ({ cls := "StaffRailwayModel", name := "remove", desc := "(I)I" } : Jvm.MethodName)) ∈ lw_all := lw_g (lw_at lw_m10 110 rfl) rfl
theorem q2364 : (Jvm.Cond.code ({ cls := "StaffRailwayModel", name := "remove", desc := "(I)I" } : Jvm.MethodName) prog_20_method_41_code (2 : Nat) (Option.some Jvm.ClassFile.FieldType.int)) ∈ lw_all := lw_g (lw_at lw_m10 111 rfl) rfl
theorem q2365 : (Jvm.Cond.methodLink "StaffRailwayModel" (153 : Nat) ({ cls := "StaffRailwayModel", name := "isNoTrain", desc := "(I)Z" } : Jvm.MethodName)) ∈ lw_all := lw_g (lw_at lw_m10 112 rfl) rfl
theorem q2366 : (Jvm.Cond.privateMethod ({ cls := "StaffRailwayModel", name := "isNoTrain", desc := "(I)Z" } : Jvm.MethodName)) ∈ lw_tbl := lw_at lw_m10 113 rfl
theorem q2367 : (Jvm.Cond.instanceMethod ({ cls := "StaffRailwayModel", name := "isNoTrain", desc := "(I)Z" } : Jvm.MethodName)) ∈ lw_all := lw_g (lw_at lw_m10 114 rfl) rfl
theorem q2368 : (Jvm.Cond.code ({ cls := "StaffRailwayModel", name := "isNoTrain", desc := "(I)Z" } : Jvm.MethodName) prog_20_method_38_code (2 : Nat) (Option.some Jvm.ClassFile.FieldType.boolean)) ∈ lw_all := lw_g (lw_at lw_m10 115 rfl) rfl
theorem q2369 : (Jvm.Cond.methodLink "StaffRailwayModel" (150 : Nat) ({ cls := "StaffRailwayModel", name := "isTrain", desc := "(I)Z" } : Jvm.MethodName)) ∈ lw_all := lw_g (lw_at lw_m10 116 rfl) rfl
theorem q2370 : (Jvm.Cond.privateMethod ({ cls := "StaffRailwayModel", name := "isTrain", desc := "(I)Z" } : Jvm.MethodName)) ∈ lw_tbl := lw_at lw_m10 117 rfl
theorem q2371 : (Jvm.Cond.instanceMethod ({ cls := "StaffRailwayModel", name := "isTrain", desc := "(I)Z" } : Jvm.MethodName)) ∈ lw_all := lw_g (lw_at lw_m10 118 rfl) rfl
theorem q2372 : (Jvm.Cond.code ({ cls := "StaffRailwayModel", name := "isTrain", desc := "(I)Z" } : Jvm.MethodName) prog_20_method_18_code (2 : Nat) (Option.some Jvm.ClassFile.FieldType.boolean)) ∈ lw_all := lw_g (lw_at lw_m10 119 rfl) rfl
theorem q2373 : (Jvm.Cond.methodLink "StaffRailwayModel" (156 : Nat) ({ cls := "StaffRailwayModel", name := "isUnderWay", desc := "(I)Z" } : Jvm.MethodName)) ∈ lw_all := lw_g (lw_at lw_m10 120 rfl) rfl
theorem q2374 : (Jvm.Cond.privateMethod ({ cls := "StaffRailwayModel", name := "isUnderWay", desc := "(I)Z" } : Jvm.MethodName)) ∈ lw_tbl := lw_at lw_m10 121 rfl
theorem q2375 : (Jvm.Cond.instanceMethod ({ cls := "StaffRailwayModel", name := "isUnderWay", desc := "(I)Z" } : Jvm.MethodName)) ∈ lw_all := lw_g (lw_at lw_m10 122 rfl) rfl
theorem q2376 : (Jvm.Cond.code ({ cls := "StaffRailwayModel", name := "isUnderWay", desc := "(I)Z" } : Jvm.MethodName) prog_20_method_39_code (2 : Nat) (Option.some Jvm.ClassFile.FieldType.boolean)) ∈ lw_all := lw_g (lw_at lw_m10 123 rfl) rfl
theorem q2377 : (Jvm.Cond.methodLink "StaffRailwayModel" (159 : Nat) ({ cls := "StaffRailwayModel", name := "takeAway", desc := "(I)V" } : Jvm.MethodName)) ∈ lw_all := lw_g (lw_at lw_m10 124 rfl) rfl
theorem q2378 : (Jvm.Cond.privateMethod ({ cls := "StaffRailwayModel", name := "takeAway", desc := "(I)V" } : Jvm.MethodName)) ∈ lw_tbl := lw_at lw_m10 125 rfl
theorem q2379 : (Jvm.Cond.instanceMethod ({ cls := "StaffRailwayModel", name := "takeAway", desc := "(I)V" } : Jvm.MethodName)) ∈ lw_all := lw_g (lw_at lw_m10 126 rfl) rfl
theorem q2380 : (Jvm.Cond.code ({ cls := "StaffRailwayModel", name := "takeAway", desc := "(I)V" } : Jvm.MethodName) prog_20_method_40_code (3 : Nat) (Option.none : Option Jvm.ClassFile.FieldType)) ∈ lw_all := lw_g (lw_at lw_m10 127 rfl) rfl
theorem q2382 : (Jvm.Cond.instanceMethod ({ cls := "StaffRailwayModel", name := "divide", desc := "(II)I" } : Jvm.MethodName)) ∈ lw_all := lw_g (lw_at lw_m10 129 rfl) rfl
theorem q2383 : (Jvm.Cond.selects "StaffRailwayModel" ({ cls := "StaffRailwayModel", name := "divide", desc := "(II)I" } : Jvm.MethodName) ({ cls := "StaffRailwayModel", name := "divide", desc := "(II)I" } : Jvm.MethodName)) ∈ lw_all := lw_g (lw_at lw_m10 130 rfl) rfl
theorem q2384 : (Jvm.Cond.code ({ cls := "StaffRailwayModel", name := "divide", desc := "(II)I" } : Jvm.MethodName) prog_20_method_43_code (3 : Nat) (Option.some Jvm.ClassFile.FieldType.int)) ∈ lw_all := lw_g (lw_at lw_m10 131 rfl) rfl
theorem q2385 : (Jvm.Cond.methodLink "StaffRailwayModel" (162 : Nat) ({ cls := "StaffRailwayModel", name := "isDivideRefused", desc := "(II)Z" } : Jvm.MethodName)) ∈ lw_all := lw_g (lw_at lw_m10 132 rfl) rfl
theorem q2386 : (Jvm.Cond.privateMethod ({ cls := "StaffRailwayModel", name := "isDivideRefused", desc := "(II)Z" } : Jvm.MethodName)) ∈ lw_tbl := lw_at lw_m10 133 rfl
theorem q2387 : (Jvm.Cond.instanceMethod ({ cls := "StaffRailwayModel", name := "isDivideRefused", desc := "(II)Z" } : Jvm.MethodName)) ∈ lw_all := lw_g (lw_at lw_m10 134 rfl) rfl
theorem q2388 : (Jvm.Cond.code ({ cls := "StaffRailwayModel", name := "isDivideRefused", desc := "(II)Z" } : Jvm.MethodName) prog_20_method_42_code (4 : Nat) (Option.some Jvm.ClassFile.FieldType.boolean)) ∈ lw_all := lw_g (lw_at lw_m10 135 rfl) rfl
theorem q2389 : (Jvm.Cond.methodLink "StaffRailwayModel" (166 : Nat) ({ cls := "StaffRailwayModel", name := "change", desc := "()V" } : Jvm.MethodName)) ∈ lw_all := lw_g (lw_at lw_m10 136 rfl) rfl
theorem q2390 : (Jvm.Cond.privateMethod ({ cls := "StaffRailwayModel", name := "change", desc := "()V" } : Jvm.MethodName)) ∈ lw_tbl := lw_at lw_m10 137 rfl
theorem q2391 : (Jvm.Cond.instanceMethod ({ cls := "StaffRailwayModel", name := "change", desc := "()V" } : Jvm.MethodName)) ∈ lw_all := lw_g (lw_at lw_m10 138 rfl) rfl
theorem q2392 : (Jvm.Cond.code ({ cls := "StaffRailwayModel", name := "change", desc := "()V" } : Jvm.MethodName) prog_20_method_7_code (1 : Nat) (Option.none : Option Jvm.ClassFile.FieldType)) ∈ lw_all := lw_g (lw_at lw_m10 139 rfl) rfl
theorem q2394 : (Jvm.Cond.instanceMethod ({ cls := "StaffRailwayModel", name := "couple", desc := "(II)I" } : Jvm.MethodName)) ∈ lw_all := lw_g (lw_at lw_m10 141 rfl) rfl
theorem q2395 : (Jvm.Cond.selects "StaffRailwayModel" ({ cls := "StaffRailwayModel", name := "couple", desc := "(II)I" } : Jvm.MethodName) ({ cls := "StaffRailwayModel", name := "couple", desc := "(II)I" } : Jvm.MethodName)) ∈ lw_all := lw_g (lw_at lw_m10 142 rfl) rfl
theorem q2396 : (Jvm.Cond.code ({ cls := "StaffRailwayModel", name := "couple", desc := "(II)I" } : Jvm.MethodName) prog_20_method_45_code (4 : Nat) (Option.some Jvm.ClassFile.FieldType.int)) ∈ lw_all := lw_g (lw_at lw_m10 143 rfl) rfl
theorem q2397 : (Jvm.Cond.methodLink "StaffRailwayModel" (169 : Nat) ({ cls := "StaffRailwayModel", name := "isCoupleRefused", desc := "(II)Z" } : Jvm.MethodName)) ∈ lw_all := lw_g (lw_at lw_m10 144 rfl) rfl
theorem q2398 : (Jvm.Cond.privateMethod ({ cls := "StaffRailwayModel", name := "isCoupleRefused", desc := "(II)Z" } : Jvm.MethodName)) ∈ lw_tbl := lw_at lw_m10 145 rfl
theorem q2399 : (Jvm.Cond.instanceMethod ({ cls := "StaffRailwayModel", name := "isCoupleRefused", desc := "(II)Z" } : Jvm.MethodName)) ∈ lw_all := lw_g (lw_at lw_m10 146 rfl) rfl
theorem q2400 : (Jvm.Cond.code ({ cls := "StaffRailwayModel", name := "isCoupleRefused", desc := "(II)Z" } : Jvm.MethodName) prog_20_method_44_code (5 : Nat) (Option.some Jvm.ClassFile.FieldType.boolean)) ∈ lw_all := lw_g (lw_at lw_m10 147 rfl) rfl
theorem q2402 : (Jvm.Cond.instanceMethod ({ cls := "StaffRailwayModel", name := "trainOf", desc := "(II)I" } : Jvm.MethodName)) ∈ lw_all := lw_g (lw_at lw_m10 149 rfl) rfl
theorem q2403 : (Jvm.Cond.selects "StaffRailwayModel" ({ cls := "StaffRailwayModel", name := "trainOf", desc := "(II)I" } : Jvm.MethodName) ({ cls := "StaffRailwayModel", name := "trainOf", desc := "(II)I" } : Jvm.MethodName)) ∈ lw_all := lw_g (lw_at lw_m10 150 rfl) rfl
theorem q2404 : (Jvm.Cond.code ({ cls := "StaffRailwayModel", name := "trainOf", desc := "(II)I" } : Jvm.MethodName) prog_20_method_46_code (3 : Nat) (Option.some Jvm.ClassFile.FieldType.int)) ∈ lw_all := lw_g (lw_at lw_m10 151 rfl) rfl
theorem q2406 : (Jvm.Cond.instanceMethod ({ cls := "StaffRailwayModel", name := "send", desc := "(II)I" } : Jvm.MethodName)) ∈ lw_all := lw_g (lw_at lw_m10 153 rfl) rfl
theorem q2407 : (Jvm.Cond.selects "StaffRailwayModel" ({ cls := "StaffRailwayModel", name := "send", desc := "(II)I" } : Jvm.MethodName) ({ cls := "StaffRailwayModel", name := "send", desc := "(II)I" } : Jvm.MethodName)) ∈ lw_all := lw_g (lw_at lw_m10 154 rfl) rfl
theorem q2408 : (Jvm.Cond.code ({ cls := "StaffRailwayModel", name := "send", desc := "(II)I" } : Jvm.MethodName) prog_20_method_53_code (8 : Nat) (Option.some Jvm.ClassFile.FieldType.int)) ∈ lw_all := lw_g (lw_at lw_m10 155 rfl) rfl
theorem q2409 : (Jvm.Cond.methodLink "StaffRailwayModel" (184 : Nat) ({ cls := "StaffRailwayModel", name := "isSendRefused", desc := "(II)Z" } : Jvm.MethodName)) ∈ lw_all := lw_g (lw_at lw_m10 156 rfl) rfl
theorem q2410 : (Jvm.Cond.privateMethod ({ cls := "StaffRailwayModel", name := "isSendRefused", desc := "(II)Z" } : Jvm.MethodName)) ∈ lw_tbl := lw_at lw_m10 157 rfl
theorem q2411 : (Jvm.Cond.instanceMethod ({ cls := "StaffRailwayModel", name := "isSendRefused", desc := "(II)Z" } : Jvm.MethodName)) ∈ lw_all := lw_g (lw_at lw_m10 158 rfl) rfl
theorem q2412 : (Jvm.Cond.code ({ cls := "StaffRailwayModel", name := "isSendRefused", desc := "(II)Z" } : Jvm.MethodName) prog_20_method_52_code (5 : Nat) (Option.some Jvm.ClassFile.FieldType.boolean)) ∈ lw_all := lw_g (lw_at lw_m10 159 rfl) rfl
theorem q2413 : (Jvm.Cond.methodLink "StaffRailwayModel" (181 : Nat) ({ cls := "StaffRailwayModel", name := "isBarred", desc := "(III)Z" } : Jvm.MethodName)) ∈ lw_all := lw_g (lw_at lw_m10 160 rfl) rfl
theorem q2414 : (Jvm.Cond.privateMethod ({ cls := "StaffRailwayModel", name := "isBarred", desc := "(III)Z" } : Jvm.MethodName)) ∈ lw_tbl := lw_at lw_m10 161 rfl
theorem q2415 : (Jvm.Cond.instanceMethod ({ cls := "StaffRailwayModel", name := "isBarred", desc := "(III)Z" } : Jvm.MethodName)) ∈ lw_all := lw_g (lw_at lw_m10 162 rfl) rfl
theorem q2416 : (Jvm.Cond.code ({ cls := "StaffRailwayModel", name := "isBarred", desc := "(III)Z" } : Jvm.MethodName) prog_20_method_51_code (6 : Nat) (Option.some Jvm.ClassFile.FieldType.boolean)) ∈ lw_all := lw_g (lw_at lw_m10 163 rfl) rfl
theorem q2417 : (Jvm.Cond.methodLink "StaffRailwayModel" (178 : Nat) ({ cls := "StaffRailwayModel", name := "hasNoToken", desc := "(II)Z" } : Jvm.MethodName)) ∈ lw_all := lw_g (lw_at lw_m10 164 rfl) rfl
theorem q2418 : (Jvm.Cond.privateMethod ({ cls := "StaffRailwayModel", name := "hasNoToken", desc := "(II)Z" } : Jvm.MethodName)) ∈ lw_tbl := lw_at lw_m10 165 rfl
theorem q2419 : (Jvm.Cond.instanceMethod ({ cls := "StaffRailwayModel", name := "hasNoToken", desc := "(II)Z" } : Jvm.MethodName)) ∈ lw_all := lw_g (lw_at lw_m10 166 rfl) rfl
theorem q2420 : (Jvm.Cond.code ({ cls := "StaffRailwayModel", name := "hasNoToken", desc := "(II)Z" } : Jvm.MethodName) prog_20_method_47_code (8 : Nat) (Option.some Jvm.ClassFile.FieldType.boolean)) ∈ lw_all := lw_g (lw_at lw_m10 167 rfl) rfl
theorem q2421 : (Jvm.Cond.methodLink "StaffRailwayModel" (172 : Nat) ({ cls := "StaffRailwayModel", name := "hasSpareMan", desc := "(I)Z" } : Jvm.MethodName)) ∈ lw_all := lw_g (lw_at lw_m10 168 rfl) rfl
theorem q2422 : (Jvm.Cond.privateMethod ({ cls := "StaffRailwayModel", name := "hasSpareMan", desc := "(I)Z" } : Jvm.MethodName)) ∈ lw_tbl := lw_at lw_m10 169 rfl
theorem q2423 : (Jvm.Cond.instanceMethod ({ cls := "StaffRailwayModel", name := "hasSpareMan", desc := "(I)Z" } : Jvm.MethodName)) ∈ lw_all := lw_g (lw_at lw_m10 170 rfl) rfl
theorem q2424 : (Jvm.Cond.code ({ cls := "StaffRailwayModel", name := "hasSpareMan", desc := "(I)Z" } : Jvm.MethodName) prog_20_method_48_code (4 : Nat) (Option.some Jvm.ClassFile.FieldType.boolean)) ∈ lw_all := lw_g (lw_at lw_m10 171 rfl) rfl
theorem q2425 : (Jvm.Cond.methodLink "StaffRailwayModel" (187 : Nat) ({ cls := "StaffRailwayModel", name := "needed", desc := "(II)I" } : Jvm.MethodName)) ∈ lw_all := lw_g (lw_at lw_m10 172 rfl) rfl
theorem q2426 : (Jvm.Cond.privateMethod ({ cls := "StaffRailwayModel", name := "needed", desc := "(II)I" } : Jvm.MethodName)) ∈ lw_tbl := lw_at lw_m10 173 rfl
theorem q2427 : (Jvm.Cond.instanceMethod ({ cls := "StaffRailwayModel", name := "needed", desc := "(II)I" } : Jvm.MethodName)) ∈ lw_all := lw_g (lw_at lw_m10 174 rfl) rfl
theorem q2428 : (Jvm.Cond.code ({ cls := "StaffRailwayModel", name := "needed", desc := "(II)I" } : Jvm.MethodName) prog_20_method_50_code (3 : Nat) (Option.some Jvm.ClassFile.FieldType.int)) ∈ lw_all := lw_g (lw_at lw_m10 175 rfl) rfl
theorem q2429 : (Jvm.Cond.methodLink "StaffRailwayModel" (175 : Nat) ({ cls := "StaffRailwayModel", name := "isByHalves", desc := "(II)Z" } : Jvm.MethodName)) ∈ lw_all := lw_g (lw_at lw_m10 176 rfl) rfl
theorem q2430 : (Jvm.Cond.privateMethod ({ cls := "StaffRailwayModel", name := "isByHalves", desc := "(II)Z" } : Jvm.MethodName)) ∈ lw_tbl := lw_at lw_m10 177 rfl
theorem q2431 : (Jvm.Cond.instanceMethod ({ cls := "StaffRailwayModel", name := "isByHalves", desc := "(II)Z" } : Jvm.MethodName)) ∈ lw_all := lw_g (lw_at lw_m10 178 rfl) rfl
theorem q2432 : (Jvm.Cond.code ({ cls := "StaffRailwayModel", name := "isByHalves", desc := "(II)Z" } : Jvm.MethodName) prog_20_method_49_code (3 : Nat) (Option.some Jvm.ClassFile.FieldType.boolean)) ∈ lw_all := lw_g (lw_at lw_m10 179 rfl) rfl
theorem q2433 : (Jvm.Cond.methodLink "StaffRailwayModel" (102 : Nat) ({ cls := "StaffRailwayModel", name := "write", desc := "(III)V" } : Jvm.MethodName)) ∈ lw_all := lw_g (lw_at lw_m10 180 rfl) rfl
theorem q2434 : (Jvm.Cond.privateMethod ({ cls := "StaffRailwayModel", name := "write", desc := "(III)V" } : Jvm.MethodName)) ∈ lw_tbl := lw_at lw_m10 181 rfl
theorem q2435 : (Jvm.Cond.instanceMethod ({ cls := "StaffRailwayModel", name := "write", desc := "(III)V" } : Jvm.MethodName)) ∈ lw_all := lw_g (lw_at lw_m10 182 rfl) rfl
theorem q2436 : (Jvm.Cond.code ({ cls := "StaffRailwayModel", name := "write", desc := "(III)V" } : Jvm.MethodName) prog_20_method_25_code (6 : Nat) (Option.none : Option Jvm.ClassFile.FieldType)) ∈ lw_all := lw_g (lw_at lw_m10 183 rfl) rfl
theorem q2438 : (Jvm.Cond.instanceMethod ({ cls := "StaffRailwayModel", name := "pass", desc := "(I)I" } : Jvm.MethodName)) ∈ lw_all := lw_g (lw_at lw_m10 185 rfl) rfl
theorem q2439 : (Jvm.Cond.selects "StaffRailwayModel" ({ cls := "StaffRailwayModel", name := "pass", desc := "(I)I" } : Jvm.MethodName) ({ cls := "StaffRailwayModel", name := "pass", desc := "(I)I" } : Jvm.MethodName)) ∈ lw_all := lw_g (lw_at lw_m10 186 rfl) rfl
theorem q2440 : (Jvm.Cond.code ({ cls := "StaffRailwayModel", name := "pass", desc := "(I)I" } : Jvm.MethodName) prog_20_method_56_code (2 : Nat) (Option.some Jvm.ClassFile.FieldType.int)) ∈ lw_all := lw_g (lw_at lw_m10 187 rfl) rfl
theorem q2441 : (Jvm.Cond.methodLink "StaffRailwayModel" (193 : Nat) ({ cls := "StaffRailwayModel", name := "passMinutes", desc := "(I)I" } : Jvm.MethodName)) ∈ lw_all := lw_g (lw_at lw_m10 188 rfl) rfl
theorem q2442 : (Jvm.Cond.privateMethod ({ cls := "StaffRailwayModel", name := "passMinutes", desc := "(I)I" } : Jvm.MethodName)) ∈ lw_tbl := lw_at lw_m10 189 rfl
theorem q2443 : (Jvm.Cond.instanceMethod ({ cls := "StaffRailwayModel", name := "passMinutes", desc := "(I)I" } : Jvm.MethodName)) ∈ lw_all := lw_g (lw_at lw_m10 190 rfl) rfl
theorem q2444 : (Jvm.Cond.code ({ cls := "StaffRailwayModel", name := "passMinutes", desc := "(I)I" } : Jvm.MethodName) prog_20_method_55_code (5 : Nat) (Option.some Jvm.ClassFile.FieldType.int)) ∈ lw_all := lw_g (lw_at lw_m10 191 rfl) rfl
theorem q2445 : (Jvm.Cond.methodLink "StaffRailwayModel" (190 : Nat) ({ cls := "StaffRailwayModel", name := "arrive", desc := "(I)V" } : Jvm.MethodName)) ∈ lw_all := lw_g (lw_at lw_m10 192 rfl) rfl
theorem q2446 : (Jvm.Cond.privateMethod ({ cls := "StaffRailwayModel", name := "arrive", desc := "(I)V" } : Jvm.MethodName)) ∈ lw_tbl := lw_at lw_m10 193 rfl
theorem q2447 : (Jvm.Cond.instanceMethod ({ cls := "StaffRailwayModel", name := "arrive", desc := "(I)V" } : Jvm.MethodName)) ∈ lw_all := lw_g (lw_at lw_m10 194 rfl) rfl
theorem q2448 : (Jvm.Cond.code ({ cls := "StaffRailwayModel", name := "arrive", desc := "(I)V" } : Jvm.MethodName) prog_20_method_54_code (4 : Nat) (Option.none : Option Jvm.ClassFile.FieldType)) ∈ lw_all := lw_g (lw_at lw_m10 195 rfl) rfl
theorem q2450 : (Jvm.Cond.instanceMethod ({ cls := "StaffRailwayModel", name := "lose", desc := "(I)I" } : Jvm.MethodName)) ∈ lw_all := lw_g (lw_at lw_m10 197 rfl) rfl
theorem q2451 : (Jvm.Cond.selects "StaffRailwayModel" ({ cls := "StaffRailwayModel", name := "lose", desc := "(I)I" } : Jvm.MethodName) ({ cls := "StaffRailwayModel", name := "lose", desc := "(I)I" } : Jvm.MethodName)) ∈ lw_all := lw_g (lw_at lw_m10 198 rfl) rfl
theorem q2452 : (Jvm.Cond.code ({ cls := "StaffRailwayModel", name := "lose", desc := "(I)I" } : Jvm.MethodName) prog_20_method_58_code (3 : Nat) (Option.some Jvm.ClassFile.FieldType.int)) ∈ lw_all := lw_g (lw_at lw_m10 199 rfl) rfl
theorem q2453 : (Jvm.Cond.methodLink "StaffRailwayModel" (196 : Nat) ({ cls := "StaffRailwayModel", name := "isLoseRefused", desc := "(I)Z" } : Jvm.MethodName)) ∈ lw_all := lw_g (lw_at lw_m10 200 rfl) rfl
theorem q2454 : (Jvm.Cond.privateMethod ({ cls := "StaffRailwayModel", name := "isLoseRefused", desc := "(I)Z" } : Jvm.MethodName)) ∈ lw_tbl := lw_at lw_m10 201 rfl
theorem q2455 : (Jvm.Cond.instanceMethod ({ cls := "StaffRailwayModel", name := "isLoseRefused", desc := "(I)Z" } : Jvm.MethodName)) ∈ lw_all := lw_g (lw_at lw_m10 202 rfl) rfl
theorem q2456 : (Jvm.Cond.code ({ cls := "StaffRailwayModel", name := "isLoseRefused", desc := "(I)Z" } : Jvm.MethodName) prog_20_method_57_code (3 : Nat) (Option.some Jvm.ClassFile.FieldType.boolean)) ∈ lw_all := lw_g (lw_at lw_m10 203 rfl) rfl
theorem q2457 : (Jvm.Cond.methodLink "StaffRailwayModel" (199 : Nat) ({ cls := "StaffRailwayModel", name := "writeBoth", desc := "(III)V" } : Jvm.MethodName)) ∈ lw_all := lw_g (lw_at lw_m10 204 rfl) rfl
theorem q2458 : (Jvm.Cond.privateMethod ({ cls := "StaffRailwayModel", name := "writeBoth", desc := "(III)V" } : Jvm.MethodName)) ∈ lw_tbl := lw_at lw_m10 205 rfl
theorem q2459 : (Jvm.Cond.instanceMethod ({ cls := "StaffRailwayModel", name := "writeBoth", desc := "(III)V" } : Jvm.MethodName)) ∈ lw_all := lw_g (lw_at lw_m10 206 rfl) rfl
theorem q2460 : (Jvm.Cond.code ({ cls := "StaffRailwayModel", name := "writeBoth", desc := "(III)V" } : Jvm.MethodName) prog_20_method_26_code (4 : Nat) (Option.none : Option Jvm.ClassFile.FieldType)) ∈ lw_all := lw_g (lw_at lw_m10 207 rfl) rfl
theorem q2462 : (Jvm.Cond.instanceMethod ({ cls := "StaffRailwayModel", name := "find", desc := "(II)I" } : Jvm.MethodName)) ∈ lw_all := lw_g (lw_at lw_m10 209 rfl) rfl
theorem q2463 : (Jvm.Cond.selects "StaffRailwayModel" ({ cls := "StaffRailwayModel", name := "find", desc := "(II)I" } : Jvm.MethodName) ({ cls := "StaffRailwayModel", name := "find", desc := "(II)I" } : Jvm.MethodName)) ∈ lw_all := lw_g (lw_at lw_m10 210 rfl) rfl
theorem q2464 : (Jvm.Cond.code ({ cls := "StaffRailwayModel", name := "find", desc := "(II)I" } : Jvm.MethodName) prog_20_method_61_code (5 : Nat) (Option.some Jvm.ClassFile.FieldType.int)) ∈ lw_all := lw_g (lw_at lw_m10 211 rfl) rfl
theorem q2465 : (Jvm.Cond.methodLink "StaffRailwayModel" (202 : Nat) ({ cls := "StaffRailwayModel", name := "isFindRefused", desc := "(II)Z" } : Jvm.MethodName)) ∈ lw_all := lw_g (lw_at lw_m10 212 rfl) rfl
theorem q2466 : (Jvm.Cond.privateMethod ({ cls := "StaffRailwayModel", name := "isFindRefused", desc := "(II)Z" } : Jvm.MethodName)) ∈ lw_tbl := lw_at lw_m10 213 rfl
theorem q2467 : (Jvm.Cond.instanceMethod ({ cls := "StaffRailwayModel", name := "isFindRefused", desc := "(II)Z" } : Jvm.MethodName)) ∈ lw_all := lw_g (lw_at lw_m10 214 rfl) rfl
theorem q2468 : (Jvm.Cond.code ({ cls := "StaffRailwayModel", name := "isFindRefused", desc := "(II)Z" } : Jvm.MethodName) prog_20_method_59_code (3 : Nat) (Option.some Jvm.ClassFile.FieldType.boolean)) ∈ lw_all := lw_g (lw_at lw_m10 215 rfl) rfl
theorem q2469 : (Jvm.Cond.methodLink "StaffRailwayModel" (205 : Nat) ({ cls := "StaffRailwayModel", name := "isEnd", desc := "(II)Z" } : Jvm.MethodName)) ∈ lw_all := lw_g (lw_at lw_m10 216 rfl) rfl
theorem q2470 : (Jvm.Cond.static ({ cls := "StaffRailwayModel", name := "isEnd", desc := "(II)Z" } : Jvm.MethodName)) ∈ lw_all := lw_g (lw_at lw_m10 217 rfl) rfl
theorem q2471 : (Jvm.Cond.code ({ cls := "StaffRailwayModel", name := "isEnd", desc := "(II)Z" } : Jvm.MethodName) prog_20_method_60_code (2 : Nat) (Option.some Jvm.ClassFile.FieldType.boolean)) ∈ lw_all := lw_g (lw_at lw_m10 218 rfl) rfl
theorem q2473 : (Jvm.Cond.instanceMethod ({ cls := "StaffRailwayModel", name := "pilotman", desc := "(I)I" } : Jvm.MethodName)) ∈ lw_all := lw_g (lw_at lw_m10 220 rfl) rfl
theorem q2474 : (Jvm.Cond.selects "StaffRailwayModel" ({ cls := "StaffRailwayModel", name := "pilotman", desc := "(I)I" } : Jvm.MethodName) ({ cls := "StaffRailwayModel", name := "pilotman", desc := "(I)I" } : Jvm.MethodName)) ∈ lw_all := lw_g (lw_at lw_m10 221 rfl) rfl
theorem q2475 : (Jvm.Cond.code ({ cls := "StaffRailwayModel", name := "pilotman", desc := "(I)I" } : Jvm.MethodName) prog_20_method_62_code (3 : Nat) (Option.some Jvm.ClassFile.FieldType.int)) ∈ lw_all := lw_g (lw_at lw_m10 222 rfl) rfl
theorem q2477 : (Jvm.Cond.instanceMethod ({ cls := "StaffRailwayModel", name := "walk", desc := "(II)I" } : Jvm.MethodName)) ∈ lw_all := lw_g (lw_at lw_m10 224 rfl) rfl
theorem q2478 : (Jvm.Cond.selects "StaffRailwayModel" ({ cls := "StaffRailwayModel", name := "walk", desc := "(II)I" } : Jvm.MethodName) ({ cls := "StaffRailwayModel", name := "walk", desc := "(II)I" } : Jvm.MethodName)) ∈ lw_all := lw_g (lw_at lw_m10 225 rfl) rfl
theorem q2479 : (Jvm.Cond.code ({ cls := "StaffRailwayModel", name := "walk", desc := "(II)I" } : Jvm.MethodName) prog_20_method_65_code (4 : Nat) (Option.some Jvm.ClassFile.FieldType.int)) ∈ lw_all := lw_g (lw_at lw_m10 226 rfl) rfl
theorem q2480 : (Jvm.Cond.methodLink "StaffRailwayModel" (211 : Nat) ({ cls := "StaffRailwayModel", name := "isNoMan", desc := "(I)Z" } : Jvm.MethodName)) ∈ lw_all := lw_g (lw_at lw_m10 227 rfl) rfl
theorem q2481 : (Jvm.Cond.privateMethod ({ cls := "StaffRailwayModel", name := "isNoMan", desc := "(I)Z" } : Jvm.MethodName)) ∈ lw_tbl := lw_at lw_m10 228 rfl
theorem q2482 : (Jvm.Cond.instanceMethod ({ cls := "StaffRailwayModel", name := "isNoMan", desc := "(I)Z" } : Jvm.MethodName)) ∈ lw_all := lw_g (lw_at lw_m10 229 rfl) rfl
theorem q2483 : (Jvm.Cond.code ({ cls := "StaffRailwayModel", name := "isNoMan", desc := "(I)Z" } : Jvm.MethodName) prog_20_method_63_code (2 : Nat) (Option.some Jvm.ClassFile.FieldType.boolean)) ∈ lw_all := lw_g (lw_at lw_m10 230 rfl) rfl
theorem q2484 : (Jvm.Cond.methodLink "StaffRailwayModel" (208 : Nat) ({ cls := "StaffRailwayModel", name := "isMan", desc := "(I)Z" } : Jvm.MethodName)) ∈ lw_all := lw_g (lw_at lw_m10 231 rfl) rfl
theorem q2485 : (Jvm.Cond.privateMethod ({ cls := "StaffRailwayModel", name := "isMan", desc := "(I)Z" } : Jvm.MethodName)) ∈ lw_tbl := lw_at lw_m10 232 rfl
theorem q2486 : (Jvm.Cond.instanceMethod ({ cls := "StaffRailwayModel", name := "isMan", desc := "(I)Z" } : Jvm.MethodName)) ∈ lw_all := lw_g (lw_at lw_m10 233 rfl) rfl
theorem q2487 : (Jvm.Cond.code ({ cls := "StaffRailwayModel", name := "isMan", desc := "(I)Z" } : Jvm.MethodName) prog_20_method_19_code (2 : Nat) (Option.some Jvm.ClassFile.FieldType.boolean)) ∈ lw_all := lw_g (lw_at lw_m10 234 rfl) rfl
theorem q2488 : (Jvm.Cond.methodLink "StaffRailwayModel" (214 : Nat) ({ cls := "StaffRailwayModel", name := "isTaken", desc := "(I)Z" } : Jvm.MethodName)) ∈ lw_all := lw_g (lw_at lw_m10 235 rfl) rfl
theorem q2489 : (Jvm.Cond.privateMethod ({ cls := "StaffRailwayModel", name := "isTaken", desc := "(I)Z" } : Jvm.MethodName)) ∈ lw_tbl := lw_at lw_m10 236 rfl
theorem q2490 : (Jvm.Cond.instanceMethod ({ cls := "StaffRailwayModel", name := "isTaken", desc := "(I)Z" } : Jvm.MethodName)) ∈ lw_all := lw_g (lw_at lw_m10 237 rfl) rfl
theorem q2491 : (Jvm.Cond.code ({ cls := "StaffRailwayModel", name := "isTaken", desc := "(I)Z" } : Jvm.MethodName) prog_20_method_64_code (2 : Nat) (Option.some Jvm.ClassFile.FieldType.boolean)) ∈ lw_all := lw_g (lw_at lw_m10 238 rfl) rfl
theorem q2493 : (Jvm.Cond.instanceMethod ({ cls := "StaffRailwayModel", name := "appoint", desc := "(II)I" } : Jvm.MethodName)) ∈ lw_all := lw_g (lw_at lw_m11 0 rfl) rfl
theorem q2494 : (Jvm.Cond.selects "StaffRailwayModel" ({ cls := "StaffRailwayModel", name := "appoint", desc := "(II)I" } : Jvm.MethodName) ({ cls := "StaffRailwayModel", name := "appoint", desc := "(II)I" } : Jvm.MethodName)) ∈ lw_all := lw_g (lw_at lw_m11 1 rfl) rfl
theorem q2495 : (Jvm.Cond.code ({ cls := "StaffRailwayModel", name := "appoint", desc := "(II)I" } : Jvm.MethodName) prog_20_method_67_code (3 : Nat) (Option.some Jvm.ClassFile.FieldType.int)) ∈ lw_all := lw_g (lw_at lw_m11 2 rfl) rfl
theorem q2496 : (Jvm.Cond.methodLink "StaffRailwayModel" (217 : Nat) ({ cls := "StaffRailwayModel", name := "isAppointRefused", desc := "(II)Z" } : Jvm.MethodName)) ∈ lw_all := lw_g (lw_at lw_m11 3 rfl) rfl
theorem q2497 : (Jvm.Cond.privateMethod ({ cls := "StaffRailwayModel", name := "isAppointRefused", desc := "(II)Z" } : Jvm.MethodName)) ∈ lw_tbl := lw_at lw_m11 4 rfl
theorem q2498 : (Jvm.Cond.instanceMethod ({ cls := "StaffRailwayModel", name := "isAppointRefused", desc := "(II)Z" } : Jvm.MethodName)) ∈ lw_all := lw_g (lw_at lw_m11 5 rfl) rfl
theorem q2499 : (Jvm.Cond.code ({ cls := "StaffRailwayModel", name := "isAppointRefused", desc := "(II)Z" } : Jvm.MethodName) prog_20_method_66_code (4 : Nat) (Option.some Jvm.ClassFile.FieldType.boolean)) ∈ lw_all := lw_g (lw_at lw_m11 6 rfl) rfl
theorem q2501 : (Jvm.Cond.instanceMethod ({ cls := "StaffRailwayModel", name := "pilotmanOf", desc := "(II)I" } : Jvm.MethodName)) ∈ lw_all := lw_g (lw_at lw_m11 8 rfl) rfl
theorem q2502 : (Jvm.Cond.selects "StaffRailwayModel" ({ cls := "StaffRailwayModel", name := "pilotmanOf", desc := "(II)I" } : Jvm.MethodName) ({ cls := "StaffRailwayModel", name := "pilotmanOf", desc := "(II)I" } : Jvm.MethodName)) ∈ lw_all := lw_g (lw_at lw_m11 9 rfl) rfl
theorem q2503 : (Jvm.Cond.code ({ cls := "StaffRailwayModel", name := "pilotmanOf", desc := "(II)I" } : Jvm.MethodName) prog_20_method_69_code (3 : Nat) (Option.some Jvm.ClassFile.FieldType.int)) ∈ lw_all := lw_g (lw_at lw_m11 10 rfl) rfl
theorem q2504 : (Jvm.Cond.methodLink "StaffRailwayModel" (220 : Nat) ({ cls := "StaffRailwayModel", name := "trainWith", desc := "(I)I" } : Jvm.MethodName)) ∈ lw_all := lw_g (lw_at lw_m11 11 rfl) rfl
theorem q2505 : (Jvm.Cond.privateMethod ({ cls := "StaffRailwayModel", name := "trainWith", desc := "(I)I" } : Jvm.MethodName)) ∈ lw_tbl := lw_at lw_m11 12 rfl
theorem q2506 : (Jvm.Cond.instanceMethod ({ cls := "StaffRailwayModel", name := "trainWith", desc := "(I)I" } : Jvm.MethodName)) ∈ lw_all := lw_g (lw_at lw_m11 13 rfl) rfl
theorem q2507 : (Jvm.Cond.code ({ cls := "StaffRailwayModel", name := "trainWith", desc := "(I)I" } : Jvm.MethodName) prog_20_method_68_code (3 : Nat) (Option.some Jvm.ClassFile.FieldType.int)) ∈ lw_all := lw_g (lw_at lw_m11 14 rfl) rfl
theorem q2509 : (Jvm.Cond.instanceMethod ({ cls := "StaffRailwayModel", name := "why", desc := "(IIIZ)I" } : Jvm.MethodName)) ∈ lw_all := lw_g (lw_at lw_m11 16 rfl) rfl
theorem q2510 : (Jvm.Cond.selects "StaffRailwayModel" ({ cls := "StaffRailwayModel", name := "why", desc := "(IIIZ)I" } : Jvm.MethodName) ({ cls := "StaffRailwayModel", name := "why", desc := "(IIIZ)I" } : Jvm.MethodName)) ∈ lw_all := lw_g (lw_at lw_m11 17 rfl) rfl
theorem q2511 : (Jvm.Cond.code ({ cls := "StaffRailwayModel", name := "why", desc := "(IIIZ)I" } : Jvm.MethodName) prog_20_method_70_code (6 : Nat) (Option.some Jvm.ClassFile.FieldType.int)) ∈ lw_all := lw_g (lw_at lw_m11 18 rfl) rfl
theorem q2513 : (Jvm.Cond.instanceMethod ({ cls := "StaffRailwayModel", name := "reach", desc := "(IZ)I" } : Jvm.MethodName)) ∈ lw_all := lw_g (lw_at lw_m11 20 rfl) rfl
theorem q2514 : (Jvm.Cond.selects "StaffRailwayModel" ({ cls := "StaffRailwayModel", name := "reach", desc := "(IZ)I" } : Jvm.MethodName) ({ cls := "StaffRailwayModel", name := "reach", desc := "(IZ)I" } : Jvm.MethodName)) ∈ lw_all := lw_g (lw_at lw_m11 21 rfl) rfl
theorem q2515 : (Jvm.Cond.code ({ cls := "StaffRailwayModel", name := "reach", desc := "(IZ)I" } : Jvm.MethodName) prog_20_method_72_code (3 : Nat) (Option.some Jvm.ClassFile.FieldType.int)) ∈ lw_all := lw_g (lw_at lw_m11 22 rfl) rfl
theorem q2516 : (Jvm.Cond.methodLink "StaffRailwayModel" (226 : Nat) ({ cls := "StaffRailwayModel", name := "farthest", desc := "(IZ)I" } : Jvm.MethodName)) ∈ lw_all := lw_g (lw_at lw_m11 23 rfl) rfl
theorem q2517 : (Jvm.Cond.privateMethod ({ cls := "StaffRailwayModel", name := "farthest", desc := "(IZ)I" } : Jvm.MethodName)) ∈ lw_tbl := lw_at lw_m11 24 rfl
theorem q2518 : (Jvm.Cond.instanceMethod ({ cls := "StaffRailwayModel", name := "farthest", desc := "(IZ)I" } : Jvm.MethodName)) ∈ lw_all := lw_g (lw_at lw_m11 25 rfl) rfl
theorem q2519 : (Jvm.Cond.code ({ cls := "StaffRailwayModel", name := "farthest", desc := "(IZ)I" } : Jvm.MethodName) prog_20_method_71_code (8 : Nat) (Option.some Jvm.ClassFile.FieldType.int)) ∈ lw_all := lw_g (lw_at lw_m11 26 rfl) rfl
theorem q2521 : (Jvm.Cond.instanceMethod ({ cls := "StaffRailwayModel", name := "reachAgain", desc := "(IZ)I" } : Jvm.MethodName)) ∈ lw_all := lw_g (lw_at lw_m11 28 rfl) rfl
theorem q2522 : (Jvm.Cond.selects "StaffRailwayModel" ({ cls := "StaffRailwayModel", name := "reachAgain", desc := "(IZ)I" } : Jvm.MethodName) ({ cls := "StaffRailwayModel", name := "reachAgain", desc := "(IZ)I" } : Jvm.MethodName)) ∈ lw_all := lw_g (lw_at lw_m11 29 rfl) rfl
theorem q2523 : (Jvm.Cond.code ({ cls := "StaffRailwayModel", name := "reachAgain", desc := "(IZ)I" } : Jvm.MethodName) prog_20_method_73_code (3 : Nat) (Option.some Jvm.ClassFile.FieldType.int)) ∈ lw_all := lw_g (lw_at lw_m11 30 rfl) rfl
theorem q2524 : (Jvm.Cond.methodLink "StaffRailwayModel" (230 : Nat) ({ cls := "StaffRailwayModel", name := "reach", desc := "(IZ)I" } : Jvm.MethodName)) ∈ lw_all := lw_g (lw_at lw_m11 31 rfl) rfl
theorem q2526 : (Jvm.Cond.instanceMethod ({ cls := "StaffRailwayModel", name := "minutes", desc := "(IZ)I" } : Jvm.MethodName)) ∈ lw_all := lw_g (lw_at lw_m11 33 rfl) rfl
theorem q2527 : (Jvm.Cond.selects "StaffRailwayModel" ({ cls := "StaffRailwayModel", name := "minutes", desc := "(IZ)I" } : Jvm.MethodName) ({ cls := "StaffRailwayModel", name := "minutes", desc := "(IZ)I" } : Jvm.MethodName)) ∈ lw_all := lw_g (lw_at lw_m11 34 rfl) rfl
theorem q2528 : (Jvm.Cond.code ({ cls := "StaffRailwayModel", name := "minutes", desc := "(IZ)I" } : Jvm.MethodName) prog_20_method_74_code (3 : Nat) (Option.some Jvm.ClassFile.FieldType.int)) ∈ lw_all := lw_g (lw_at lw_m11 35 rfl) rfl
theorem q2530 : (Jvm.Cond.instanceMethod ({ cls := "StaffRailwayModel", name := "movable", desc := "()I" } : Jvm.MethodName)) ∈ lw_all := lw_g (lw_at lw_m11 37 rfl) rfl
theorem q2531 : (Jvm.Cond.selects "StaffRailwayModel" ({ cls := "StaffRailwayModel", name := "movable", desc := "()I" } : Jvm.MethodName) ({ cls := "StaffRailwayModel", name := "movable", desc := "()I" } : Jvm.MethodName)) ∈ lw_all := lw_g (lw_at lw_m11 38 rfl) rfl
theorem q2532 : (Jvm.Cond.code ({ cls := "StaffRailwayModel", name := "movable", desc := "()I" } : Jvm.MethodName) prog_20_method_75_code (4 : Nat) (Option.some Jvm.ClassFile.FieldType.int)) ∈ lw_all := lw_g (lw_at lw_m11 39 rfl) rfl
theorem q2534 : (Jvm.Cond.instanceMethod ({ cls := "StaffRailwayModel", name := "log", desc := "(III)I" } : Jvm.MethodName)) ∈ lw_all := lw_g (lw_at lw_m11 41 rfl) rfl
theorem q2535 : (Jvm.Cond.selects "StaffRailwayModel" ({ cls := "StaffRailwayModel", name := "log", desc := "(III)I" } : Jvm.MethodName) ({ cls := "StaffRailwayModel", name := "log", desc := "(III)I" } : Jvm.MethodName)) ∈ lw_all := lw_g (lw_at lw_m11 42 rfl) rfl
theorem q2536 : (Jvm.Cond.code ({ cls := "StaffRailwayModel", name := "log", desc := "(III)I" } : Jvm.MethodName) prog_20_method_76_code (4 : Nat) (Option.some Jvm.ClassFile.FieldType.int)) ∈ lw_all := lw_g (lw_at lw_m11 43 rfl) rfl
theorem q2538 : (Jvm.Cond.instanceMethod ({ cls := "StaffRailwayModel", name := "entries", desc := "(I)I" } : Jvm.MethodName)) ∈ lw_all := lw_g (lw_at lw_m11 45 rfl) rfl
theorem q2539 : (Jvm.Cond.selects "StaffRailwayModel" ({ cls := "StaffRailwayModel", name := "entries", desc := "(I)I" } : Jvm.MethodName) ({ cls := "StaffRailwayModel", name := "entries", desc := "(I)I" } : Jvm.MethodName)) ∈ lw_all := lw_g (lw_at lw_m11 46 rfl) rfl
theorem q2540 : (Jvm.Cond.code ({ cls := "StaffRailwayModel", name := "entries", desc := "(I)I" } : Jvm.MethodName) prog_20_method_77_code (5 : Nat) (Option.some Jvm.ClassFile.FieldType.int)) ∈ lw_all := lw_g (lw_at lw_m11 47 rfl) rfl
theorem q2542 : (Jvm.Cond.instanceMethod ({ cls := "StaffRailwayModel", name := "append", desc := "(C)I" } : Jvm.MethodName)) ∈ lw_all := lw_g (lw_at lw_m11 49 rfl) rfl
theorem q2543 : (Jvm.Cond.selects "StaffRailwayModel" ({ cls := "StaffRailwayModel", name := "append", desc := "(C)I" } : Jvm.MethodName) ({ cls := "StaffRailwayModel", name := "append", desc := "(C)I" } : Jvm.MethodName)) ∈ lw_all := lw_g (lw_at lw_m11 50 rfl) rfl
theorem q2544 : (Jvm.Cond.code ({ cls := "StaffRailwayModel", name := "append", desc := "(C)I" } : Jvm.MethodName) prog_20_method_78_code (2 : Nat) (Option.some Jvm.ClassFile.FieldType.int)) ∈ lw_all := lw_g (lw_at lw_m11 51 rfl) rfl
theorem q2546 : (Jvm.Cond.instanceMethod ({ cls := "StaffRailwayModel", name := "run", desc := "()I" } : Jvm.MethodName)) ∈ lw_all := lw_g (lw_at lw_m11 53 rfl) rfl
theorem q2547 : (Jvm.Cond.selects "StaffRailwayModel" ({ cls := "StaffRailwayModel", name := "run", desc := "()I" } : Jvm.MethodName) ({ cls := "StaffRailwayModel", name := "run", desc := "()I" } : Jvm.MethodName)) ∈ lw_all := lw_g (lw_at lw_m11 54 rfl) rfl
theorem q2548 : (Jvm.Cond.code ({ cls := "StaffRailwayModel", name := "run", desc := "()I" } : Jvm.MethodName) prog_20_method_86_code (4 : Nat) (Option.some Jvm.ClassFile.FieldType.int)) ∈ lw_all := lw_g (lw_at lw_m11 55 rfl) rfl
theorem q2549 : (Jvm.Cond.methodLink "StaffRailwayModel" (291 : Nat) ({ cls := "StaffRailwayModel", name := "countOrders", desc := "()I" } : Jvm.MethodName)) ∈ lw_all := lw_g (lw_at lw_m11 56 rfl) rfl
theorem q2550 : (Jvm.Cond.privateMethod ({ cls := "StaffRailwayModel", name := "countOrders", desc := "()I" } : Jvm.MethodName)) ∈ lw_tbl := lw_at lw_m11 57 rfl
theorem q2551 : (Jvm.Cond.instanceMethod ({ cls := "StaffRailwayModel", name := "countOrders", desc := "()I" } : Jvm.MethodName)) ∈ lw_all := lw_g (lw_at lw_m11 58 rfl) rfl
theorem q2552 : (Jvm.Cond.code ({ cls := "StaffRailwayModel", name := "countOrders", desc := "()I" } : Jvm.MethodName) prog_20_method_84_code (2 : Nat) (Option.some Jvm.ClassFile.FieldType.int)) ∈ lw_all := lw_g (lw_at lw_m11 59 rfl) rfl
theorem q2553 : (Jvm.Cond.methodLink "StaffRailwayModel" (267 : Nat) ({ cls := "StaffRailwayModel", name := "readOrder", desc := "()V" } : Jvm.MethodName)) ∈ lw_all := lw_g (lw_at lw_m11 60 rfl) rfl
theorem q2554 : (Jvm.Cond.privateMethod ({ cls := "StaffRailwayModel", name := "readOrder", desc := "()V" } : Jvm.MethodName)) ∈ lw_tbl := lw_at lw_m11 61 rfl
theorem q2555 : (Jvm.Cond.instanceMethod ({ cls := "StaffRailwayModel", name := "readOrder", desc := "()V" } : Jvm.MethodName)) ∈ lw_all := lw_g (lw_at lw_m11 62 rfl) rfl
theorem q2556 : (Jvm.Cond.code ({ cls := "StaffRailwayModel", name := "readOrder", desc := "()V" } : Jvm.MethodName) prog_20_method_83_code (2 : Nat) (Option.none : Option Jvm.ClassFile.FieldType)) ∈ lw_all := lw_g (lw_at lw_m11 63 rfl) rfl
theorem q2557 : (Jvm.Cond.methodLink "StaffRailwayModel" (250 : Nat) ({ cls := "StaffRailwayModel", name := "signOf", desc := "(C)C" } : Jvm.MethodName)) ∈ lw_all := lw_g (lw_at lw_m11 64 rfl) rfl
theorem q2558 : (Jvm.Cond.static ({ cls := "StaffRailwayModel", name := "signOf", desc := "(C)C" } : Jvm.MethodName)) ∈ lw_all := lw_g (lw_at lw_m11 65 rfl) rfl
theorem q2559 : (Jvm.Cond.code ({ cls := "StaffRailwayModel", name := "signOf", desc := "(C)C" } : Jvm.MethodName) prog_20_method_82_code (1 : Nat) (Option.some Jvm.ClassFile.FieldType.char)) ∈ lw_all := lw_g (lw_at lw_m11 66 rfl) rfl
theorem q2560 : (Jvm.Cond.methodLink "StaffRailwayModel" (254 : Nat) ({ cls := "StaffRailwayModel", name := "number", desc := "(I)I" } : Jvm.MethodName)) ∈ lw_all := lw_g (lw_at lw_m11 67 rfl) rfl
theorem q2561 : (Jvm.Cond.privateMethod ({ cls := "StaffRailwayModel", name := "number", desc := "(I)I" } : Jvm.MethodName)) ∈ lw_tbl := lw_at lw_m11 68 rfl
theorem q2562 : (Jvm.Cond.instanceMethod ({ cls := "StaffRailwayModel", name := "number", desc := "(I)I" } : Jvm.MethodName)) ∈ lw_all := lw_g (lw_at lw_m11 69 rfl) rfl
theorem q2563 : (Jvm.Cond.code ({ cls := "StaffRailwayModel", name := "number", desc := "(I)I" } : Jvm.MethodName) prog_20_method_81_code (4 : Nat) (Option.some Jvm.ClassFile.FieldType.int)) ∈ lw_all := lw_g (lw_at lw_m11 70 rfl) rfl
theorem q2564 : (Jvm.Cond.methodLink "StaffRailwayModel" (242 : Nat) ({ cls := "StaffRailwayModel", name := "sees", desc := "(CC)Z" } : Jvm.MethodName)) ∈ lw_all := lw_g (lw_at lw_m11 71 rfl) rfl
theorem q2565 : (Jvm.Cond.privateMethod ({ cls := "StaffRailwayModel", name := "sees", desc := "(CC)Z" } : Jvm.MethodName)) ∈ lw_tbl := lw_at lw_m11 72 rfl
theorem q2566 : (Jvm.Cond.instanceMethod ({ cls := "StaffRailwayModel", name := "sees", desc := "(CC)Z" } : Jvm.MethodName)) ∈ lw_all := lw_g (lw_at lw_m11 73 rfl) rfl
theorem q2567 : (Jvm.Cond.code ({ cls := "StaffRailwayModel", name := "sees", desc := "(CC)Z" } : Jvm.MethodName) prog_20_method_79_code (3 : Nat) (Option.some Jvm.ClassFile.FieldType.boolean)) ∈ lw_all := lw_g (lw_at lw_m11 74 rfl) rfl
theorem q2568 : (Jvm.Cond.methodLink "StaffRailwayModel" (260 : Nat) ({ cls := "StaffRailwayModel", name := "must", desc := "(C)V" } : Jvm.MethodName)) ∈ lw_all := lw_g (lw_at lw_m11 75 rfl) rfl
theorem q2569 : (Jvm.Cond.privateMethod ({ cls := "StaffRailwayModel", name := "must", desc := "(C)V" } : Jvm.MethodName)) ∈ lw_tbl := lw_at lw_m11 76 rfl
theorem q2570 : (Jvm.Cond.instanceMethod ({ cls := "StaffRailwayModel", name := "must", desc := "(C)V" } : Jvm.MethodName)) ∈ lw_all := lw_g (lw_at lw_m11 77 rfl) rfl
theorem q2571 : (Jvm.Cond.code ({ cls := "StaffRailwayModel", name := "must", desc := "(C)V" } : Jvm.MethodName) prog_20_method_80_code (2 : Nat) (Option.none : Option Jvm.ClassFile.FieldType)) ∈ lw_all := lw_g (lw_at lw_m11 78 rfl) rfl
theorem q2572 : (Jvm.Cond.methodLink "StaffRailwayModel" (295 : Nat) ({ cls := "StaffRailwayModel", name := "isOrderRefused", desc := "()Z" } : Jvm.MethodName)) ∈ lw_all := lw_g (lw_at lw_m11 79 rfl) rfl
theorem q2573 : (Jvm.Cond.privateMethod ({ cls := "StaffRailwayModel", name := "isOrderRefused", desc := "()Z" } : Jvm.MethodName)) ∈ lw_tbl := lw_at lw_m11 80 rfl
theorem q2574 : (Jvm.Cond.instanceMethod ({ cls := "StaffRailwayModel", name := "isOrderRefused", desc := "()Z" } : Jvm.MethodName)) ∈ lw_all := lw_g (lw_at lw_m11 81 rfl) rfl
theorem q2575 : (Jvm.Cond.code ({ cls := "StaffRailwayModel", name := "isOrderRefused", desc := "()Z" } : Jvm.MethodName) prog_20_method_85_code (1 : Nat) (Option.some Jvm.ClassFile.FieldType.boolean)) ∈ lw_all := lw_g (lw_at lw_m11 82 rfl) rfl
theorem q2576 : (Jvm.Cond.methodLink "StaffRailwayModel" (270 : Nat) ({ cls := "StaffRailwayModel", name := "send", desc := "(II)I" } : Jvm.MethodName)) ∈ lw_all := lw_g (lw_at lw_m11 83 rfl) rfl
theorem q2577 : (Jvm.Cond.methodLink "StaffRailwayModel" (273 : Nat) ({ cls := "StaffRailwayModel", name := "pass", desc := "(I)I" } : Jvm.MethodName)) ∈ lw_all := lw_g (lw_at lw_m11 84 rfl) rfl
theorem q2578 : (Jvm.Cond.methodLink "StaffRailwayModel" (276 : Nat) ({ cls := "StaffRailwayModel", name := "lose", desc := "(I)I" } : Jvm.MethodName)) ∈ lw_all := lw_g (lw_at lw_m11 85 rfl) rfl
theorem q2579 : (Jvm.Cond.methodLink "StaffRailwayModel" (279 : Nat) ({ cls := "StaffRailwayModel", name := "find", desc := "(II)I" } : Jvm.MethodName)) ∈ lw_all := lw_g (lw_at lw_m11 86 rfl) rfl
theorem q2580 : (Jvm.Cond.methodLink "StaffRailwayModel" (282 : Nat) ({ cls := "StaffRailwayModel", name := "appoint", desc := "(II)I" } : Jvm.MethodName)) ∈ lw_all := lw_g (lw_at lw_m11 87 rfl) rfl
theorem q2581 : (Jvm.Cond.methodLink "StaffRailwayModel" (285 : Nat) ({ cls := "StaffRailwayModel", name := "divide", desc := "(II)I" } : Jvm.MethodName)) ∈ lw_all := lw_g (lw_at lw_m11 88 rfl) rfl
theorem q2582 : (Jvm.Cond.methodLink "StaffRailwayModel" (288 : Nat) ({ cls := "StaffRailwayModel", name := "couple", desc := "(II)I" } : Jvm.MethodName)) ∈ lw_all := lw_g (lw_at lw_m11 89 rfl) rfl
theorem q2584 : (Jvm.Cond.instanceMethod ({ cls := "StaffRailwayModel", name := "fault", desc := "()I" } : Jvm.MethodName)) ∈ lw_all := lw_g (lw_at lw_m11 91 rfl) rfl
theorem q2585 : (Jvm.Cond.selects "StaffRailwayModel" ({ cls := "StaffRailwayModel", name := "fault", desc := "()I" } : Jvm.MethodName) ({ cls := "StaffRailwayModel", name := "fault", desc := "()I" } : Jvm.MethodName)) ∈ lw_all := lw_g (lw_at lw_m11 92 rfl) rfl
theorem q2586 : (Jvm.Cond.code ({ cls := "StaffRailwayModel", name := "fault", desc := "()I" } : Jvm.MethodName) prog_20_method_87_code (1 : Nat) (Option.some Jvm.ClassFile.FieldType.int)) ∈ lw_all := lw_g (lw_at lw_m11 93 rfl) rfl
theorem q2588 : (Jvm.Cond.instanceMethod ({ cls := "StaffRailwayModel", name := "reason", desc := "(IZ)I" } : Jvm.MethodName)) ∈ lw_all := lw_g (lw_at lw_m11 95 rfl) rfl
theorem q2589 : (Jvm.Cond.selects "StaffRailwayModel" ({ cls := "StaffRailwayModel", name := "reason", desc := "(IZ)I" } : Jvm.MethodName) ({ cls := "StaffRailwayModel", name := "reason", desc := "(IZ)I" } : Jvm.MethodName)) ∈ lw_all := lw_g (lw_at lw_m11 96 rfl) rfl
theorem q2590 : (Jvm.Cond.code ({ cls := "StaffRailwayModel", name := "reason", desc := "(IZ)I" } : Jvm.MethodName) prog_20_method_88_code (3 : Nat) (Option.some Jvm.ClassFile.FieldType.int)) ∈ lw_all := lw_g (lw_at lw_m11 97 rfl) rfl
theorem q2592 : (Jvm.Cond.instanceMethod ({ cls := "StaffRailwayModel", name := "account", desc := "(I)I" } : Jvm.MethodName)) ∈ lw_all := lw_g (lw_at lw_m11 99 rfl) rfl
theorem q2593 : (Jvm.Cond.selects "StaffRailwayModel" ({ cls := "StaffRailwayModel", name := "account", desc := "(I)I" } : Jvm.MethodName) ({ cls := "StaffRailwayModel", name := "account", desc := "(I)I" } : Jvm.MethodName)) ∈ lw_all := lw_g (lw_at lw_m11 100 rfl) rfl
theorem q2594 : (Jvm.Cond.code ({ cls := "StaffRailwayModel", name := "account", desc := "(I)I" } : Jvm.MethodName) prog_20_method_93_code (2 : Nat) (Option.some Jvm.ClassFile.FieldType.int)) ∈ lw_all := lw_g (lw_at lw_m11 101 rfl) rfl
theorem q2595 : (Jvm.Cond.methodLink "StaffRailwayModel" (299 : Nat) ({ cls := "StaffRailwayModel", name := "underWay", desc := "()I" } : Jvm.MethodName)) ∈ lw_all := lw_g (lw_at lw_m11 102 rfl) rfl
theorem q2596 : (Jvm.Cond.privateMethod ({ cls := "StaffRailwayModel", name := "underWay", desc := "()I" } : Jvm.MethodName)) ∈ lw_tbl := lw_at lw_m11 103 rfl
theorem q2597 : (Jvm.Cond.instanceMethod ({ cls := "StaffRailwayModel", name := "underWay", desc := "()I" } : Jvm.MethodName)) ∈ lw_all := lw_g (lw_at lw_m11 104 rfl) rfl
theorem q2598 : (Jvm.Cond.code ({ cls := "StaffRailwayModel", name := "underWay", desc := "()I" } : Jvm.MethodName) prog_20_method_91_code (3 : Nat) (Option.some Jvm.ClassFile.FieldType.int)) ∈ lw_all := lw_g (lw_at lw_m11 105 rfl) rfl
theorem q2599 : (Jvm.Cond.methodLink "StaffRailwayModel" (302 : Nat) ({ cls := "StaffRailwayModel", name := "sumOfTrains", desc := "(I)I" } : Jvm.MethodName)) ∈ lw_all := lw_g (lw_at lw_m11 106 rfl) rfl
theorem q2600 : (Jvm.Cond.privateMethod ({ cls := "StaffRailwayModel", name := "sumOfTrains", desc := "(I)I" } : Jvm.MethodName)) ∈ lw_tbl := lw_at lw_m11 107 rfl
theorem q2601 : (Jvm.Cond.instanceMethod ({ cls := "StaffRailwayModel", name := "sumOfTrains", desc := "(I)I" } : Jvm.MethodName)) ∈ lw_all := lw_g (lw_at lw_m11 108 rfl) rfl
theorem q2602 : (Jvm.Cond.code ({ cls := "StaffRailwayModel", name := "sumOfTrains", desc := "(I)I" } : Jvm.MethodName) prog_20_method_89_code (4 : Nat) (Option.some Jvm.ClassFile.FieldType.int)) ∈ lw_all := lw_g (lw_at lw_m11 109 rfl) rfl
theorem q2603 : (Jvm.Cond.methodLink "StaffRailwayModel" (305 : Nat) ({ cls := "StaffRailwayModel", name := "appointed", desc := "()I" } : Jvm.MethodName)) ∈ lw_all := lw_g (lw_at lw_m11 110 rfl) rfl
theorem q2604 : (Jvm.Cond.privateMethod ({ cls := "StaffRailwayModel", name := "appointed", desc := "()I" } : Jvm.MethodName)) ∈ lw_tbl := lw_at lw_m11 111 rfl
theorem q2605 : (Jvm.Cond.instanceMethod ({ cls := "StaffRailwayModel", name := "appointed", desc := "()I" } : Jvm.MethodName)) ∈ lw_all := lw_g (lw_at lw_m11 112 rfl) rfl
theorem q2606 : (Jvm.Cond.code ({ cls := "StaffRailwayModel", name := "appointed", desc := "()I" } : Jvm.MethodName) prog_20_method_92_code (3 : Nat) (Option.some Jvm.ClassFile.FieldType.int)) ∈ lw_all := lw_g (lw_at lw_m11 113 rfl) rfl
theorem q2607 : (Jvm.Cond.methodLink "StaffRailwayModel" (308 : Nat) ({ cls := "StaffRailwayModel", name := "sumOfStretches", desc := "(I)I" } : Jvm.MethodName)) ∈ lw_all := lw_g (lw_at lw_m11 114 rfl) rfl
theorem q2608 : (Jvm.Cond.privateMethod ({ cls := "StaffRailwayModel", name := "sumOfStretches", desc := "(I)I" } : Jvm.MethodName)) ∈ lw_tbl := lw_at lw_m11 115 rfl
theorem q2609 : (Jvm.Cond.instanceMethod ({ cls := "StaffRailwayModel", name := "sumOfStretches", desc := "(I)I" } : Jvm.MethodName)) ∈ lw_all := lw_g (lw_at lw_m11 116 rfl) rfl
theorem q2610 : (Jvm.Cond.code ({ cls := "StaffRailwayModel", name := "sumOfStretches", desc := "(I)I" } : Jvm.MethodName) prog_20_method_90_code (4 : Nat) (Option.some Jvm.ClassFile.FieldType.int)) ∈ lw_all := lw_g (lw_at lw_m11 117 rfl) rfl
theorem q2612 : (Jvm.Cond.instanceMethod ({ cls := "StaffRailwayModel", name := "share", desc := "()D" } : Jvm.MethodName)) ∈ lw_all := lw_g (lw_at lw_m11 119 rfl) rfl
theorem q2613 : (Jvm.Cond.selects "StaffRailwayModel" ({ cls := "StaffRailwayModel", name := "share", desc := "()D" } : Jvm.MethodName) ({ cls := "StaffRailwayModel", name := "share", desc := "()D" } : Jvm.MethodName)) ∈ lw_all := lw_g (lw_at lw_m11 120 rfl) rfl
theorem q2614 : (Jvm.Cond.code ({ cls := "StaffRailwayModel", name := "share", desc := "()D" } : Jvm.MethodName) prog_20_method_94_code (1 : Nat) (Option.some Jvm.ClassFile.FieldType.double)) ∈ lw_all := lw_g (lw_at lw_m11 121 rfl) rfl
theorem q2616 : (Jvm.Cond.instanceMethod ({ cls := "StaffRailwayModel", name := "undo", desc := "()I" } : Jvm.MethodName)) ∈ lw_all := lw_g (lw_at lw_m11 123 rfl) rfl
theorem q2617 : (Jvm.Cond.selects "StaffRailwayModel" ({ cls := "StaffRailwayModel", name := "undo", desc := "()I" } : Jvm.MethodName) ({ cls := "StaffRailwayModel", name := "undo", desc := "()I" } : Jvm.MethodName)) ∈ lw_all := lw_g (lw_at lw_m11 124 rfl) rfl
theorem q2618 : (Jvm.Cond.code ({ cls := "StaffRailwayModel", name := "undo", desc := "()I" } : Jvm.MethodName) prog_20_method_95_code (1 : Nat) (Option.some Jvm.ClassFile.FieldType.int)) ∈ lw_all := lw_g (lw_at lw_m11 125 rfl) rfl
theorem q2620 : (Jvm.Cond.instanceMethod ({ cls := "StaffRailwayModel", name := "save", desc := "()I" } : Jvm.MethodName)) ∈ lw_all := lw_g (lw_at lw_m11 127 rfl) rfl
theorem q2621 : (Jvm.Cond.selects "StaffRailwayModel" ({ cls := "StaffRailwayModel", name := "save", desc := "()I" } : Jvm.MethodName) ({ cls := "StaffRailwayModel", name := "save", desc := "()I" } : Jvm.MethodName)) ∈ lw_all := lw_g (lw_at lw_m11 128 rfl) rfl
theorem q2622 : (Jvm.Cond.code ({ cls := "StaffRailwayModel", name := "save", desc := "()I" } : Jvm.MethodName) prog_20_method_96_code (1 : Nat) (Option.some Jvm.ClassFile.FieldType.int)) ∈ lw_all := lw_g (lw_at lw_m11 129 rfl) rfl
theorem q2624 : (Jvm.Cond.instanceMethod ({ cls := "StaffRailwayModel", name := "restore", desc := "()I" } : Jvm.MethodName)) ∈ lw_all := lw_g (lw_at lw_m11 131 rfl) rfl
theorem q2625 : (Jvm.Cond.selects "StaffRailwayModel" ({ cls := "StaffRailwayModel", name := "restore", desc := "()I" } : Jvm.MethodName) ({ cls := "StaffRailwayModel", name := "restore", desc := "()I" } : Jvm.MethodName)) ∈ lw_all := lw_g (lw_at lw_m11 132 rfl) rfl
theorem q2626 : (Jvm.Cond.code ({ cls := "StaffRailwayModel", name := "restore", desc := "()I" } : Jvm.MethodName) prog_20_method_97_code (1 : Nat) (Option.some Jvm.ClassFile.FieldType.int)) ∈ lw_all := lw_g (lw_at lw_m11 133 rfl) rfl
theorem q2656 : (Jvm.Cond.castable "StaffRailwayModel" "java/lang/Object") ∈ lw_tbl := lw_at lw_m11 163 rfl
theorem in_X5 : ∀ w ∈ wsX50, w ∈ lw_all := lw_in wsX50 [2207, 2209, 2211, 2213, 2215, 2217, 2219, 2221, 2223, 2225, 2227, 2229, 2231, 2233, 2235, 2237, 2239, 2241, 2243, 2245, 2247, 2249, 2251] (by decide +kernel) (by decide +kernel)
