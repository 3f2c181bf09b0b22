/-! PetitionDesk$Reader -/
set_option maxRecDepth 100000
def RX5 : String := "PetitionDesk$Reader"
def TX5 : u_T := fun k => match k with
  | 0 => ("PetitionDesk$Reader", "size", "I", true)
  | 1 => ("PetitionDesk$Reader", "to", "LPetitionDesk$Petition;", true)
  | 2 => ("PetitionDesk$Reader", "next", "I", false)
  | 3 => ("PetitionDesk$Reader", "from", "I", false)
  | 4 => ("PetitionDesk$Reader", "open", "I", false)
  | _ => ("PetitionDesk$Reader", "this$0", "LPetitionDesk;", true)
def tyX5 : Nat → FieldType := fun k => match k with
  | 0 => .int
  | 1 => .object "PetitionDesk$Petition"
  | 2 => .int
  | 3 => .int
  | 4 => .int
  | _ => .object "PetitionDesk"
abbrev wsX50 : List Cond := u_ws RX5 TX5 6
theorem nmX5 : ∀ a, a < 6 → ∀ b, b < 6 → a ≠ b → (TX5 a).2.1 ≠ (TX5 b).2.1 := by decide +kernel
theorem tyX5_ok : ∀ k, k < 6 → parseFieldDescriptor (TX5 k).2.2.1 = some (tyX5 k) := by decide +kernel
abbrev cX5_init : ByteArray := prog_5_method_1_code
def yX5_init : MethodName := ⟨RX5, "<init>", "(LPetitionDesk;I)V"⟩
def dkwX5_init_1 : List UInt8 := [181, 0, 22, 177]
abbrev dktX5_init_1 : List UInt8 := dkwX5_init_1 ++ []
def dkwX5_init_0 : List UInt8 := [42, 43, 181, 0, 3, 42, 183, 0, 9, 42, 187, 0, 15, 89, 183, 0, 17, 181, 0, 18, 42, 28]
abbrev dktX5_init_0 : List UInt8 := dkwX5_init_0 ++ dktX5_init_1
theorem dksX5_init_0 : cX5_init.data.toList.drop 0 = dktX5_init_0 := by decide +kernel
theorem dksX5_init_1 : cX5_init.data.toList.drop 22 = dktX5_init_1 := dk_seg dksX5_init_0 22 rfl rfl
theorem dX5_init_0 : decode cX5_init 0 = .ok (.aload_n 0, 1) := dk_42 (dk_at dksX5_init_0 0 rfl rfl)
theorem dX5_init_1 : decode cX5_init 1 = .ok (.aload_n 1, 1) := dk_43 (dk_at dksX5_init_0 1 rfl rfl)
theorem dX5_init_2 : decode cX5_init 2 = .ok (.putfield 3, 3) := dk_181 0 3 (dk_at dksX5_init_0 2 rfl rfl)
theorem dX5_init_5 : decode cX5_init 5 = .ok (.aload_n 0, 1) := dk_42 (dk_at dksX5_init_0 5 rfl rfl)
theorem dX5_init_6 : decode cX5_init 6 = .ok (.invokespecial 9, 3) := dk_183 0 9 (dk_at dksX5_init_0 6 rfl rfl)
theorem dX5_init_9 : decode cX5_init 9 = .ok (.aload_n 0, 1) := dk_42 (dk_at dksX5_init_0 9 rfl rfl)
theorem dX5_init_10 : decode cX5_init 10 = .ok (.new 15, 3) := dk_187 0 15 (dk_at dksX5_init_0 10 rfl rfl)
theorem dX5_init_13 : decode cX5_init 13 = .ok (.dup, 1) := dk_89 (dk_at dksX5_init_0 13 rfl rfl)
theorem dX5_init_14 : decode cX5_init 14 = .ok (.invokespecial 17, 3) := dk_183 0 17 (dk_at dksX5_init_0 14 rfl rfl)
theorem dX5_init_17 : decode cX5_init 17 = .ok (.putfield 18, 3) := dk_181 0 18 (dk_at dksX5_init_0 17 rfl rfl)
theorem dX5_init_20 : decode cX5_init 20 = .ok (.aload_n 0, 1) := dk_42 (dk_at dksX5_init_0 20 rfl rfl)
theorem dX5_init_21 : decode cX5_init 21 = .ok (.iload_n 2, 1) := dk_28 (dk_at dksX5_init_0 21 rfl rfl)
theorem dX5_init_22 : decode cX5_init 22 = .ok (.putfield 22, 3) := dk_181 0 22 (dk_at dksX5_init_1 0 rfl rfl)
theorem dX5_init_25 : decode cX5_init 25 = .ok (.return_, 1) := dk_177 (dk_at dksX5_init_1 3 rfl rfl)
abbrev cX5_all : ByteArray := prog_5_method_20_code
def yX5_all : MethodName := ⟨RX5, "all", "()LPetitionDesk$Petition;"⟩
def dkwX5_all_6 : List UInt8 := [87, 132, 3, 1, 167, 255, 175, 167, 255, 151, 42, 180, 0, 18, 182, 1, 21, 176]
abbrev dktX5_all_6 : List UInt8 := dkwX5_all_6 ++ []
def dkwX5_all_5 : List UInt8 := [180, 0, 18, 25, 4, 180, 1, 10, 25, 4, 180, 1, 13, 182, 0, 165, 183, 0, 189, 185, 1, 17, 3, 0]
abbrev dktX5_all_5 : List UInt8 := dkwX5_all_5 ++ dktX5_all_6
def dkwX5_all_4 : List UInt8 := [180, 0, 185, 29, 187, 0, 187, 89, 25, 4, 180, 1, 10, 25, 4, 180, 1, 13, 25, 4, 180, 1, 15, 42]
abbrev dktX5_all_4 : List UInt8 := dkwX5_all_4 ++ dktX5_all_5
def dkwX5_all_3 : List UInt8 := [185, 0, 120, 1, 0, 162, 0, 74, 44, 180, 0, 185, 29, 185, 0, 181, 2, 0, 192, 0, 187, 58, 4, 44]
abbrev dktX5_all_3 : List UInt8 := dkwX5_all_3 ++ dktX5_all_4
def dkwX5_all_2 : List UInt8 := [153, 0, 102, 43, 185, 1, 7, 1, 0, 192, 0, 124, 77, 3, 62, 29, 44, 180, 0, 185]
abbrev dktX5_all_2 : List UInt8 := dkwX5_all_2 ++ dktX5_all_3
def dkwX5_all_1 : List UInt8 := [167, 255, 234, 42, 180, 0, 18, 180, 0, 116, 185, 0, 254, 1, 0, 76, 43, 185, 1, 2, 1, 0]
abbrev dktX5_all_1 : List UInt8 := dkwX5_all_1 ++ dktX5_all_2
def dkwX5_all_0 : List UInt8 := [42, 182, 0, 33, 154, 0, 14, 42, 180, 0, 26, 42, 180, 0, 22, 162, 0, 10, 42, 182, 0, 252]
abbrev dktX5_all_0 : List UInt8 := dkwX5_all_0 ++ dktX5_all_1
theorem dksX5_all_0 : cX5_all.data.toList.drop 0 = dktX5_all_0 := by decide +kernel
theorem dksX5_all_1 : cX5_all.data.toList.drop 22 = dktX5_all_1 := dk_seg dksX5_all_0 22 rfl rfl
theorem dksX5_all_2 : cX5_all.data.toList.drop 44 = dktX5_all_2 := dk_seg dksX5_all_1 22 rfl rfl
theorem dksX5_all_3 : cX5_all.data.toList.drop 64 = dktX5_all_3 := dk_seg dksX5_all_2 20 rfl rfl
theorem dksX5_all_4 : cX5_all.data.toList.drop 88 = dktX5_all_4 := dk_seg dksX5_all_3 24 rfl rfl
theorem dksX5_all_5 : cX5_all.data.toList.drop 112 = dktX5_all_5 := dk_seg dksX5_all_4 24 rfl rfl
theorem dksX5_all_6 : cX5_all.data.toList.drop 136 = dktX5_all_6 := dk_seg dksX5_all_5 24 rfl rfl
theorem dX5_all_0 : decode cX5_all 0 = .ok (.aload_n 0, 1) := dk_42 (dk_at dksX5_all_0 0 rfl rfl)
theorem dX5_all_1 : decode cX5_all 1 = .ok (.invokevirtual 33, 3) := dk_182 0 33 (dk_at dksX5_all_0 1 rfl rfl)
theorem dX5_all_4 : decode cX5_all 4 = .ok (.ifCond .ne 14, 3) := dk_154 0 14 (dk_at dksX5_all_0 4 rfl rfl)
theorem dX5_all_7 : decode cX5_all 7 = .ok (.aload_n 0, 1) := dk_42 (dk_at dksX5_all_0 7 rfl rfl)
theorem dX5_all_8 : decode cX5_all 8 = .ok (.getfield 26, 3) := dk_180 0 26 (dk_at dksX5_all_0 8 rfl rfl)
theorem dX5_all_11 : decode cX5_all 11 = .ok (.aload_n 0, 1) := dk_42 (dk_at dksX5_all_0 11 rfl rfl)
theorem dX5_all_12 : decode cX5_all 12 = .ok (.getfield 22, 3) := dk_180 0 22 (dk_at dksX5_all_0 12 rfl rfl)
theorem dX5_all_15 : decode cX5_all 15 = .ok (.if_icmp .ge 10, 3) := dk_162 0 10 (dk_at dksX5_all_0 15 rfl rfl)
theorem dX5_all_18 : decode cX5_all 18 = .ok (.aload_n 0, 1) := dk_42 (dk_at dksX5_all_0 18 rfl rfl)
theorem dX5_all_19 : decode cX5_all 19 = .ok (.invokevirtual 252, 3) := dk_182 0 252 (dk_at dksX5_all_0 19 rfl rfl)
theorem dX5_all_22 : decode cX5_all 22 = .ok (.goto (-22), 3) := dk_167 255 234 (dk_at dksX5_all_1 0 rfl rfl)
theorem dX5_all_25 : decode cX5_all 25 = .ok (.aload_n 0, 1) := dk_42 (dk_at dksX5_all_1 3 rfl rfl)
theorem dX5_all_26 : decode cX5_all 26 = .ok (.getfield 18, 3) := dk_180 0 18 (dk_at dksX5_all_1 4 rfl rfl)
theorem dX5_all_29 : decode cX5_all 29 = .ok (.getfield 116, 3) := dk_180 0 116 (dk_at dksX5_all_1 7 rfl rfl)
theorem dX5_all_32 : decode cX5_all 32 = .ok (.invokeinterface 254 1, 5) := by decide +kernel
theorem dX5_all_37 : decode cX5_all 37 = .ok (.astore_n 1, 1) := dk_76 (dk_at dksX5_all_1 15 rfl rfl)
theorem dX5_all_38 : decode cX5_all 38 = .ok (.aload_n 1, 1) := dk_43 (dk_at dksX5_all_1 16 rfl rfl)
theorem dX5_all_39 : decode cX5_all 39 = .ok (.invokeinterface 258 1, 5) := by decide +kernel
theorem dX5_all_44 : decode cX5_all 44 = .ok (.ifCond .eq 102, 3) := dk_153 0 102 (dk_at dksX5_all_2 0 rfl rfl)
theorem dX5_all_47 : decode cX5_all 47 = .ok (.aload_n 1, 1) := dk_43 (dk_at dksX5_all_2 3 rfl rfl)
theorem dX5_all_48 : decode cX5_all 48 = .ok (.invokeinterface 263 1, 5) := by decide +kernel
theorem dX5_all_53 : decode cX5_all 53 = .ok (.checkcast 124, 3) := dk_192 0 124 (dk_at dksX5_all_2 9 rfl rfl)
theorem dX5_all_56 : decode cX5_all 56 = .ok (.astore_n 2, 1) := dk_77 (dk_at dksX5_all_2 12 rfl rfl)
theorem dX5_all_57 : decode cX5_all 57 = .ok (.iconst 0, 1) := dk_3 (dk_at dksX5_all_2 13 rfl rfl)
theorem dX5_all_58 : decode cX5_all 58 = .ok (.istore_n 3, 1) := dk_62 (dk_at dksX5_all_2 14 rfl rfl)
theorem dX5_all_59 : decode cX5_all 59 = .ok (.iload_n 3, 1) := dk_29 (dk_at dksX5_all_2 15 rfl rfl)
theorem dX5_all_60 : decode cX5_all 60 = .ok (.aload_n 2, 1) := dk_44 (dk_at dksX5_all_2 16 rfl rfl)
theorem dX5_all_61 : decode cX5_all 61 = .ok (.getfield 185, 3) := dk_180 0 185 (dk_at dksX5_all_2 17 rfl rfl)
theorem dX5_all_64 : decode cX5_all 64 = .ok (.invokeinterface 120 1, 5) := by decide +kernel
theorem dX5_all_69 : decode cX5_all 69 = .ok (.if_icmp .ge 74, 3) := dk_162 0 74 (dk_at dksX5_all_3 5 rfl rfl)
theorem dX5_all_72 : decode cX5_all 72 = .ok (.aload_n 2, 1) := dk_44 (dk_at dksX5_all_3 8 rfl rfl)
theorem dX5_all_73 : decode cX5_all 73 = .ok (.getfield 185, 3) := dk_180 0 185 (dk_at dksX5_all_3 9 rfl rfl)
theorem dX5_all_76 : decode cX5_all 76 = .ok (.iload_n 3, 1) := dk_29 (dk_at dksX5_all_3 12 rfl rfl)
theorem dX5_all_77 : decode cX5_all 77 = .ok (.invokeinterface 181 2, 5) := by decide +kernel
theorem dX5_all_82 : decode cX5_all 82 = .ok (.checkcast 187, 3) := dk_192 0 187 (dk_at dksX5_all_3 18 rfl rfl)
theorem dX5_all_85 : decode cX5_all 85 = .ok (.astore 4, 2) := dk_58 4 (dk_at dksX5_all_3 21 rfl rfl)
theorem dX5_all_87 : decode cX5_all 87 = .ok (.aload_n 2, 1) := dk_44 (dk_at dksX5_all_3 23 rfl rfl)
theorem dX5_all_88 : decode cX5_all 88 = .ok (.getfield 185, 3) := dk_180 0 185 (dk_at dksX5_all_4 0 rfl rfl)
theorem dX5_all_91 : decode cX5_all 91 = .ok (.iload_n 3, 1) := dk_29 (dk_at dksX5_all_4 3 rfl rfl)
theorem dX5_all_92 : decode cX5_all 92 = .ok (.new 187, 3) := dk_187 0 187 (dk_at dksX5_all_4 4 rfl rfl)
theorem dX5_all_95 : decode cX5_all 95 = .ok (.dup, 1) := dk_89 (dk_at dksX5_all_4 7 rfl rfl)
theorem dX5_all_96 : decode cX5_all 96 = .ok (.aload 4, 2) := dk_25 4 (dk_at dksX5_all_4 8 rfl rfl)
theorem dX5_all_98 : decode cX5_all 98 = .ok (.getfield 266, 3) := dk_180 1 10 (dk_at dksX5_all_4 10 rfl rfl)
theorem dX5_all_101 : decode cX5_all 101 = .ok (.aload 4, 2) := dk_25 4 (dk_at dksX5_all_4 13 rfl rfl)
theorem dX5_all_103 : decode cX5_all 103 = .ok (.getfield 269, 3) := dk_180 1 13 (dk_at dksX5_all_4 15 rfl rfl)
theorem dX5_all_106 : decode cX5_all 106 = .ok (.aload 4, 2) := dk_25 4 (dk_at dksX5_all_4 18 rfl rfl)
theorem dX5_all_108 : decode cX5_all 108 = .ok (.getfield 271, 3) := dk_180 1 15 (dk_at dksX5_all_4 20 rfl rfl)
theorem dX5_all_111 : decode cX5_all 111 = .ok (.aload_n 0, 1) := dk_42 (dk_at dksX5_all_4 23 rfl rfl)
theorem dX5_all_112 : decode cX5_all 112 = .ok (.getfield 18, 3) := dk_180 0 18 (dk_at dksX5_all_5 0 rfl rfl)
theorem dX5_all_115 : decode cX5_all 115 = .ok (.aload 4, 2) := dk_25 4 (dk_at dksX5_all_5 3 rfl rfl)
theorem dX5_all_117 : decode cX5_all 117 = .ok (.getfield 266, 3) := dk_180 1 10 (dk_at dksX5_all_5 5 rfl rfl)
theorem dX5_all_120 : decode cX5_all 120 = .ok (.aload 4, 2) := dk_25 4 (dk_at dksX5_all_5 8 rfl rfl)
theorem dX5_all_122 : decode cX5_all 122 = .ok (.getfield 269, 3) := dk_180 1 13 (dk_at dksX5_all_5 10 rfl rfl)
theorem dX5_all_125 : decode cX5_all 125 = .ok (.invokevirtual 165, 3) := dk_182 0 165 (dk_at dksX5_all_5 13 rfl rfl)
theorem dX5_all_128 : decode cX5_all 128 = .ok (.invokespecial 189, 3) := dk_183 0 189 (dk_at dksX5_all_5 16 rfl rfl)
theorem dX5_all_131 : decode cX5_all 131 = .ok (.invokeinterface 273 3, 5) := by decide +kernel
theorem dX5_all_136 : decode cX5_all 136 = .ok (.pop, 1) := dk_87 (dk_at dksX5_all_6 0 rfl rfl)
theorem dX5_all_137 : decode cX5_all 137 = .ok (.iinc 3 1, 3) := dk_132 3 1 (dk_at dksX5_all_6 1 rfl rfl)
theorem dX5_all_140 : decode cX5_all 140 = .ok (.goto (-81), 3) := dk_167 255 175 (dk_at dksX5_all_6 4 rfl rfl)
theorem dX5_all_143 : decode cX5_all 143 = .ok (.goto (-105), 3) := dk_167 255 151 (dk_at dksX5_all_6 7 rfl rfl)
theorem dX5_all_146 : decode cX5_all 146 = .ok (.aload_n 0, 1) := dk_42 (dk_at dksX5_all_6 10 rfl rfl)
theorem dX5_all_147 : decode cX5_all 147 = .ok (.getfield 18, 3) := dk_180 0 18 (dk_at dksX5_all_6 11 rfl rfl)
theorem dX5_all_150 : decode cX5_all 150 = .ok (.invokevirtual 277, 3) := dk_182 1 21 (dk_at dksX5_all_6 14 rfl rfl)
theorem dX5_all_153 : decode cX5_all 153 = .ok (.areturn, 1) := dk_176 (dk_at dksX5_all_6 17 rfl rfl)
abbrev cX5_sign : ByteArray := prog_5_method_2_code
def yX5_sign : MethodName := ⟨RX5, "sign", "()I"⟩
def dkwX5_sign_2 : List UInt8 := [180, 0, 22, 162, 0, 18, 42, 180, 0, 3, 180, 0, 29, 42, 180, 0, 26, 51, 167, 0, 4, 3, 172]
abbrev dktX5_sign_2 : List UInt8 := dkwX5_sign_2 ++ []
def dkwX5_sign_1 : List UInt8 := [16, 32, 160, 0, 16, 42, 89, 180, 0, 26, 4, 96, 181, 0, 26, 167, 255, 218, 42, 180, 0, 26, 42]
abbrev dktX5_sign_1 : List UInt8 := dkwX5_sign_1 ++ dktX5_sign_2
def dkwX5_sign_0 : List UInt8 := [42, 180, 0, 26, 42, 180, 0, 22, 162, 0, 33, 42, 180, 0, 3, 180, 0, 29, 42, 180, 0, 26, 51]
abbrev dktX5_sign_0 : List UInt8 := dkwX5_sign_0 ++ dktX5_sign_1
theorem dksX5_sign_0 : cX5_sign.data.toList.drop 0 = dktX5_sign_0 := by decide +kernel
theorem dksX5_sign_1 : cX5_sign.data.toList.drop 23 = dktX5_sign_1 := dk_seg dksX5_sign_0 23 rfl rfl
theorem dksX5_sign_2 : cX5_sign.data.toList.drop 46 = dktX5_sign_2 := dk_seg dksX5_sign_1 23 rfl rfl
theorem dX5_sign_0 : decode cX5_sign 0 = .ok (.aload_n 0, 1) := dk_42 (dk_at dksX5_sign_0 0 rfl rfl)
theorem dX5_sign_1 : decode cX5_sign 1 = .ok (.getfield 26, 3) := dk_180 0 26 (dk_at dksX5_sign_0 1 rfl rfl)
theorem dX5_sign_4 : decode cX5_sign 4 = .ok (.aload_n 0, 1) := dk_42 (dk_at dksX5_sign_0 4 rfl rfl)
theorem dX5_sign_5 : decode cX5_sign 5 = .ok (.getfield 22, 3) := dk_180 0 22 (dk_at dksX5_sign_0 5 rfl rfl)
theorem dX5_sign_8 : decode cX5_sign 8 = .ok (.if_icmp .ge 33, 3) := dk_162 0 33 (dk_at dksX5_sign_0 8 rfl rfl)
theorem dX5_sign_11 : decode cX5_sign 11 = .ok (.aload_n 0, 1) := dk_42 (dk_at dksX5_sign_0 11 rfl rfl)
theorem dX5_sign_12 : decode cX5_sign 12 = .ok (.getfield 3, 3) := dk_180 0 3 (dk_at dksX5_sign_0 12 rfl rfl)
theorem dX5_sign_15 : decode cX5_sign 15 = .ok (.getfield 29, 3) := dk_180 0 29 (dk_at dksX5_sign_0 15 rfl rfl)
theorem dX5_sign_18 : decode cX5_sign 18 = .ok (.aload_n 0, 1) := dk_42 (dk_at dksX5_sign_0 18 rfl rfl)
theorem dX5_sign_19 : decode cX5_sign 19 = .ok (.getfield 26, 3) := dk_180 0 26 (dk_at dksX5_sign_0 19 rfl rfl)
theorem dX5_sign_22 : decode cX5_sign 22 = .ok (.baload, 1) := dk_51 (dk_at dksX5_sign_0 22 rfl rfl)
theorem dX5_sign_23 : decode cX5_sign 23 = .ok (.bipush 32, 2) := dk_16 32 (dk_at dksX5_sign_1 0 rfl rfl)
theorem dX5_sign_25 : decode cX5_sign 25 = .ok (.if_icmp .ne 16, 3) := dk_160 0 16 (dk_at dksX5_sign_1 2 rfl rfl)
theorem dX5_sign_28 : decode cX5_sign 28 = .ok (.aload_n 0, 1) := dk_42 (dk_at dksX5_sign_1 5 rfl rfl)
theorem dX5_sign_29 : decode cX5_sign 29 = .ok (.dup, 1) := dk_89 (dk_at dksX5_sign_1 6 rfl rfl)
theorem dX5_sign_30 : decode cX5_sign 30 = .ok (.getfield 26, 3) := dk_180 0 26 (dk_at dksX5_sign_1 7 rfl rfl)
theorem dX5_sign_33 : decode cX5_sign 33 = .ok (.iconst 1, 1) := dk_4 (dk_at dksX5_sign_1 10 rfl rfl)
theorem dX5_sign_34 : decode cX5_sign 34 = .ok (.iadd, 1) := dk_96 (dk_at dksX5_sign_1 11 rfl rfl)
theorem dX5_sign_35 : decode cX5_sign 35 = .ok (.putfield 26, 3) := dk_181 0 26 (dk_at dksX5_sign_1 12 rfl rfl)
theorem dX5_sign_38 : decode cX5_sign 38 = .ok (.goto (-38), 3) := dk_167 255 218 (dk_at dksX5_sign_1 15 rfl rfl)
theorem dX5_sign_41 : decode cX5_sign 41 = .ok (.aload_n 0, 1) := dk_42 (dk_at dksX5_sign_1 18 rfl rfl)
theorem dX5_sign_42 : decode cX5_sign 42 = .ok (.getfield 26, 3) := dk_180 0 26 (dk_at dksX5_sign_1 19 rfl rfl)
theorem dX5_sign_45 : decode cX5_sign 45 = .ok (.aload_n 0, 1) := dk_42 (dk_at dksX5_sign_1 22 rfl rfl)
theorem dX5_sign_46 : decode cX5_sign 46 = .ok (.getfield 22, 3) := dk_180 0 22 (dk_at dksX5_sign_2 0 rfl rfl)
theorem dX5_sign_49 : decode cX5_sign 49 = .ok (.if_icmp .ge 18, 3) := dk_162 0 18 (dk_at dksX5_sign_2 3 rfl rfl)
theorem dX5_sign_52 : decode cX5_sign 52 = .ok (.aload_n 0, 1) := dk_42 (dk_at dksX5_sign_2 6 rfl rfl)
theorem dX5_sign_53 : decode cX5_sign 53 = .ok (.getfield 3, 3) := dk_180 0 3 (dk_at dksX5_sign_2 7 rfl rfl)
theorem dX5_sign_56 : decode cX5_sign 56 = .ok (.getfield 29, 3) := dk_180 0 29 (dk_at dksX5_sign_2 10 rfl rfl)
theorem dX5_sign_59 : decode cX5_sign 59 = .ok (.aload_n 0, 1) := dk_42 (dk_at dksX5_sign_2 13 rfl rfl)
theorem dX5_sign_60 : decode cX5_sign 60 = .ok (.getfield 26, 3) := dk_180 0 26 (dk_at dksX5_sign_2 14 rfl rfl)
theorem dX5_sign_63 : decode cX5_sign 63 = .ok (.baload, 1) := dk_51 (dk_at dksX5_sign_2 17 rfl rfl)
theorem dX5_sign_64 : decode cX5_sign 64 = .ok (.goto 4, 3) := dk_167 0 4 (dk_at dksX5_sign_2 18 rfl rfl)
theorem dX5_sign_67 : decode cX5_sign 67 = .ok (.iconst 0, 1) := dk_3 (dk_at dksX5_sign_2 21 rfl rfl)
theorem dX5_sign_68 : decode cX5_sign 68 = .ok (.ireturn, 1) := dk_172 (dk_at dksX5_sign_2 22 rfl rfl)
abbrev cX5_line : ByteArray := prog_5_method_12_code
def yX5_line : MethodName := ⟨RX5, "line", "()V"⟩
def dkwX5_line_20 : List UInt8 := [42, 16, 59, 182, 0, 156, 42, 180, 0, 26, 182, 0, 72, 177]
abbrev dktX5_line_20 : List UInt8 := dkwX5_line_20 ++ []
def dkwX5_line_19 : List UInt8 := [180, 0, 18, 42, 182, 0, 152, 181, 0, 149, 167, 0, 13, 187, 0, 64, 89, 4, 28, 183, 0, 66, 191, 42]
abbrev dktX5_line_19 : List UInt8 := dkwX5_line_19 ++ dktX5_line_20
def dkwX5_line_18 : List UInt8 := [167, 0, 47, 42, 42, 180, 0, 18, 180, 0, 149, 199, 0, 7, 4, 167, 0, 4, 3, 28, 182, 0, 72, 42]
abbrev dktX5_line_18 : List UInt8 := dkwX5_line_18 ++ dktX5_line_19
def dkwX5_line_17 : List UInt8 := [42, 180, 0, 18, 42, 42, 180, 0, 18, 180, 0, 147, 28, 4, 17, 1, 243, 182, 0, 135, 181, 0, 147]
abbrev dktX5_line_17 : List UInt8 := dkwX5_line_17 ++ dktX5_line_18
def dkwX5_line_16 : List UInt8 := [180, 0, 18, 42, 42, 180, 0, 18, 180, 0, 145, 28, 3, 16, 100, 182, 0, 135, 181, 0, 145, 167, 0, 73]
abbrev dktX5_line_16 : List UInt8 := dkwX5_line_16 ++ dktX5_line_17
def dkwX5_line_15 : List UInt8 := [180, 0, 18, 42, 42, 180, 0, 18, 180, 0, 139, 17, 3, 231, 182, 0, 92, 181, 0, 142, 167, 0, 98, 42]
abbrev dktX5_line_15 : List UInt8 := dkwX5_line_15 ++ dktX5_line_16
def dkwX5_line_14 : List UInt8 := [180, 0, 18, 42, 42, 180, 0, 18, 180, 0, 139, 28, 3, 17, 3, 231, 182, 0, 135, 181, 0, 139, 42]
abbrev dktX5_line_14 : List UInt8 := dkwX5_line_14 ++ dktX5_line_15
def dkwX5_line_13 : List UInt8 := [42, 42, 180, 0, 18, 180, 0, 133, 28, 3, 16, 40, 182, 0, 135, 181, 0, 133, 167, 0, 145, 42]
abbrev dktX5_line_13 : List UInt8 := dkwX5_line_13 ++ dktX5_line_14
def dkwX5_line_12 : List UInt8 := [183, 0, 126, 185, 0, 127, 2, 0, 87, 167, 0, 178, 42, 28, 182, 0, 130, 167, 0, 170, 42, 180, 0, 18]
abbrev dktX5_line_12 : List UInt8 := dkwX5_line_12 ++ dktX5_line_13
def dkwX5_line_11 : List UInt8 := [160, 0, 13, 187, 0, 64, 89, 7, 28, 183, 0, 66, 191, 42, 180, 0, 18, 180, 0, 116, 187, 0, 124, 89]
abbrev dktX5_line_11 : List UInt8 := dkwX5_line_11 ++ dktX5_line_12
def dkwX5_line_10 : List UInt8 := [42, 28, 182, 0, 113, 167, 0, 228, 42, 180, 0, 18, 180, 0, 116, 185, 0, 120, 1, 0, 16, 8]
abbrev dktX5_line_10 : List UInt8 := dkwX5_line_10 ++ dktX5_line_11
def dkwX5_line_9 : List UInt8 := [170, 0, 0, 0, 0, 1, 14, 0, 0, 0, 0, 0, 0, 0, 7, 0, 0, 0, 47, 0, 0, 0, 55, 0, 0, 0, 105, 0, 0, 0, 113, 0, 0, 0, 138, 0, 0, 0, 185, 0, 0, 0, 210, 0, 0, 0, 236]
abbrev dktX5_line_9 : List UInt8 := dkwX5_line_9 ++ dktX5_line_10
def dkwX5_line_8 : List UInt8 := [21, 4]
abbrev dktX5_line_8 : List UInt8 := dkwX5_line_8 ++ dktX5_line_9
def dkwX5_line_7 : List UInt8 := [153, 0, 23, 16, 6, 54, 4, 167, 0, 16, 45, 18, 111, 182, 0, 55, 153, 0, 7, 16, 7, 54, 4]
abbrev dktX5_line_7 : List UInt8 := dkwX5_line_7 ++ dktX5_line_8
def dkwX5_line_6 : List UInt8 := [167, 0, 47, 45, 18, 107, 182, 0, 55, 153, 0, 38, 8, 54, 4, 167, 0, 32, 45, 18, 109, 182, 0, 55]
abbrev dktX5_line_6 : List UInt8 := dkwX5_line_6 ++ dktX5_line_7
def dkwX5_line_5 : List UInt8 := [182, 0, 55, 153, 0, 68, 6, 54, 4, 167, 0, 62, 45, 18, 105, 182, 0, 55, 153, 0, 53, 7, 54, 4]
abbrev dktX5_line_5 : List UInt8 := dkwX5_line_5 ++ dktX5_line_6
def dkwX5_line_4 : List UInt8 := [4, 54, 4, 167, 0, 92, 45, 18, 102, 182, 0, 55, 153, 0, 83, 5, 54, 4, 167, 0, 77, 45, 18, 103]
abbrev dktX5_line_4 : List UInt8 := dkwX5_line_4 ++ dktX5_line_5
def dkwX5_line_3 : List UInt8 := [45, 18, 98, 182, 0, 55, 153, 0, 113, 3, 54, 4, 167, 0, 107, 45, 18, 100, 182, 0, 55, 153, 0, 98]
abbrev dktX5_line_3 : List UInt8 := dkwX5_line_3 ++ dktX5_line_4
def dkwX5_line_2 : List UInt8 := [171, 0, 0, 0, 0, 0, 0, 195, 0, 0, 0, 8, 202, 155, 164, 191, 0, 0, 0, 151, 0, 48, 128, 189, 0, 0, 0, 182, 0, 51, 136, 150, 0, 0, 0, 121, 0, 53, 221, 189, 0, 0, 0, 106, 0, 53, 247, 74, 0, 0, 0, 136, 5, 137, 177, 94, 0, 0, 0, 166, 6, 133, 93, 95, 0, 0, 0, 91, 6, 179, 10, 200, 0, 0, 0, 76]
abbrev dktX5_line_2 : List UInt8 := dkwX5_line_2 ++ dktX5_line_3
def dkwX5_line_1 : List UInt8 := [78, 2, 54, 4, 45, 182, 0, 95]
abbrev dktX5_line_1 : List UInt8 := dkwX5_line_1 ++ dktX5_line_2
def dkwX5_line_0 : List UInt8 := [42, 182, 0, 52, 76, 42, 180, 0, 26, 61, 42, 89, 180, 0, 26, 43, 182, 0, 61, 96, 181, 0, 26, 43]
abbrev dktX5_line_0 : List UInt8 := dkwX5_line_0 ++ dktX5_line_1
theorem dksX5_line_0 : cX5_line.data.toList.drop 0 = dktX5_line_0 := by decide +kernel
theorem dksX5_line_1 : cX5_line.data.toList.drop 24 = dktX5_line_1 := dk_seg dksX5_line_0 24 rfl rfl
theorem dksX5_line_2 : cX5_line.data.toList.drop 32 = dktX5_line_2 := dk_seg dksX5_line_1 8 rfl rfl
theorem dksX5_line_3 : cX5_line.data.toList.drop 108 = dktX5_line_3 := dk_seg dksX5_line_2 76 rfl rfl
theorem dksX5_line_4 : cX5_line.data.toList.drop 132 = dktX5_line_4 := dk_seg dksX5_line_3 24 rfl rfl
theorem dksX5_line_5 : cX5_line.data.toList.drop 156 = dktX5_line_5 := dk_seg dksX5_line_4 24 rfl rfl
theorem dksX5_line_6 : cX5_line.data.toList.drop 180 = dktX5_line_6 := dk_seg dksX5_line_5 24 rfl rfl
theorem dksX5_line_7 : cX5_line.data.toList.drop 204 = dktX5_line_7 := dk_seg dksX5_line_6 24 rfl rfl
theorem dksX5_line_8 : cX5_line.data.toList.drop 227 = dktX5_line_8 := dk_seg dksX5_line_7 23 rfl rfl
theorem dksX5_line_9 : cX5_line.data.toList.drop 229 = dktX5_line_9 := dk_seg dksX5_line_8 2 rfl rfl
theorem dksX5_line_10 : cX5_line.data.toList.drop 276 = dktX5_line_10 := dk_seg dksX5_line_9 47 rfl rfl
theorem dksX5_line_11 : cX5_line.data.toList.drop 298 = dktX5_line_11 := dk_seg dksX5_line_10 22 rfl rfl
theorem dksX5_line_12 : cX5_line.data.toList.drop 322 = dktX5_line_12 := dk_seg dksX5_line_11 24 rfl rfl
theorem dksX5_line_13 : cX5_line.data.toList.drop 346 = dktX5_line_13 := dk_seg dksX5_line_12 24 rfl rfl
theorem dksX5_line_14 : cX5_line.data.toList.drop 368 = dktX5_line_14 := dk_seg dksX5_line_13 22 rfl rfl
theorem dksX5_line_15 : cX5_line.data.toList.drop 391 = dktX5_line_15 := dk_seg dksX5_line_14 23 rfl rfl
theorem dksX5_line_16 : cX5_line.data.toList.drop 415 = dktX5_line_16 := dk_seg dksX5_line_15 24 rfl rfl
theorem dksX5_line_17 : cX5_line.data.toList.drop 439 = dktX5_line_17 := dk_seg dksX5_line_16 24 rfl rfl
theorem dksX5_line_18 : cX5_line.data.toList.drop 462 = dktX5_line_18 := dk_seg dksX5_line_17 23 rfl rfl
theorem dksX5_line_19 : cX5_line.data.toList.drop 486 = dktX5_line_19 := dk_seg dksX5_line_18 24 rfl rfl
theorem dksX5_line_20 : cX5_line.data.toList.drop 510 = dktX5_line_20 := dk_seg dksX5_line_19 24 rfl rfl
theorem dX5_line_0 : decode cX5_line 0 = .ok (.aload_n 0, 1) := dk_42 (dk_at dksX5_line_0 0 rfl rfl)
theorem dX5_line_1 : decode cX5_line 1 = .ok (.invokevirtual 52, 3) := dk_182 0 52 (dk_at dksX5_line_0 1 rfl rfl)
theorem dX5_line_4 : decode cX5_line 4 = .ok (.astore_n 1, 1) := dk_76 (dk_at dksX5_line_0 4 rfl rfl)
theorem dX5_line_5 : decode cX5_line 5 = .ok (.aload_n 0, 1) := dk_42 (dk_at dksX5_line_0 5 rfl rfl)
theorem dX5_line_6 : decode cX5_line 6 = .ok (.getfield 26, 3) := dk_180 0 26 (dk_at dksX5_line_0 6 rfl rfl)
theorem dX5_line_9 : decode cX5_line 9 = .ok (.istore_n 2, 1) := dk_61 (dk_at dksX5_line_0 9 rfl rfl)
theorem dX5_line_10 : decode cX5_line 10 = .ok (.aload_n 0, 1) := dk_42 (dk_at dksX5_line_0 10 rfl rfl)
theorem dX5_line_11 : decode cX5_line 11 = .ok (.dup, 1) := dk_89 (dk_at dksX5_line_0 11 rfl rfl)
theorem dX5_line_12 : decode cX5_line 12 = .ok (.getfield 26, 3) := dk_180 0 26 (dk_at dksX5_line_0 12 rfl rfl)
theorem dX5_line_15 : decode cX5_line 15 = .ok (.aload_n 1, 1) := dk_43 (dk_at dksX5_line_0 15 rfl rfl)
theorem dX5_line_16 : decode cX5_line 16 = .ok (.invokevirtual 61, 3) := dk_182 0 61 (dk_at dksX5_line_0 16 rfl rfl)
theorem dX5_line_19 : decode cX5_line 19 = .ok (.iadd, 1) := dk_96 (dk_at dksX5_line_0 19 rfl rfl)
theorem dX5_line_20 : decode cX5_line 20 = .ok (.putfield 26, 3) := dk_181 0 26 (dk_at dksX5_line_0 20 rfl rfl)
theorem dX5_line_23 : decode cX5_line 23 = .ok (.aload_n 1, 1) := dk_43 (dk_at dksX5_line_0 23 rfl rfl)
theorem dX5_line_24 : decode cX5_line 24 = .ok (.astore_n 3, 1) := dk_78 (dk_at dksX5_line_1 0 rfl rfl)
theorem dX5_line_25 : decode cX5_line 25 = .ok (.iconst (-1), 1) := dk_2 (dk_at dksX5_line_1 1 rfl rfl)
theorem dX5_line_26 : decode cX5_line 26 = .ok (.istore 4, 2) := dk_54 4 (dk_at dksX5_line_1 2 rfl rfl)
theorem dX5_line_28 : decode cX5_line 28 = .ok (.aload_n 3, 1) := dk_45 (dk_at dksX5_line_1 4 rfl rfl)
theorem dX5_line_29 : decode cX5_line 29 = .ok (.invokevirtual 95, 3) := dk_182 0 95 (dk_at dksX5_line_1 5 rfl rfl)
theorem dX5_line_32 : decode cX5_line 32 = .ok (.lookupswitch 195 #[(-895769409, 151), (3178685, 182), (3377302, 121), (3530173, 106), (3536714, 136), (92909918, 166), (109403487, 91), (112397000, 76)], 76) := by decide +kernel
theorem dX5_line_108 : decode cX5_line 108 = .ok (.aload_n 3, 1) := dk_45 (dk_at dksX5_line_3 0 rfl rfl)
theorem dX5_line_109 : decode cX5_line 109 = .ok (.ldc 98, 2) := dk_18 98 (dk_at dksX5_line_3 1 rfl rfl)
theorem dX5_line_111 : decode cX5_line 111 = .ok (.invokevirtual 55, 3) := dk_182 0 55 (dk_at dksX5_line_3 3 rfl rfl)
theorem dX5_line_114 : decode cX5_line 114 = .ok (.ifCond .eq 113, 3) := dk_153 0 113 (dk_at dksX5_line_3 6 rfl rfl)
theorem dX5_line_117 : decode cX5_line 117 = .ok (.iconst 0, 1) := dk_3 (dk_at dksX5_line_3 9 rfl rfl)
theorem dX5_line_118 : decode cX5_line 118 = .ok (.istore 4, 2) := dk_54 4 (dk_at dksX5_line_3 10 rfl rfl)
theorem dX5_line_120 : decode cX5_line 120 = .ok (.goto 107, 3) := dk_167 0 107 (dk_at dksX5_line_3 12 rfl rfl)
theorem dX5_line_123 : decode cX5_line 123 = .ok (.aload_n 3, 1) := dk_45 (dk_at dksX5_line_3 15 rfl rfl)
theorem dX5_line_124 : decode cX5_line 124 = .ok (.ldc 100, 2) := dk_18 100 (dk_at dksX5_line_3 16 rfl rfl)
theorem dX5_line_126 : decode cX5_line 126 = .ok (.invokevirtual 55, 3) := dk_182 0 55 (dk_at dksX5_line_3 18 rfl rfl)
theorem dX5_line_129 : decode cX5_line 129 = .ok (.ifCond .eq 98, 3) := dk_153 0 98 (dk_at dksX5_line_3 21 rfl rfl)
theorem dX5_line_132 : decode cX5_line 132 = .ok (.iconst 1, 1) := dk_4 (dk_at dksX5_line_4 0 rfl rfl)
theorem dX5_line_133 : decode cX5_line 133 = .ok (.istore 4, 2) := dk_54 4 (dk_at dksX5_line_4 1 rfl rfl)
theorem dX5_line_135 : decode cX5_line 135 = .ok (.goto 92, 3) := dk_167 0 92 (dk_at dksX5_line_4 3 rfl rfl)
theorem dX5_line_138 : decode cX5_line 138 = .ok (.aload_n 3, 1) := dk_45 (dk_at dksX5_line_4 6 rfl rfl)
theorem dX5_line_139 : decode cX5_line 139 = .ok (.ldc 102, 2) := dk_18 102 (dk_at dksX5_line_4 7 rfl rfl)
theorem dX5_line_141 : decode cX5_line 141 = .ok (.invokevirtual 55, 3) := dk_182 0 55 (dk_at dksX5_line_4 9 rfl rfl)
theorem dX5_line_144 : decode cX5_line 144 = .ok (.ifCond .eq 83, 3) := dk_153 0 83 (dk_at dksX5_line_4 12 rfl rfl)
theorem dX5_line_147 : decode cX5_line 147 = .ok (.iconst 2, 1) := dk_5 (dk_at dksX5_line_4 15 rfl rfl)
theorem dX5_line_148 : decode cX5_line 148 = .ok (.istore 4, 2) := dk_54 4 (dk_at dksX5_line_4 16 rfl rfl)
theorem dX5_line_150 : decode cX5_line 150 = .ok (.goto 77, 3) := dk_167 0 77 (dk_at dksX5_line_4 18 rfl rfl)
theorem dX5_line_153 : decode cX5_line 153 = .ok (.aload_n 3, 1) := dk_45 (dk_at dksX5_line_4 21 rfl rfl)
theorem dX5_line_154 : decode cX5_line 154 = .ok (.ldc 103, 2) := dk_18 103 (dk_at dksX5_line_4 22 rfl rfl)
theorem dX5_line_156 : decode cX5_line 156 = .ok (.invokevirtual 55, 3) := dk_182 0 55 (dk_at dksX5_line_5 0 rfl rfl)
theorem dX5_line_159 : decode cX5_line 159 = .ok (.ifCond .eq 68, 3) := dk_153 0 68 (dk_at dksX5_line_5 3 rfl rfl)
theorem dX5_line_162 : decode cX5_line 162 = .ok (.iconst 3, 1) := dk_6 (dk_at dksX5_line_5 6 rfl rfl)
theorem dX5_line_163 : decode cX5_line 163 = .ok (.istore 4, 2) := dk_54 4 (dk_at dksX5_line_5 7 rfl rfl)
theorem dX5_line_165 : decode cX5_line 165 = .ok (.goto 62, 3) := dk_167 0 62 (dk_at dksX5_line_5 9 rfl rfl)
theorem dX5_line_168 : decode cX5_line 168 = .ok (.aload_n 3, 1) := dk_45 (dk_at dksX5_line_5 12 rfl rfl)
theorem dX5_line_169 : decode cX5_line 169 = .ok (.ldc 105, 2) := dk_18 105 (dk_at dksX5_line_5 13 rfl rfl)
theorem dX5_line_171 : decode cX5_line 171 = .ok (.invokevirtual 55, 3) := dk_182 0 55 (dk_at dksX5_line_5 15 rfl rfl)
theorem dX5_line_174 : decode cX5_line 174 = .ok (.ifCond .eq 53, 3) := dk_153 0 53 (dk_at dksX5_line_5 18 rfl rfl)
theorem dX5_line_177 : decode cX5_line 177 = .ok (.iconst 4, 1) := dk_7 (dk_at dksX5_line_5 21 rfl rfl)
theorem dX5_line_178 : decode cX5_line 178 = .ok (.istore 4, 2) := dk_54 4 (dk_at dksX5_line_5 22 rfl rfl)
theorem dX5_line_180 : decode cX5_line 180 = .ok (.goto 47, 3) := dk_167 0 47 (dk_at dksX5_line_6 0 rfl rfl)
theorem dX5_line_183 : decode cX5_line 183 = .ok (.aload_n 3, 1) := dk_45 (dk_at dksX5_line_6 3 rfl rfl)
theorem dX5_line_184 : decode cX5_line 184 = .ok (.ldc 107, 2) := dk_18 107 (dk_at dksX5_line_6 4 rfl rfl)
theorem dX5_line_186 : decode cX5_line 186 = .ok (.invokevirtual 55, 3) := dk_182 0 55 (dk_at dksX5_line_6 6 rfl rfl)
theorem dX5_line_189 : decode cX5_line 189 = .ok (.ifCond .eq 38, 3) := dk_153 0 38 (dk_at dksX5_line_6 9 rfl rfl)
theorem dX5_line_192 : decode cX5_line 192 = .ok (.iconst 5, 1) := dk_8 (dk_at dksX5_line_6 12 rfl rfl)
theorem dX5_line_193 : decode cX5_line 193 = .ok (.istore 4, 2) := dk_54 4 (dk_at dksX5_line_6 13 rfl rfl)
theorem dX5_line_195 : decode cX5_line 195 = .ok (.goto 32, 3) := dk_167 0 32 (dk_at dksX5_line_6 15 rfl rfl)
theorem dX5_line_198 : decode cX5_line 198 = .ok (.aload_n 3, 1) := dk_45 (dk_at dksX5_line_6 18 rfl rfl)
theorem dX5_line_199 : decode cX5_line 199 = .ok (.ldc 109, 2) := dk_18 109 (dk_at dksX5_line_6 19 rfl rfl)
theorem dX5_line_201 : decode cX5_line 201 = .ok (.invokevirtual 55, 3) := dk_182 0 55 (dk_at dksX5_line_6 21 rfl rfl)
theorem dX5_line_204 : decode cX5_line 204 = .ok (.ifCond .eq 23, 3) := dk_153 0 23 (dk_at dksX5_line_7 0 rfl rfl)
theorem dX5_line_207 : decode cX5_line 207 = .ok (.bipush 6, 2) := dk_16 6 (dk_at dksX5_line_7 3 rfl rfl)
theorem dX5_line_209 : decode cX5_line 209 = .ok (.istore 4, 2) := dk_54 4 (dk_at dksX5_line_7 5 rfl rfl)
theorem dX5_line_211 : decode cX5_line 211 = .ok (.goto 16, 3) := dk_167 0 16 (dk_at dksX5_line_7 7 rfl rfl)
theorem dX5_line_214 : decode cX5_line 214 = .ok (.aload_n 3, 1) := dk_45 (dk_at dksX5_line_7 10 rfl rfl)
theorem dX5_line_215 : decode cX5_line 215 = .ok (.ldc 111, 2) := dk_18 111 (dk_at dksX5_line_7 11 rfl rfl)
theorem dX5_line_217 : decode cX5_line 217 = .ok (.invokevirtual 55, 3) := dk_182 0 55 (dk_at dksX5_line_7 13 rfl rfl)
theorem dX5_line_220 : decode cX5_line 220 = .ok (.ifCond .eq 7, 3) := dk_153 0 7 (dk_at dksX5_line_7 16 rfl rfl)
theorem dX5_line_223 : decode cX5_line 223 = .ok (.bipush 7, 2) := dk_16 7 (dk_at dksX5_line_7 19 rfl rfl)
theorem dX5_line_225 : decode cX5_line 225 = .ok (.istore 4, 2) := dk_54 4 (dk_at dksX5_line_7 21 rfl rfl)
theorem dX5_line_227 : decode cX5_line 227 = .ok (.iload 4, 2) := dk_21 4 (dk_at dksX5_line_8 0 rfl rfl)
theorem dX5_line_229 : decode cX5_line 229 = .ok (.tableswitch 270 0 7 #[47, 55, 105, 113, 138, 185, 210, 236], 47) := by decide +kernel
theorem dX5_line_276 : decode cX5_line 276 = .ok (.aload_n 0, 1) := dk_42 (dk_at dksX5_line_10 0 rfl rfl)
theorem dX5_line_277 : decode cX5_line 277 = .ok (.iload_n 2, 1) := dk_28 (dk_at dksX5_line_10 1 rfl rfl)
theorem dX5_line_278 : decode cX5_line 278 = .ok (.invokevirtual 113, 3) := dk_182 0 113 (dk_at dksX5_line_10 2 rfl rfl)
theorem dX5_line_281 : decode cX5_line 281 = .ok (.goto 228, 3) := dk_167 0 228 (dk_at dksX5_line_10 5 rfl rfl)
theorem dX5_line_284 : decode cX5_line 284 = .ok (.aload_n 0, 1) := dk_42 (dk_at dksX5_line_10 8 rfl rfl)
theorem dX5_line_285 : decode cX5_line 285 = .ok (.getfield 18, 3) := dk_180 0 18 (dk_at dksX5_line_10 9 rfl rfl)
theorem dX5_line_288 : decode cX5_line 288 = .ok (.getfield 116, 3) := dk_180 0 116 (dk_at dksX5_line_10 12 rfl rfl)
theorem dX5_line_291 : decode cX5_line 291 = .ok (.invokeinterface 120 1, 5) := by decide +kernel
theorem dX5_line_296 : decode cX5_line 296 = .ok (.bipush 8, 2) := dk_16 8 (dk_at dksX5_line_10 20 rfl rfl)
theorem dX5_line_298 : decode cX5_line 298 = .ok (.if_icmp .ne 13, 3) := dk_160 0 13 (dk_at dksX5_line_11 0 rfl rfl)
theorem dX5_line_301 : decode cX5_line 301 = .ok (.new 64, 3) := dk_187 0 64 (dk_at dksX5_line_11 3 rfl rfl)
theorem dX5_line_304 : decode cX5_line 304 = .ok (.dup, 1) := dk_89 (dk_at dksX5_line_11 6 rfl rfl)
theorem dX5_line_305 : decode cX5_line 305 = .ok (.iconst 4, 1) := dk_7 (dk_at dksX5_line_11 7 rfl rfl)
theorem dX5_line_306 : decode cX5_line 306 = .ok (.iload_n 2, 1) := dk_28 (dk_at dksX5_line_11 8 rfl rfl)
theorem dX5_line_307 : decode cX5_line 307 = .ok (.invokespecial 66, 3) := dk_183 0 66 (dk_at dksX5_line_11 9 rfl rfl)
theorem dX5_line_310 : decode cX5_line 310 = .ok (.athrow, 1) := dk_191 (dk_at dksX5_line_11 12 rfl rfl)
theorem dX5_line_311 : decode cX5_line 311 = .ok (.aload_n 0, 1) := dk_42 (dk_at dksX5_line_11 13 rfl rfl)
theorem dX5_line_312 : decode cX5_line 312 = .ok (.getfield 18, 3) := dk_180 0 18 (dk_at dksX5_line_11 14 rfl rfl)
theorem dX5_line_315 : decode cX5_line 315 = .ok (.getfield 116, 3) := dk_180 0 116 (dk_at dksX5_line_11 17 rfl rfl)
theorem dX5_line_318 : decode cX5_line 318 = .ok (.new 124, 3) := dk_187 0 124 (dk_at dksX5_line_11 20 rfl rfl)
theorem dX5_line_321 : decode cX5_line 321 = .ok (.dup, 1) := dk_89 (dk_at dksX5_line_11 23 rfl rfl)
theorem dX5_line_322 : decode cX5_line 322 = .ok (.invokespecial 126, 3) := dk_183 0 126 (dk_at dksX5_line_12 0 rfl rfl)
theorem dX5_line_325 : decode cX5_line 325 = .ok (.invokeinterface 127 2, 5) := by decide +kernel
theorem dX5_line_330 : decode cX5_line 330 = .ok (.pop, 1) := dk_87 (dk_at dksX5_line_12 8 rfl rfl)
theorem dX5_line_331 : decode cX5_line 331 = .ok (.goto 178, 3) := dk_167 0 178 (dk_at dksX5_line_12 9 rfl rfl)
theorem dX5_line_334 : decode cX5_line 334 = .ok (.aload_n 0, 1) := dk_42 (dk_at dksX5_line_12 12 rfl rfl)
theorem dX5_line_335 : decode cX5_line 335 = .ok (.iload_n 2, 1) := dk_28 (dk_at dksX5_line_12 13 rfl rfl)
theorem dX5_line_336 : decode cX5_line 336 = .ok (.invokevirtual 130, 3) := dk_182 0 130 (dk_at dksX5_line_12 14 rfl rfl)
theorem dX5_line_339 : decode cX5_line 339 = .ok (.goto 170, 3) := dk_167 0 170 (dk_at dksX5_line_12 17 rfl rfl)
theorem dX5_line_342 : decode cX5_line 342 = .ok (.aload_n 0, 1) := dk_42 (dk_at dksX5_line_12 20 rfl rfl)
theorem dX5_line_343 : decode cX5_line 343 = .ok (.getfield 18, 3) := dk_180 0 18 (dk_at dksX5_line_12 21 rfl rfl)
theorem dX5_line_346 : decode cX5_line 346 = .ok (.aload_n 0, 1) := dk_42 (dk_at dksX5_line_13 0 rfl rfl)
theorem dX5_line_347 : decode cX5_line 347 = .ok (.aload_n 0, 1) := dk_42 (dk_at dksX5_line_13 1 rfl rfl)
theorem dX5_line_348 : decode cX5_line 348 = .ok (.getfield 18, 3) := dk_180 0 18 (dk_at dksX5_line_13 2 rfl rfl)
theorem dX5_line_351 : decode cX5_line 351 = .ok (.getfield 133, 3) := dk_180 0 133 (dk_at dksX5_line_13 5 rfl rfl)
theorem dX5_line_354 : decode cX5_line 354 = .ok (.iload_n 2, 1) := dk_28 (dk_at dksX5_line_13 8 rfl rfl)
theorem dX5_line_355 : decode cX5_line 355 = .ok (.iconst 0, 1) := dk_3 (dk_at dksX5_line_13 9 rfl rfl)
theorem dX5_line_356 : decode cX5_line 356 = .ok (.bipush 40, 2) := dk_16 40 (dk_at dksX5_line_13 10 rfl rfl)
theorem dX5_line_358 : decode cX5_line 358 = .ok (.invokevirtual 135, 3) := dk_182 0 135 (dk_at dksX5_line_13 12 rfl rfl)
theorem dX5_line_361 : decode cX5_line 361 = .ok (.putfield 133, 3) := dk_181 0 133 (dk_at dksX5_line_13 15 rfl rfl)
theorem dX5_line_364 : decode cX5_line 364 = .ok (.goto 145, 3) := dk_167 0 145 (dk_at dksX5_line_13 18 rfl rfl)
theorem dX5_line_367 : decode cX5_line 367 = .ok (.aload_n 0, 1) := dk_42 (dk_at dksX5_line_13 21 rfl rfl)
theorem dX5_line_368 : decode cX5_line 368 = .ok (.getfield 18, 3) := dk_180 0 18 (dk_at dksX5_line_14 0 rfl rfl)
theorem dX5_line_371 : decode cX5_line 371 = .ok (.aload_n 0, 1) := dk_42 (dk_at dksX5_line_14 3 rfl rfl)
theorem dX5_line_372 : decode cX5_line 372 = .ok (.aload_n 0, 1) := dk_42 (dk_at dksX5_line_14 4 rfl rfl)
theorem dX5_line_373 : decode cX5_line 373 = .ok (.getfield 18, 3) := dk_180 0 18 (dk_at dksX5_line_14 5 rfl rfl)
theorem dX5_line_376 : decode cX5_line 376 = .ok (.getfield 139, 3) := dk_180 0 139 (dk_at dksX5_line_14 8 rfl rfl)
theorem dX5_line_379 : decode cX5_line 379 = .ok (.iload_n 2, 1) := dk_28 (dk_at dksX5_line_14 11 rfl rfl)
theorem dX5_line_380 : decode cX5_line 380 = .ok (.iconst 0, 1) := dk_3 (dk_at dksX5_line_14 12 rfl rfl)
theorem dX5_line_381 : decode cX5_line 381 = .ok (.sipush 999, 3) := dk_17 3 231 (dk_at dksX5_line_14 13 rfl rfl)
theorem dX5_line_384 : decode cX5_line 384 = .ok (.invokevirtual 135, 3) := dk_182 0 135 (dk_at dksX5_line_14 16 rfl rfl)
theorem dX5_line_387 : decode cX5_line 387 = .ok (.putfield 139, 3) := dk_181 0 139 (dk_at dksX5_line_14 19 rfl rfl)
theorem dX5_line_390 : decode cX5_line 390 = .ok (.aload_n 0, 1) := dk_42 (dk_at dksX5_line_14 22 rfl rfl)
theorem dX5_line_391 : decode cX5_line 391 = .ok (.getfield 18, 3) := dk_180 0 18 (dk_at dksX5_line_15 0 rfl rfl)
theorem dX5_line_394 : decode cX5_line 394 = .ok (.aload_n 0, 1) := dk_42 (dk_at dksX5_line_15 3 rfl rfl)
theorem dX5_line_395 : decode cX5_line 395 = .ok (.aload_n 0, 1) := dk_42 (dk_at dksX5_line_15 4 rfl rfl)
theorem dX5_line_396 : decode cX5_line 396 = .ok (.getfield 18, 3) := dk_180 0 18 (dk_at dksX5_line_15 5 rfl rfl)
theorem dX5_line_399 : decode cX5_line 399 = .ok (.getfield 139, 3) := dk_180 0 139 (dk_at dksX5_line_15 8 rfl rfl)
theorem dX5_line_402 : decode cX5_line 402 = .ok (.sipush 999, 3) := dk_17 3 231 (dk_at dksX5_line_15 11 rfl rfl)
theorem dX5_line_405 : decode cX5_line 405 = .ok (.invokevirtual 92, 3) := dk_182 0 92 (dk_at dksX5_line_15 14 rfl rfl)
theorem dX5_line_408 : decode cX5_line 408 = .ok (.putfield 142, 3) := dk_181 0 142 (dk_at dksX5_line_15 17 rfl rfl)
theorem dX5_line_411 : decode cX5_line 411 = .ok (.goto 98, 3) := dk_167 0 98 (dk_at dksX5_line_15 20 rfl rfl)
theorem dX5_line_414 : decode cX5_line 414 = .ok (.aload_n 0, 1) := dk_42 (dk_at dksX5_line_15 23 rfl rfl)
theorem dX5_line_415 : decode cX5_line 415 = .ok (.getfield 18, 3) := dk_180 0 18 (dk_at dksX5_line_16 0 rfl rfl)
theorem dX5_line_418 : decode cX5_line 418 = .ok (.aload_n 0, 1) := dk_42 (dk_at dksX5_line_16 3 rfl rfl)
theorem dX5_line_419 : decode cX5_line 419 = .ok (.aload_n 0, 1) := dk_42 (dk_at dksX5_line_16 4 rfl rfl)
theorem dX5_line_420 : decode cX5_line 420 = .ok (.getfield 18, 3) := dk_180 0 18 (dk_at dksX5_line_16 5 rfl rfl)
theorem dX5_line_423 : decode cX5_line 423 = .ok (.getfield 145, 3) := dk_180 0 145 (dk_at dksX5_line_16 8 rfl rfl)
theorem dX5_line_426 : decode cX5_line 426 = .ok (.iload_n 2, 1) := dk_28 (dk_at dksX5_line_16 11 rfl rfl)
theorem dX5_line_427 : decode cX5_line 427 = .ok (.iconst 0, 1) := dk_3 (dk_at dksX5_line_16 12 rfl rfl)
theorem dX5_line_428 : decode cX5_line 428 = .ok (.bipush 100, 2) := dk_16 100 (dk_at dksX5_line_16 13 rfl rfl)
theorem dX5_line_430 : decode cX5_line 430 = .ok (.invokevirtual 135, 3) := dk_182 0 135 (dk_at dksX5_line_16 15 rfl rfl)
theorem dX5_line_433 : decode cX5_line 433 = .ok (.putfield 145, 3) := dk_181 0 145 (dk_at dksX5_line_16 18 rfl rfl)
theorem dX5_line_436 : decode cX5_line 436 = .ok (.goto 73, 3) := dk_167 0 73 (dk_at dksX5_line_16 21 rfl rfl)
theorem dX5_line_439 : decode cX5_line 439 = .ok (.aload_n 0, 1) := dk_42 (dk_at dksX5_line_17 0 rfl rfl)
theorem dX5_line_440 : decode cX5_line 440 = .ok (.getfield 18, 3) := dk_180 0 18 (dk_at dksX5_line_17 1 rfl rfl)
theorem dX5_line_443 : decode cX5_line 443 = .ok (.aload_n 0, 1) := dk_42 (dk_at dksX5_line_17 4 rfl rfl)
theorem dX5_line_444 : decode cX5_line 444 = .ok (.aload_n 0, 1) := dk_42 (dk_at dksX5_line_17 5 rfl rfl)
theorem dX5_line_445 : decode cX5_line 445 = .ok (.getfield 18, 3) := dk_180 0 18 (dk_at dksX5_line_17 6 rfl rfl)
theorem dX5_line_448 : decode cX5_line 448 = .ok (.getfield 147, 3) := dk_180 0 147 (dk_at dksX5_line_17 9 rfl rfl)
theorem dX5_line_451 : decode cX5_line 451 = .ok (.iload_n 2, 1) := dk_28 (dk_at dksX5_line_17 12 rfl rfl)
theorem dX5_line_452 : decode cX5_line 452 = .ok (.iconst 1, 1) := dk_4 (dk_at dksX5_line_17 13 rfl rfl)
theorem dX5_line_453 : decode cX5_line 453 = .ok (.sipush 499, 3) := dk_17 1 243 (dk_at dksX5_line_17 14 rfl rfl)
theorem dX5_line_456 : decode cX5_line 456 = .ok (.invokevirtual 135, 3) := dk_182 0 135 (dk_at dksX5_line_17 17 rfl rfl)
theorem dX5_line_459 : decode cX5_line 459 = .ok (.putfield 147, 3) := dk_181 0 147 (dk_at dksX5_line_17 20 rfl rfl)
theorem dX5_line_462 : decode cX5_line 462 = .ok (.goto 47, 3) := dk_167 0 47 (dk_at dksX5_line_18 0 rfl rfl)
theorem dX5_line_465 : decode cX5_line 465 = .ok (.aload_n 0, 1) := dk_42 (dk_at dksX5_line_18 3 rfl rfl)
theorem dX5_line_466 : decode cX5_line 466 = .ok (.aload_n 0, 1) := dk_42 (dk_at dksX5_line_18 4 rfl rfl)
theorem dX5_line_467 : decode cX5_line 467 = .ok (.getfield 18, 3) := dk_180 0 18 (dk_at dksX5_line_18 5 rfl rfl)
theorem dX5_line_470 : decode cX5_line 470 = .ok (.getfield 149, 3) := dk_180 0 149 (dk_at dksX5_line_18 8 rfl rfl)
theorem dX5_line_473 : decode cX5_line 473 = .ok (.ifnonnull 7, 3) := dk_199 0 7 (dk_at dksX5_line_18 11 rfl rfl)
theorem dX5_line_476 : decode cX5_line 476 = .ok (.iconst 1, 1) := dk_4 (dk_at dksX5_line_18 14 rfl rfl)
theorem dX5_line_477 : decode cX5_line 477 = .ok (.goto 4, 3) := dk_167 0 4 (dk_at dksX5_line_18 15 rfl rfl)
theorem dX5_line_480 : decode cX5_line 480 = .ok (.iconst 0, 1) := dk_3 (dk_at dksX5_line_18 18 rfl rfl)
theorem dX5_line_481 : decode cX5_line 481 = .ok (.iload_n 2, 1) := dk_28 (dk_at dksX5_line_18 19 rfl rfl)
theorem dX5_line_482 : decode cX5_line 482 = .ok (.invokevirtual 72, 3) := dk_182 0 72 (dk_at dksX5_line_18 20 rfl rfl)
theorem dX5_line_485 : decode cX5_line 485 = .ok (.aload_n 0, 1) := dk_42 (dk_at dksX5_line_18 23 rfl rfl)
theorem dX5_line_486 : decode cX5_line 486 = .ok (.getfield 18, 3) := dk_180 0 18 (dk_at dksX5_line_19 0 rfl rfl)
theorem dX5_line_489 : decode cX5_line 489 = .ok (.aload_n 0, 1) := dk_42 (dk_at dksX5_line_19 3 rfl rfl)
theorem dX5_line_490 : decode cX5_line 490 = .ok (.invokevirtual 152, 3) := dk_182 0 152 (dk_at dksX5_line_19 4 rfl rfl)
theorem dX5_line_493 : decode cX5_line 493 = .ok (.putfield 149, 3) := dk_181 0 149 (dk_at dksX5_line_19 7 rfl rfl)
theorem dX5_line_496 : decode cX5_line 496 = .ok (.goto 13, 3) := dk_167 0 13 (dk_at dksX5_line_19 10 rfl rfl)
theorem dX5_line_499 : decode cX5_line 499 = .ok (.new 64, 3) := dk_187 0 64 (dk_at dksX5_line_19 13 rfl rfl)
theorem dX5_line_502 : decode cX5_line 502 = .ok (.dup, 1) := dk_89 (dk_at dksX5_line_19 16 rfl rfl)
theorem dX5_line_503 : decode cX5_line 503 = .ok (.iconst 1, 1) := dk_4 (dk_at dksX5_line_19 17 rfl rfl)
theorem dX5_line_504 : decode cX5_line 504 = .ok (.iload_n 2, 1) := dk_28 (dk_at dksX5_line_19 18 rfl rfl)
theorem dX5_line_505 : decode cX5_line 505 = .ok (.invokespecial 66, 3) := dk_183 0 66 (dk_at dksX5_line_19 19 rfl rfl)
theorem dX5_line_508 : decode cX5_line 508 = .ok (.athrow, 1) := dk_191 (dk_at dksX5_line_19 22 rfl rfl)
theorem dX5_line_509 : decode cX5_line 509 = .ok (.aload_n 0, 1) := dk_42 (dk_at dksX5_line_19 23 rfl rfl)
theorem dX5_line_510 : decode cX5_line 510 = .ok (.aload_n 0, 1) := dk_42 (dk_at dksX5_line_20 0 rfl rfl)
theorem dX5_line_511 : decode cX5_line 511 = .ok (.bipush 59, 2) := dk_16 59 (dk_at dksX5_line_20 1 rfl rfl)
theorem dX5_line_513 : decode cX5_line 513 = .ok (.invokevirtual 156, 3) := dk_182 0 156 (dk_at dksX5_line_20 3 rfl rfl)
theorem dX5_line_516 : decode cX5_line 516 = .ok (.aload_n 0, 1) := dk_42 (dk_at dksX5_line_20 6 rfl rfl)
theorem dX5_line_517 : decode cX5_line 517 = .ok (.getfield 26, 3) := dk_180 0 26 (dk_at dksX5_line_20 7 rfl rfl)
theorem dX5_line_520 : decode cX5_line 520 = .ok (.invokevirtual 72, 3) := dk_182 0 72 (dk_at dksX5_line_20 10 rfl rfl)
theorem dX5_line_523 : decode cX5_line 523 = .ok (.return_, 1) := dk_177 (dk_at dksX5_line_20 13 rfl rfl)
abbrev cX5_word : ByteArray := prog_5_method_5_code
def yX5_word : MethodName := ⟨RX5, "word", "()Ljava/lang/String;"⟩
def dkwX5_word_2 : List UInt8 := [43, 182, 0, 48, 176]
abbrev dktX5_word_2 : List UInt8 := dkwX5_word_2 ++ []
def dkwX5_word_1 : List UInt8 := [153, 0, 24, 43, 42, 180, 0, 3, 180, 0, 29, 28, 51, 146, 182, 0, 44, 87, 132, 2, 1, 167, 255, 230]
abbrev dktX5_word_1 : List UInt8 := dkwX5_word_1 ++ dktX5_word_2
def dkwX5_word_0 : List UInt8 := [42, 182, 0, 33, 87, 187, 0, 37, 89, 183, 0, 39, 76, 42, 180, 0, 26, 61, 42, 28, 182, 0, 40]
abbrev dktX5_word_0 : List UInt8 := dkwX5_word_0 ++ dktX5_word_1
theorem dksX5_word_0 : cX5_word.data.toList.drop 0 = dktX5_word_0 := by decide +kernel
theorem dksX5_word_1 : cX5_word.data.toList.drop 23 = dktX5_word_1 := dk_seg dksX5_word_0 23 rfl rfl
theorem dksX5_word_2 : cX5_word.data.toList.drop 47 = dktX5_word_2 := dk_seg dksX5_word_1 24 rfl rfl
theorem dX5_word_0 : decode cX5_word 0 = .ok (.aload_n 0, 1) := dk_42 (dk_at dksX5_word_0 0 rfl rfl)
theorem dX5_word_1 : decode cX5_word 1 = .ok (.invokevirtual 33, 3) := dk_182 0 33 (dk_at dksX5_word_0 1 rfl rfl)
theorem dX5_word_4 : decode cX5_word 4 = .ok (.pop, 1) := dk_87 (dk_at dksX5_word_0 4 rfl rfl)
theorem dX5_word_5 : decode cX5_word 5 = .ok (.new 37, 3) := dk_187 0 37 (dk_at dksX5_word_0 5 rfl rfl)
theorem dX5_word_8 : decode cX5_word 8 = .ok (.dup, 1) := dk_89 (dk_at dksX5_word_0 8 rfl rfl)
theorem dX5_word_9 : decode cX5_word 9 = .ok (.invokespecial 39, 3) := dk_183 0 39 (dk_at dksX5_word_0 9 rfl rfl)
theorem dX5_word_12 : decode cX5_word 12 = .ok (.astore_n 1, 1) := dk_76 (dk_at dksX5_word_0 12 rfl rfl)
theorem dX5_word_13 : decode cX5_word 13 = .ok (.aload_n 0, 1) := dk_42 (dk_at dksX5_word_0 13 rfl rfl)
theorem dX5_word_14 : decode cX5_word 14 = .ok (.getfield 26, 3) := dk_180 0 26 (dk_at dksX5_word_0 14 rfl rfl)
theorem dX5_word_17 : decode cX5_word 17 = .ok (.istore_n 2, 1) := dk_61 (dk_at dksX5_word_0 17 rfl rfl)
theorem dX5_word_18 : decode cX5_word 18 = .ok (.aload_n 0, 1) := dk_42 (dk_at dksX5_word_0 18 rfl rfl)
theorem dX5_word_19 : decode cX5_word 19 = .ok (.iload_n 2, 1) := dk_28 (dk_at dksX5_word_0 19 rfl rfl)
theorem dX5_word_20 : decode cX5_word 20 = .ok (.invokevirtual 40, 3) := dk_182 0 40 (dk_at dksX5_word_0 20 rfl rfl)
theorem dX5_word_23 : decode cX5_word 23 = .ok (.ifCond .eq 24, 3) := dk_153 0 24 (dk_at dksX5_word_1 0 rfl rfl)
theorem dX5_word_26 : decode cX5_word 26 = .ok (.aload_n 1, 1) := dk_43 (dk_at dksX5_word_1 3 rfl rfl)
theorem dX5_word_27 : decode cX5_word 27 = .ok (.aload_n 0, 1) := dk_42 (dk_at dksX5_word_1 4 rfl rfl)
theorem dX5_word_28 : decode cX5_word 28 = .ok (.getfield 3, 3) := dk_180 0 3 (dk_at dksX5_word_1 5 rfl rfl)
theorem dX5_word_31 : decode cX5_word 31 = .ok (.getfield 29, 3) := dk_180 0 29 (dk_at dksX5_word_1 8 rfl rfl)
theorem dX5_word_34 : decode cX5_word 34 = .ok (.iload_n 2, 1) := dk_28 (dk_at dksX5_word_1 11 rfl rfl)
theorem dX5_word_35 : decode cX5_word 35 = .ok (.baload, 1) := dk_51 (dk_at dksX5_word_1 12 rfl rfl)
theorem dX5_word_36 : decode cX5_word 36 = .ok (.i2c, 1) := dk_146 (dk_at dksX5_word_1 13 rfl rfl)
theorem dX5_word_37 : decode cX5_word 37 = .ok (.invokevirtual 44, 3) := dk_182 0 44 (dk_at dksX5_word_1 14 rfl rfl)
theorem dX5_word_40 : decode cX5_word 40 = .ok (.pop, 1) := dk_87 (dk_at dksX5_word_1 17 rfl rfl)
theorem dX5_word_41 : decode cX5_word 41 = .ok (.iinc 2 1, 3) := dk_132 2 1 (dk_at dksX5_word_1 18 rfl rfl)
theorem dX5_word_44 : decode cX5_word 44 = .ok (.goto (-26), 3) := dk_167 255 230 (dk_at dksX5_word_1 21 rfl rfl)
theorem dX5_word_47 : decode cX5_word 47 = .ok (.aload_n 1, 1) := dk_43 (dk_at dksX5_word_2 0 rfl rfl)
theorem dX5_word_48 : decode cX5_word 48 = .ok (.invokevirtual 48, 3) := dk_182 0 48 (dk_at dksX5_word_2 1 rfl rfl)
theorem dX5_word_51 : decode cX5_word 51 = .ok (.areturn, 1) := dk_176 (dk_at dksX5_word_2 4 rfl rfl)
abbrev cX5_isSmall : ByteArray := prog_5_method_3_code
def yX5_isSmall : MethodName := ⟨RX5, "isSmall", "(I)Z"⟩
def dkwX5_isSmall_1 : List UInt8 := [180, 0, 3, 180, 0, 29, 27, 51, 16, 122, 163, 0, 7, 4, 167, 0, 4, 3, 172]
abbrev dktX5_isSmall_1 : List UInt8 := dkwX5_isSmall_1 ++ []
def dkwX5_isSmall_0 : List UInt8 := [27, 42, 180, 0, 22, 162, 0, 35, 42, 180, 0, 3, 180, 0, 29, 27, 51, 16, 97, 161, 0, 21, 42]
abbrev dktX5_isSmall_0 : List UInt8 := dkwX5_isSmall_0 ++ dktX5_isSmall_1
theorem dksX5_isSmall_0 : cX5_isSmall.data.toList.drop 0 = dktX5_isSmall_0 := by decide +kernel
theorem dksX5_isSmall_1 : cX5_isSmall.data.toList.drop 23 = dktX5_isSmall_1 := dk_seg dksX5_isSmall_0 23 rfl rfl
theorem dX5_isSmall_0 : decode cX5_isSmall 0 = .ok (.iload_n 1, 1) := dk_27 (dk_at dksX5_isSmall_0 0 rfl rfl)
theorem dX5_isSmall_1 : decode cX5_isSmall 1 = .ok (.aload_n 0, 1) := dk_42 (dk_at dksX5_isSmall_0 1 rfl rfl)
theorem dX5_isSmall_2 : decode cX5_isSmall 2 = .ok (.getfield 22, 3) := dk_180 0 22 (dk_at dksX5_isSmall_0 2 rfl rfl)
theorem dX5_isSmall_5 : decode cX5_isSmall 5 = .ok (.if_icmp .ge 35, 3) := dk_162 0 35 (dk_at dksX5_isSmall_0 5 rfl rfl)
theorem dX5_isSmall_8 : decode cX5_isSmall 8 = .ok (.aload_n 0, 1) := dk_42 (dk_at dksX5_isSmall_0 8 rfl rfl)
theorem dX5_isSmall_9 : decode cX5_isSmall 9 = .ok (.getfield 3, 3) := dk_180 0 3 (dk_at dksX5_isSmall_0 9 rfl rfl)
theorem dX5_isSmall_12 : decode cX5_isSmall 12 = .ok (.getfield 29, 3) := dk_180 0 29 (dk_at dksX5_isSmall_0 12 rfl rfl)
theorem dX5_isSmall_15 : decode cX5_isSmall 15 = .ok (.iload_n 1, 1) := dk_27 (dk_at dksX5_isSmall_0 15 rfl rfl)
theorem dX5_isSmall_16 : decode cX5_isSmall 16 = .ok (.baload, 1) := dk_51 (dk_at dksX5_isSmall_0 16 rfl rfl)
theorem dX5_isSmall_17 : decode cX5_isSmall 17 = .ok (.bipush 97, 2) := dk_16 97 (dk_at dksX5_isSmall_0 17 rfl rfl)
theorem dX5_isSmall_19 : decode cX5_isSmall 19 = .ok (.if_icmp .lt 21, 3) := dk_161 0 21 (dk_at dksX5_isSmall_0 19 rfl rfl)
theorem dX5_isSmall_22 : decode cX5_isSmall 22 = .ok (.aload_n 0, 1) := dk_42 (dk_at dksX5_isSmall_0 22 rfl rfl)
theorem dX5_isSmall_23 : decode cX5_isSmall 23 = .ok (.getfield 3, 3) := dk_180 0 3 (dk_at dksX5_isSmall_1 0 rfl rfl)
theorem dX5_isSmall_26 : decode cX5_isSmall 26 = .ok (.getfield 29, 3) := dk_180 0 29 (dk_at dksX5_isSmall_1 3 rfl rfl)
theorem dX5_isSmall_29 : decode cX5_isSmall 29 = .ok (.iload_n 1, 1) := dk_27 (dk_at dksX5_isSmall_1 6 rfl rfl)
theorem dX5_isSmall_30 : decode cX5_isSmall 30 = .ok (.baload, 1) := dk_51 (dk_at dksX5_isSmall_1 7 rfl rfl)
theorem dX5_isSmall_31 : decode cX5_isSmall 31 = .ok (.bipush 122, 2) := dk_16 122 (dk_at dksX5_isSmall_1 8 rfl rfl)
theorem dX5_isSmall_33 : decode cX5_isSmall 33 = .ok (.if_icmp .gt 7, 3) := dk_163 0 7 (dk_at dksX5_isSmall_1 10 rfl rfl)
theorem dX5_isSmall_36 : decode cX5_isSmall 36 = .ok (.iconst 1, 1) := dk_4 (dk_at dksX5_isSmall_1 13 rfl rfl)
theorem dX5_isSmall_37 : decode cX5_isSmall 37 = .ok (.goto 4, 3) := dk_167 0 4 (dk_at dksX5_isSmall_1 14 rfl rfl)
theorem dX5_isSmall_40 : decode cX5_isSmall 40 = .ok (.iconst 0, 1) := dk_3 (dk_at dksX5_isSmall_1 17 rfl rfl)
theorem dX5_isSmall_41 : decode cX5_isSmall 41 = .ok (.ireturn, 1) := dk_172 (dk_at dksX5_isSmall_1 18 rfl rfl)
abbrev cX5_voter : ByteArray := prog_5_method_13_code
def yX5_voter : MethodName := ⟨RX5, "voter", "(I)V"⟩
def dkwX5_voter_4 : List UInt8 := [185, 0, 127, 2, 0, 87, 177]
abbrev dktX5_voter_4 : List UInt8 := dkwX5_voter_4 ++ []
def dkwX5_voter_3 : List UInt8 := [180, 0, 18, 180, 0, 159, 187, 0, 169, 89, 44, 21, 4, 42, 3, 17, 3, 231, 182, 0, 92, 183, 0, 171]
abbrev dktX5_voter_3 : List UInt8 := dkwX5_voter_3 ++ dktX5_voter_4
def dkwX5_voter_2 : List UInt8 := [180, 0, 18, 44, 21, 4, 182, 0, 165, 198, 0, 13, 187, 0, 64, 89, 6, 29, 183, 0, 66, 191, 42]
abbrev dktX5_voter_2 : List UInt8 := dkwX5_voter_2 ++ dktX5_voter_3
def dkwX5_voter_1 : List UInt8 := [183, 0, 66, 191, 42, 182, 0, 162, 77, 42, 180, 0, 76, 62, 42, 3, 16, 99, 182, 0, 92, 54, 4, 42]
abbrev dktX5_voter_1 : List UInt8 := dkwX5_voter_1 ++ dktX5_voter_2
def dkwX5_voter_0 : List UInt8 := [42, 180, 0, 18, 180, 0, 159, 185, 0, 120, 1, 0, 16, 16, 160, 0, 13, 187, 0, 64, 89, 7, 27]
abbrev dktX5_voter_0 : List UInt8 := dkwX5_voter_0 ++ dktX5_voter_1
theorem dksX5_voter_0 : cX5_voter.data.toList.drop 0 = dktX5_voter_0 := by decide +kernel
theorem dksX5_voter_1 : cX5_voter.data.toList.drop 23 = dktX5_voter_1 := dk_seg dksX5_voter_0 23 rfl rfl
theorem dksX5_voter_2 : cX5_voter.data.toList.drop 47 = dktX5_voter_2 := dk_seg dksX5_voter_1 24 rfl rfl
theorem dksX5_voter_3 : cX5_voter.data.toList.drop 70 = dktX5_voter_3 := dk_seg dksX5_voter_2 23 rfl rfl
theorem dksX5_voter_4 : cX5_voter.data.toList.drop 94 = dktX5_voter_4 := dk_seg dksX5_voter_3 24 rfl rfl
theorem dX5_voter_0 : decode cX5_voter 0 = .ok (.aload_n 0, 1) := dk_42 (dk_at dksX5_voter_0 0 rfl rfl)
theorem dX5_voter_1 : decode cX5_voter 1 = .ok (.getfield 18, 3) := dk_180 0 18 (dk_at dksX5_voter_0 1 rfl rfl)
theorem dX5_voter_4 : decode cX5_voter 4 = .ok (.getfield 159, 3) := dk_180 0 159 (dk_at dksX5_voter_0 4 rfl rfl)
theorem dX5_voter_7 : decode cX5_voter 7 = .ok (.invokeinterface 120 1, 5) := by decide +kernel
theorem dX5_voter_12 : decode cX5_voter 12 = .ok (.bipush 16, 2) := dk_16 16 (dk_at dksX5_voter_0 12 rfl rfl)
theorem dX5_voter_14 : decode cX5_voter 14 = .ok (.if_icmp .ne 13, 3) := dk_160 0 13 (dk_at dksX5_voter_0 14 rfl rfl)
theorem dX5_voter_17 : decode cX5_voter 17 = .ok (.new 64, 3) := dk_187 0 64 (dk_at dksX5_voter_0 17 rfl rfl)
theorem dX5_voter_20 : decode cX5_voter 20 = .ok (.dup, 1) := dk_89 (dk_at dksX5_voter_0 20 rfl rfl)
theorem dX5_voter_21 : decode cX5_voter 21 = .ok (.iconst 4, 1) := dk_7 (dk_at dksX5_voter_0 21 rfl rfl)
theorem dX5_voter_22 : decode cX5_voter 22 = .ok (.iload_n 1, 1) := dk_27 (dk_at dksX5_voter_0 22 rfl rfl)
theorem dX5_voter_23 : decode cX5_voter 23 = .ok (.invokespecial 66, 3) := dk_183 0 66 (dk_at dksX5_voter_1 0 rfl rfl)
theorem dX5_voter_26 : decode cX5_voter 26 = .ok (.athrow, 1) := dk_191 (dk_at dksX5_voter_1 3 rfl rfl)
theorem dX5_voter_27 : decode cX5_voter 27 = .ok (.aload_n 0, 1) := dk_42 (dk_at dksX5_voter_1 4 rfl rfl)
theorem dX5_voter_28 : decode cX5_voter 28 = .ok (.invokevirtual 162, 3) := dk_182 0 162 (dk_at dksX5_voter_1 5 rfl rfl)
theorem dX5_voter_31 : decode cX5_voter 31 = .ok (.astore_n 2, 1) := dk_77 (dk_at dksX5_voter_1 8 rfl rfl)
theorem dX5_voter_32 : decode cX5_voter 32 = .ok (.aload_n 0, 1) := dk_42 (dk_at dksX5_voter_1 9 rfl rfl)
theorem dX5_voter_33 : decode cX5_voter 33 = .ok (.getfield 76, 3) := dk_180 0 76 (dk_at dksX5_voter_1 10 rfl rfl)
theorem dX5_voter_36 : decode cX5_voter 36 = .ok (.istore_n 3, 1) := dk_62 (dk_at dksX5_voter_1 13 rfl rfl)
theorem dX5_voter_37 : decode cX5_voter 37 = .ok (.aload_n 0, 1) := dk_42 (dk_at dksX5_voter_1 14 rfl rfl)
theorem dX5_voter_38 : decode cX5_voter 38 = .ok (.iconst 0, 1) := dk_3 (dk_at dksX5_voter_1 15 rfl rfl)
theorem dX5_voter_39 : decode cX5_voter 39 = .ok (.bipush 99, 2) := dk_16 99 (dk_at dksX5_voter_1 16 rfl rfl)
theorem dX5_voter_41 : decode cX5_voter 41 = .ok (.invokevirtual 92, 3) := dk_182 0 92 (dk_at dksX5_voter_1 18 rfl rfl)
theorem dX5_voter_44 : decode cX5_voter 44 = .ok (.istore 4, 2) := dk_54 4 (dk_at dksX5_voter_1 21 rfl rfl)
theorem dX5_voter_46 : decode cX5_voter 46 = .ok (.aload_n 0, 1) := dk_42 (dk_at dksX5_voter_1 23 rfl rfl)
theorem dX5_voter_47 : decode cX5_voter 47 = .ok (.getfield 18, 3) := dk_180 0 18 (dk_at dksX5_voter_2 0 rfl rfl)
theorem dX5_voter_50 : decode cX5_voter 50 = .ok (.aload_n 2, 1) := dk_44 (dk_at dksX5_voter_2 3 rfl rfl)
theorem dX5_voter_51 : decode cX5_voter 51 = .ok (.iload 4, 2) := dk_21 4 (dk_at dksX5_voter_2 4 rfl rfl)
theorem dX5_voter_53 : decode cX5_voter 53 = .ok (.invokevirtual 165, 3) := dk_182 0 165 (dk_at dksX5_voter_2 6 rfl rfl)
theorem dX5_voter_56 : decode cX5_voter 56 = .ok (.ifnull 13, 3) := dk_198 0 13 (dk_at dksX5_voter_2 9 rfl rfl)
theorem dX5_voter_59 : decode cX5_voter 59 = .ok (.new 64, 3) := dk_187 0 64 (dk_at dksX5_voter_2 12 rfl rfl)
theorem dX5_voter_62 : decode cX5_voter 62 = .ok (.dup, 1) := dk_89 (dk_at dksX5_voter_2 15 rfl rfl)
theorem dX5_voter_63 : decode cX5_voter 63 = .ok (.iconst 3, 1) := dk_6 (dk_at dksX5_voter_2 16 rfl rfl)
theorem dX5_voter_64 : decode cX5_voter 64 = .ok (.iload_n 3, 1) := dk_29 (dk_at dksX5_voter_2 17 rfl rfl)
theorem dX5_voter_65 : decode cX5_voter 65 = .ok (.invokespecial 66, 3) := dk_183 0 66 (dk_at dksX5_voter_2 18 rfl rfl)
theorem dX5_voter_68 : decode cX5_voter 68 = .ok (.athrow, 1) := dk_191 (dk_at dksX5_voter_2 21 rfl rfl)
theorem dX5_voter_69 : decode cX5_voter 69 = .ok (.aload_n 0, 1) := dk_42 (dk_at dksX5_voter_2 22 rfl rfl)
theorem dX5_voter_70 : decode cX5_voter 70 = .ok (.getfield 18, 3) := dk_180 0 18 (dk_at dksX5_voter_3 0 rfl rfl)
theorem dX5_voter_73 : decode cX5_voter 73 = .ok (.getfield 159, 3) := dk_180 0 159 (dk_at dksX5_voter_3 3 rfl rfl)
theorem dX5_voter_76 : decode cX5_voter 76 = .ok (.new 169, 3) := dk_187 0 169 (dk_at dksX5_voter_3 6 rfl rfl)
theorem dX5_voter_79 : decode cX5_voter 79 = .ok (.dup, 1) := dk_89 (dk_at dksX5_voter_3 9 rfl rfl)
theorem dX5_voter_80 : decode cX5_voter 80 = .ok (.aload_n 2, 1) := dk_44 (dk_at dksX5_voter_3 10 rfl rfl)
theorem dX5_voter_81 : decode cX5_voter 81 = .ok (.iload 4, 2) := dk_21 4 (dk_at dksX5_voter_3 11 rfl rfl)
theorem dX5_voter_83 : decode cX5_voter 83 = .ok (.aload_n 0, 1) := dk_42 (dk_at dksX5_voter_3 13 rfl rfl)
theorem dX5_voter_84 : decode cX5_voter 84 = .ok (.iconst 0, 1) := dk_3 (dk_at dksX5_voter_3 14 rfl rfl)
theorem dX5_voter_85 : decode cX5_voter 85 = .ok (.sipush 999, 3) := dk_17 3 231 (dk_at dksX5_voter_3 15 rfl rfl)
theorem dX5_voter_88 : decode cX5_voter 88 = .ok (.invokevirtual 92, 3) := dk_182 0 92 (dk_at dksX5_voter_3 18 rfl rfl)
theorem dX5_voter_91 : decode cX5_voter 91 = .ok (.invokespecial 171, 3) := dk_183 0 171 (dk_at dksX5_voter_3 21 rfl rfl)
theorem dX5_voter_94 : decode cX5_voter 94 = .ok (.invokeinterface 127 2, 5) := by decide +kernel
theorem dX5_voter_99 : decode cX5_voter 99 = .ok (.pop, 1) := dk_87 (dk_at dksX5_voter_4 5 rfl rfl)
theorem dX5_voter_100 : decode cX5_voter 100 = .ok (.return_, 1) := dk_177 (dk_at dksX5_voter_4 6 rfl rfl)
abbrev cX5_name : ByteArray := prog_5_method_10_code
def yX5_name : MethodName := ⟨RX5, "name", "()Ljava/lang/String;"⟩
def dkwX5_name_2 : List UInt8 := [43, 176]
abbrev dktX5_name_2 : List UInt8 := dkwX5_name_2 ++ []
def dkwX5_name_1 : List UInt8 := [182, 0, 72, 42, 42, 180, 0, 26, 181, 0, 76, 42, 89, 180, 0, 26, 43, 182, 0, 61, 96, 181, 0, 26]
abbrev dktX5_name_1 : List UInt8 := dkwX5_name_1 ++ dktX5_name_2
def dkwX5_name_0 : List UInt8 := [42, 182, 0, 52, 76, 42, 43, 182, 0, 61, 133, 10, 20, 0, 90, 184, 0, 86, 42, 180, 0, 26]
abbrev dktX5_name_0 : List UInt8 := dkwX5_name_0 ++ dktX5_name_1
theorem dksX5_name_0 : cX5_name.data.toList.drop 0 = dktX5_name_0 := by decide +kernel
theorem dksX5_name_1 : cX5_name.data.toList.drop 22 = dktX5_name_1 := dk_seg dksX5_name_0 22 rfl rfl
theorem dksX5_name_2 : cX5_name.data.toList.drop 46 = dktX5_name_2 := dk_seg dksX5_name_1 24 rfl rfl
theorem dX5_name_0 : decode cX5_name 0 = .ok (.aload_n 0, 1) := dk_42 (dk_at dksX5_name_0 0 rfl rfl)
theorem dX5_name_1 : decode cX5_name 1 = .ok (.invokevirtual 52, 3) := dk_182 0 52 (dk_at dksX5_name_0 1 rfl rfl)
theorem dX5_name_4 : decode cX5_name 4 = .ok (.astore_n 1, 1) := dk_76 (dk_at dksX5_name_0 4 rfl rfl)
theorem dX5_name_5 : decode cX5_name 5 = .ok (.aload_n 0, 1) := dk_42 (dk_at dksX5_name_0 5 rfl rfl)
theorem dX5_name_6 : decode cX5_name 6 = .ok (.aload_n 1, 1) := dk_43 (dk_at dksX5_name_0 6 rfl rfl)
theorem dX5_name_7 : decode cX5_name 7 = .ok (.invokevirtual 61, 3) := dk_182 0 61 (dk_at dksX5_name_0 7 rfl rfl)
theorem dX5_name_10 : decode cX5_name 10 = .ok (.i2l, 1) := dk_133 (dk_at dksX5_name_0 10 rfl rfl)
theorem dX5_name_11 : decode cX5_name 11 = .ok (.lconst 1, 1) := dk_10 (dk_at dksX5_name_0 11 rfl rfl)
theorem dX5_name_12 : decode cX5_name 12 = .ok (.ldc2_w 90, 3) := dk_20 0 90 (dk_at dksX5_name_0 12 rfl rfl)
theorem dX5_name_15 : decode cX5_name 15 = .ok (.invokestatic 86, 3) := dk_184 0 86 (dk_at dksX5_name_0 15 rfl rfl)
theorem dX5_name_18 : decode cX5_name 18 = .ok (.aload_n 0, 1) := dk_42 (dk_at dksX5_name_0 18 rfl rfl)
theorem dX5_name_19 : decode cX5_name 19 = .ok (.getfield 26, 3) := dk_180 0 26 (dk_at dksX5_name_0 19 rfl rfl)
theorem dX5_name_22 : decode cX5_name 22 = .ok (.invokevirtual 72, 3) := dk_182 0 72 (dk_at dksX5_name_1 0 rfl rfl)
theorem dX5_name_25 : decode cX5_name 25 = .ok (.aload_n 0, 1) := dk_42 (dk_at dksX5_name_1 3 rfl rfl)
theorem dX5_name_26 : decode cX5_name 26 = .ok (.aload_n 0, 1) := dk_42 (dk_at dksX5_name_1 4 rfl rfl)
theorem dX5_name_27 : decode cX5_name 27 = .ok (.getfield 26, 3) := dk_180 0 26 (dk_at dksX5_name_1 5 rfl rfl)
theorem dX5_name_30 : decode cX5_name 30 = .ok (.putfield 76, 3) := dk_181 0 76 (dk_at dksX5_name_1 8 rfl rfl)
theorem dX5_name_33 : decode cX5_name 33 = .ok (.aload_n 0, 1) := dk_42 (dk_at dksX5_name_1 11 rfl rfl)
theorem dX5_name_34 : decode cX5_name 34 = .ok (.dup, 1) := dk_89 (dk_at dksX5_name_1 12 rfl rfl)
theorem dX5_name_35 : decode cX5_name 35 = .ok (.getfield 26, 3) := dk_180 0 26 (dk_at dksX5_name_1 13 rfl rfl)
theorem dX5_name_38 : decode cX5_name 38 = .ok (.aload_n 1, 1) := dk_43 (dk_at dksX5_name_1 16 rfl rfl)
theorem dX5_name_39 : decode cX5_name 39 = .ok (.invokevirtual 61, 3) := dk_182 0 61 (dk_at dksX5_name_1 17 rfl rfl)
theorem dX5_name_42 : decode cX5_name 42 = .ok (.iadd, 1) := dk_96 (dk_at dksX5_name_1 20 rfl rfl)
theorem dX5_name_43 : decode cX5_name 43 = .ok (.putfield 26, 3) := dk_181 0 26 (dk_at dksX5_name_1 21 rfl rfl)
theorem dX5_name_46 : decode cX5_name 46 = .ok (.aload_n 1, 1) := dk_43 (dk_at dksX5_name_2 0 rfl rfl)
theorem dX5_name_47 : decode cX5_name 47 = .ok (.areturn, 1) := dk_176 (dk_at dksX5_name_2 1 rfl rfl)
abbrev cX5_needs : ByteArray := prog_5_method_8_code
def yX5_needs : MethodName := ⟨RX5, "needs", "(ZI)V"⟩
def dkwX5_needs_0 : List UInt8 := [27, 154, 0, 13, 187, 0, 64, 89, 4, 28, 183, 0, 66, 191, 177]
abbrev dktX5_needs_0 : List UInt8 := dkwX5_needs_0 ++ []
theorem dksX5_needs_0 : cX5_needs.data.toList.drop 0 = dktX5_needs_0 := by decide +kernel
theorem dX5_needs_0 : decode cX5_needs 0 = .ok (.iload_n 1, 1) := dk_27 (dk_at dksX5_needs_0 0 rfl rfl)
theorem dX5_needs_1 : decode cX5_needs 1 = .ok (.ifCond .ne 13, 3) := dk_154 0 13 (dk_at dksX5_needs_0 1 rfl rfl)
theorem dX5_needs_4 : decode cX5_needs 4 = .ok (.new 64, 3) := dk_187 0 64 (dk_at dksX5_needs_0 4 rfl rfl)
theorem dX5_needs_7 : decode cX5_needs 7 = .ok (.dup, 1) := dk_89 (dk_at dksX5_needs_0 7 rfl rfl)
theorem dX5_needs_8 : decode cX5_needs 8 = .ok (.iconst 1, 1) := dk_4 (dk_at dksX5_needs_0 8 rfl rfl)
theorem dX5_needs_9 : decode cX5_needs 9 = .ok (.iload_n 2, 1) := dk_28 (dk_at dksX5_needs_0 9 rfl rfl)
theorem dX5_needs_10 : decode cX5_needs 10 = .ok (.invokespecial 66, 3) := dk_183 0 66 (dk_at dksX5_needs_0 10 rfl rfl)
theorem dX5_needs_13 : decode cX5_needs 13 = .ok (.athrow, 1) := dk_191 (dk_at dksX5_needs_0 13 rfl rfl)
theorem dX5_needs_14 : decode cX5_needs 14 = .ok (.return_, 1) := dk_177 (dk_at dksX5_needs_0 14 rfl rfl)
abbrev cX5_number : ByteArray := prog_5_method_9_code
def yX5_number : MethodName := ⟨RX5, "number", "(II)I"⟩
def dkwX5_number_4 : List UInt8 := [187, 0, 64, 89, 5, 42, 180, 0, 76, 183, 0, 66, 191, 29, 172]
abbrev dktX5_number_4 : List UInt8 := dkwX5_number_4 ++ []
def dkwX5_number_3 : List UInt8 := [180, 0, 26, 4, 96, 181, 0, 26, 167, 255, 209, 29, 133, 27, 133, 28, 133, 184, 0, 86, 154, 0, 16]
abbrev dktX5_number_3 : List UInt8 := dkwX5_number_3 ++ dktX5_number_4
def dkwX5_number_2 : List UInt8 := [180, 0, 3, 180, 0, 29, 42, 180, 0, 26, 51, 96, 16, 48, 100, 18, 79, 184, 0, 80, 62, 42, 89]
abbrev dktX5_number_2 : List UInt8 := dkwX5_number_2 ++ dktX5_number_3
def dkwX5_number_1 : List UInt8 := [180, 0, 26, 181, 0, 76, 3, 62, 42, 42, 180, 0, 26, 182, 0, 69, 153, 0, 42, 16, 10, 29, 104, 42]
abbrev dktX5_number_1 : List UInt8 := dkwX5_number_1 ++ dktX5_number_2
def dkwX5_number_0 : List UInt8 := [42, 182, 0, 33, 87, 42, 42, 42, 180, 0, 26, 182, 0, 69, 42, 180, 0, 26, 182, 0, 72, 42, 42]
abbrev dktX5_number_0 : List UInt8 := dkwX5_number_0 ++ dktX5_number_1
theorem dksX5_number_0 : cX5_number.data.toList.drop 0 = dktX5_number_0 := by decide +kernel
theorem dksX5_number_1 : cX5_number.data.toList.drop 23 = dktX5_number_1 := dk_seg dksX5_number_0 23 rfl rfl
theorem dksX5_number_2 : cX5_number.data.toList.drop 47 = dktX5_number_2 := dk_seg dksX5_number_1 24 rfl rfl
theorem dksX5_number_3 : cX5_number.data.toList.drop 70 = dktX5_number_3 := dk_seg dksX5_number_2 23 rfl rfl
theorem dksX5_number_4 : cX5_number.data.toList.drop 93 = dktX5_number_4 := dk_seg dksX5_number_3 23 rfl rfl
theorem dX5_number_0 : decode cX5_number 0 = .ok (.aload_n 0, 1) := dk_42 (dk_at dksX5_number_0 0 rfl rfl)
theorem dX5_number_1 : decode cX5_number 1 = .ok (.invokevirtual 33, 3) := dk_182 0 33 (dk_at dksX5_number_0 1 rfl rfl)
theorem dX5_number_4 : decode cX5_number 4 = .ok (.pop, 1) := dk_87 (dk_at dksX5_number_0 4 rfl rfl)
theorem dX5_number_5 : decode cX5_number 5 = .ok (.aload_n 0, 1) := dk_42 (dk_at dksX5_number_0 5 rfl rfl)
theorem dX5_number_6 : decode cX5_number 6 = .ok (.aload_n 0, 1) := dk_42 (dk_at dksX5_number_0 6 rfl rfl)
theorem dX5_number_7 : decode cX5_number 7 = .ok (.aload_n 0, 1) := dk_42 (dk_at dksX5_number_0 7 rfl rfl)
theorem dX5_number_8 : decode cX5_number 8 = .ok (.getfield 26, 3) := dk_180 0 26 (dk_at dksX5_number_0 8 rfl rfl)
theorem dX5_number_11 : decode cX5_number 11 = .ok (.invokevirtual 69, 3) := dk_182 0 69 (dk_at dksX5_number_0 11 rfl rfl)
theorem dX5_number_14 : decode cX5_number 14 = .ok (.aload_n 0, 1) := dk_42 (dk_at dksX5_number_0 14 rfl rfl)
theorem dX5_number_15 : decode cX5_number 15 = .ok (.getfield 26, 3) := dk_180 0 26 (dk_at dksX5_number_0 15 rfl rfl)
theorem dX5_number_18 : decode cX5_number 18 = .ok (.invokevirtual 72, 3) := dk_182 0 72 (dk_at dksX5_number_0 18 rfl rfl)
theorem dX5_number_21 : decode cX5_number 21 = .ok (.aload_n 0, 1) := dk_42 (dk_at dksX5_number_0 21 rfl rfl)
theorem dX5_number_22 : decode cX5_number 22 = .ok (.aload_n 0, 1) := dk_42 (dk_at dksX5_number_0 22 rfl rfl)
theorem dX5_number_23 : decode cX5_number 23 = .ok (.getfield 26, 3) := dk_180 0 26 (dk_at dksX5_number_1 0 rfl rfl)
theorem dX5_number_26 : decode cX5_number 26 = .ok (.putfield 76, 3) := dk_181 0 76 (dk_at dksX5_number_1 3 rfl rfl)
theorem dX5_number_29 : decode cX5_number 29 = .ok (.iconst 0, 1) := dk_3 (dk_at dksX5_number_1 6 rfl rfl)
theorem dX5_number_30 : decode cX5_number 30 = .ok (.istore_n 3, 1) := dk_62 (dk_at dksX5_number_1 7 rfl rfl)
theorem dX5_number_31 : decode cX5_number 31 = .ok (.aload_n 0, 1) := dk_42 (dk_at dksX5_number_1 8 rfl rfl)
theorem dX5_number_32 : decode cX5_number 32 = .ok (.aload_n 0, 1) := dk_42 (dk_at dksX5_number_1 9 rfl rfl)
theorem dX5_number_33 : decode cX5_number 33 = .ok (.getfield 26, 3) := dk_180 0 26 (dk_at dksX5_number_1 10 rfl rfl)
theorem dX5_number_36 : decode cX5_number 36 = .ok (.invokevirtual 69, 3) := dk_182 0 69 (dk_at dksX5_number_1 13 rfl rfl)
theorem dX5_number_39 : decode cX5_number 39 = .ok (.ifCond .eq 42, 3) := dk_153 0 42 (dk_at dksX5_number_1 16 rfl rfl)
theorem dX5_number_42 : decode cX5_number 42 = .ok (.bipush 10, 2) := dk_16 10 (dk_at dksX5_number_1 19 rfl rfl)
theorem dX5_number_44 : decode cX5_number 44 = .ok (.iload_n 3, 1) := dk_29 (dk_at dksX5_number_1 21 rfl rfl)
theorem dX5_number_45 : decode cX5_number 45 = .ok (.imul, 1) := dk_104 (dk_at dksX5_number_1 22 rfl rfl)
theorem dX5_number_46 : decode cX5_number 46 = .ok (.aload_n 0, 1) := dk_42 (dk_at dksX5_number_1 23 rfl rfl)
theorem dX5_number_47 : decode cX5_number 47 = .ok (.getfield 3, 3) := dk_180 0 3 (dk_at dksX5_number_2 0 rfl rfl)
theorem dX5_number_50 : decode cX5_number 50 = .ok (.getfield 29, 3) := dk_180 0 29 (dk_at dksX5_number_2 3 rfl rfl)
theorem dX5_number_53 : decode cX5_number 53 = .ok (.aload_n 0, 1) := dk_42 (dk_at dksX5_number_2 6 rfl rfl)
theorem dX5_number_54 : decode cX5_number 54 = .ok (.getfield 26, 3) := dk_180 0 26 (dk_at dksX5_number_2 7 rfl rfl)
theorem dX5_number_57 : decode cX5_number 57 = .ok (.baload, 1) := dk_51 (dk_at dksX5_number_2 10 rfl rfl)
theorem dX5_number_58 : decode cX5_number 58 = .ok (.iadd, 1) := dk_96 (dk_at dksX5_number_2 11 rfl rfl)
theorem dX5_number_59 : decode cX5_number 59 = .ok (.bipush 48, 2) := dk_16 48 (dk_at dksX5_number_2 12 rfl rfl)
theorem dX5_number_61 : decode cX5_number 61 = .ok (.isub, 1) := dk_100 (dk_at dksX5_number_2 14 rfl rfl)
theorem dX5_number_62 : decode cX5_number 62 = .ok (.ldc 79, 2) := dk_18 79 (dk_at dksX5_number_2 15 rfl rfl)
theorem dX5_number_64 : decode cX5_number 64 = .ok (.invokestatic 80, 3) := dk_184 0 80 (dk_at dksX5_number_2 17 rfl rfl)
theorem dX5_number_67 : decode cX5_number 67 = .ok (.istore_n 3, 1) := dk_62 (dk_at dksX5_number_2 20 rfl rfl)
theorem dX5_number_68 : decode cX5_number 68 = .ok (.aload_n 0, 1) := dk_42 (dk_at dksX5_number_2 21 rfl rfl)
theorem dX5_number_69 : decode cX5_number 69 = .ok (.dup, 1) := dk_89 (dk_at dksX5_number_2 22 rfl rfl)
theorem dX5_number_70 : decode cX5_number 70 = .ok (.getfield 26, 3) := dk_180 0 26 (dk_at dksX5_number_3 0 rfl rfl)
theorem dX5_number_73 : decode cX5_number 73 = .ok (.iconst 1, 1) := dk_4 (dk_at dksX5_number_3 3 rfl rfl)
theorem dX5_number_74 : decode cX5_number 74 = .ok (.iadd, 1) := dk_96 (dk_at dksX5_number_3 4 rfl rfl)
theorem dX5_number_75 : decode cX5_number 75 = .ok (.putfield 26, 3) := dk_181 0 26 (dk_at dksX5_number_3 5 rfl rfl)
theorem dX5_number_78 : decode cX5_number 78 = .ok (.goto (-47), 3) := dk_167 255 209 (dk_at dksX5_number_3 8 rfl rfl)
theorem dX5_number_81 : decode cX5_number 81 = .ok (.iload_n 3, 1) := dk_29 (dk_at dksX5_number_3 11 rfl rfl)
theorem dX5_number_82 : decode cX5_number 82 = .ok (.i2l, 1) := dk_133 (dk_at dksX5_number_3 12 rfl rfl)
theorem dX5_number_83 : decode cX5_number 83 = .ok (.iload_n 1, 1) := dk_27 (dk_at dksX5_number_3 13 rfl rfl)
theorem dX5_number_84 : decode cX5_number 84 = .ok (.i2l, 1) := dk_133 (dk_at dksX5_number_3 14 rfl rfl)
theorem dX5_number_85 : decode cX5_number 85 = .ok (.iload_n 2, 1) := dk_28 (dk_at dksX5_number_3 15 rfl rfl)
theorem dX5_number_86 : decode cX5_number 86 = .ok (.i2l, 1) := dk_133 (dk_at dksX5_number_3 16 rfl rfl)
theorem dX5_number_87 : decode cX5_number 87 = .ok (.invokestatic 86, 3) := dk_184 0 86 (dk_at dksX5_number_3 17 rfl rfl)
theorem dX5_number_90 : decode cX5_number 90 = .ok (.ifCond .ne 16, 3) := dk_154 0 16 (dk_at dksX5_number_3 20 rfl rfl)
theorem dX5_number_93 : decode cX5_number 93 = .ok (.new 64, 3) := dk_187 0 64 (dk_at dksX5_number_4 0 rfl rfl)
theorem dX5_number_96 : decode cX5_number 96 = .ok (.dup, 1) := dk_89 (dk_at dksX5_number_4 3 rfl rfl)
theorem dX5_number_97 : decode cX5_number 97 = .ok (.iconst 2, 1) := dk_5 (dk_at dksX5_number_4 4 rfl rfl)
theorem dX5_number_98 : decode cX5_number 98 = .ok (.aload_n 0, 1) := dk_42 (dk_at dksX5_number_4 5 rfl rfl)
theorem dX5_number_99 : decode cX5_number 99 = .ok (.getfield 76, 3) := dk_180 0 76 (dk_at dksX5_number_4 6 rfl rfl)
theorem dX5_number_102 : decode cX5_number 102 = .ok (.invokespecial 66, 3) := dk_183 0 66 (dk_at dksX5_number_4 9 rfl rfl)
theorem dX5_number_105 : decode cX5_number 105 = .ok (.athrow, 1) := dk_191 (dk_at dksX5_number_4 12 rfl rfl)
theorem dX5_number_106 : decode cX5_number 106 = .ok (.iload_n 3, 1) := dk_29 (dk_at dksX5_number_4 13 rfl rfl)
theorem dX5_number_107 : decode cX5_number 107 = .ok (.ireturn, 1) := dk_172 (dk_at dksX5_number_4 14 rfl rfl)
abbrev cX5_isDigit : ByteArray := prog_5_method_4_code
def yX5_isDigit : MethodName := ⟨RX5, "isDigit", "(I)Z"⟩
def dkwX5_isDigit_1 : List UInt8 := [180, 0, 3, 180, 0, 29, 27, 51, 16, 57, 163, 0, 7, 4, 167, 0, 4, 3, 172]
abbrev dktX5_isDigit_1 : List UInt8 := dkwX5_isDigit_1 ++ []
def dkwX5_isDigit_0 : List UInt8 := [27, 42, 180, 0, 22, 162, 0, 35, 42, 180, 0, 3, 180, 0, 29, 27, 51, 16, 48, 161, 0, 21, 42]
abbrev dktX5_isDigit_0 : List UInt8 := dkwX5_isDigit_0 ++ dktX5_isDigit_1
theorem dksX5_isDigit_0 : cX5_isDigit.data.toList.drop 0 = dktX5_isDigit_0 := by decide +kernel
theorem dksX5_isDigit_1 : cX5_isDigit.data.toList.drop 23 = dktX5_isDigit_1 := dk_seg dksX5_isDigit_0 23 rfl rfl
theorem dX5_isDigit_0 : decode cX5_isDigit 0 = .ok (.iload_n 1, 1) := dk_27 (dk_at dksX5_isDigit_0 0 rfl rfl)
theorem dX5_isDigit_1 : decode cX5_isDigit 1 = .ok (.aload_n 0, 1) := dk_42 (dk_at dksX5_isDigit_0 1 rfl rfl)
theorem dX5_isDigit_2 : decode cX5_isDigit 2 = .ok (.getfield 22, 3) := dk_180 0 22 (dk_at dksX5_isDigit_0 2 rfl rfl)
theorem dX5_isDigit_5 : decode cX5_isDigit 5 = .ok (.if_icmp .ge 35, 3) := dk_162 0 35 (dk_at dksX5_isDigit_0 5 rfl rfl)
theorem dX5_isDigit_8 : decode cX5_isDigit 8 = .ok (.aload_n 0, 1) := dk_42 (dk_at dksX5_isDigit_0 8 rfl rfl)
theorem dX5_isDigit_9 : decode cX5_isDigit 9 = .ok (.getfield 3, 3) := dk_180 0 3 (dk_at dksX5_isDigit_0 9 rfl rfl)
theorem dX5_isDigit_12 : decode cX5_isDigit 12 = .ok (.getfield 29, 3) := dk_180 0 29 (dk_at dksX5_isDigit_0 12 rfl rfl)
theorem dX5_isDigit_15 : decode cX5_isDigit 15 = .ok (.iload_n 1, 1) := dk_27 (dk_at dksX5_isDigit_0 15 rfl rfl)
theorem dX5_isDigit_16 : decode cX5_isDigit 16 = .ok (.baload, 1) := dk_51 (dk_at dksX5_isDigit_0 16 rfl rfl)
theorem dX5_isDigit_17 : decode cX5_isDigit 17 = .ok (.bipush 48, 2) := dk_16 48 (dk_at dksX5_isDigit_0 17 rfl rfl)
theorem dX5_isDigit_19 : decode cX5_isDigit 19 = .ok (.if_icmp .lt 21, 3) := dk_161 0 21 (dk_at dksX5_isDigit_0 19 rfl rfl)
theorem dX5_isDigit_22 : decode cX5_isDigit 22 = .ok (.aload_n 0, 1) := dk_42 (dk_at dksX5_isDigit_0 22 rfl rfl)
theorem dX5_isDigit_23 : decode cX5_isDigit 23 = .ok (.getfield 3, 3) := dk_180 0 3 (dk_at dksX5_isDigit_1 0 rfl rfl)
theorem dX5_isDigit_26 : decode cX5_isDigit 26 = .ok (.getfield 29, 3) := dk_180 0 29 (dk_at dksX5_isDigit_1 3 rfl rfl)
theorem dX5_isDigit_29 : decode cX5_isDigit 29 = .ok (.iload_n 1, 1) := dk_27 (dk_at dksX5_isDigit_1 6 rfl rfl)
theorem dX5_isDigit_30 : decode cX5_isDigit 30 = .ok (.baload, 1) := dk_51 (dk_at dksX5_isDigit_1 7 rfl rfl)
theorem dX5_isDigit_31 : decode cX5_isDigit 31 = .ok (.bipush 57, 2) := dk_16 57 (dk_at dksX5_isDigit_1 8 rfl rfl)
theorem dX5_isDigit_33 : decode cX5_isDigit 33 = .ok (.if_icmp .gt 7, 3) := dk_163 0 7 (dk_at dksX5_isDigit_1 10 rfl rfl)
theorem dX5_isDigit_36 : decode cX5_isDigit 36 = .ok (.iconst 1, 1) := dk_4 (dk_at dksX5_isDigit_1 13 rfl rfl)
theorem dX5_isDigit_37 : decode cX5_isDigit 37 = .ok (.goto 4, 3) := dk_167 0 4 (dk_at dksX5_isDigit_1 14 rfl rfl)
theorem dX5_isDigit_40 : decode cX5_isDigit 40 = .ok (.iconst 0, 1) := dk_3 (dk_at dksX5_isDigit_1 17 rfl rfl)
theorem dX5_isDigit_41 : decode cX5_isDigit 41 = .ok (.ireturn, 1) := dk_172 (dk_at dksX5_isDigit_1 18 rfl rfl)
abbrev cX5_signs : ByteArray := prog_5_method_14_code
def yX5_signs : MethodName := ⟨RX5, "signs", "(I)V"⟩
def dkwX5_signs_5 : List UInt8 := [185, 0, 127, 2, 0, 87, 177]
abbrev dktX5_signs_5 : List UInt8 := dkwX5_signs_5 ++ []
def dkwX5_signs_4 : List UInt8 := [185, 0, 181, 2, 0, 192, 0, 124, 180, 0, 185, 187, 0, 187, 89, 44, 29, 21, 4, 1, 183, 0, 189]
abbrev dktX5_signs_4 : List UInt8 := dkwX5_signs_4 ++ dktX5_signs_5
def dkwX5_signs_3 : List UInt8 := [42, 180, 0, 18, 180, 0, 116, 42, 180, 0, 18, 180, 0, 116, 185, 0, 120, 1, 0, 4, 100]
abbrev dktX5_signs_3 : List UInt8 := dkwX5_signs_3 ++ dktX5_signs_4
def dkwX5_signs_2 : List UInt8 := [191, 42, 182, 0, 162, 77, 42, 3, 16, 99, 182, 0, 92, 62, 42, 3, 17, 3, 231, 182, 0, 92, 54, 4]
abbrev dktX5_signs_2 : List UInt8 := dkwX5_signs_2 ++ dktX5_signs_3
def dkwX5_signs_1 : List UInt8 := [182, 0, 72, 42, 180, 0, 18, 182, 0, 178, 16, 40, 160, 0, 13, 187, 0, 64, 89, 7, 27, 183, 0, 66]
abbrev dktX5_signs_1 : List UInt8 := dkwX5_signs_1 ++ dktX5_signs_2
def dkwX5_signs_0 : List UInt8 := [42, 42, 180, 0, 18, 180, 0, 116, 185, 0, 174, 1, 0, 154, 0, 7, 4, 167, 0, 4, 3, 27]
abbrev dktX5_signs_0 : List UInt8 := dkwX5_signs_0 ++ dktX5_signs_1
theorem dksX5_signs_0 : cX5_signs.data.toList.drop 0 = dktX5_signs_0 := by decide +kernel
theorem dksX5_signs_1 : cX5_signs.data.toList.drop 22 = dktX5_signs_1 := dk_seg dksX5_signs_0 22 rfl rfl
theorem dksX5_signs_2 : cX5_signs.data.toList.drop 46 = dktX5_signs_2 := dk_seg dksX5_signs_1 24 rfl rfl
theorem dksX5_signs_3 : cX5_signs.data.toList.drop 70 = dktX5_signs_3 := dk_seg dksX5_signs_2 24 rfl rfl
theorem dksX5_signs_4 : cX5_signs.data.toList.drop 91 = dktX5_signs_4 := dk_seg dksX5_signs_3 21 rfl rfl
theorem dksX5_signs_5 : cX5_signs.data.toList.drop 114 = dktX5_signs_5 := dk_seg dksX5_signs_4 23 rfl rfl
theorem dX5_signs_0 : decode cX5_signs 0 = .ok (.aload_n 0, 1) := dk_42 (dk_at dksX5_signs_0 0 rfl rfl)
theorem dX5_signs_1 : decode cX5_signs 1 = .ok (.aload_n 0, 1) := dk_42 (dk_at dksX5_signs_0 1 rfl rfl)
theorem dX5_signs_2 : decode cX5_signs 2 = .ok (.getfield 18, 3) := dk_180 0 18 (dk_at dksX5_signs_0 2 rfl rfl)
theorem dX5_signs_5 : decode cX5_signs 5 = .ok (.getfield 116, 3) := dk_180 0 116 (dk_at dksX5_signs_0 5 rfl rfl)
theorem dX5_signs_8 : decode cX5_signs 8 = .ok (.invokeinterface 174 1, 5) := by decide +kernel
theorem dX5_signs_13 : decode cX5_signs 13 = .ok (.ifCond .ne 7, 3) := dk_154 0 7 (dk_at dksX5_signs_0 13 rfl rfl)
theorem dX5_signs_16 : decode cX5_signs 16 = .ok (.iconst 1, 1) := dk_4 (dk_at dksX5_signs_0 16 rfl rfl)
theorem dX5_signs_17 : decode cX5_signs 17 = .ok (.goto 4, 3) := dk_167 0 4 (dk_at dksX5_signs_0 17 rfl rfl)
theorem dX5_signs_20 : decode cX5_signs 20 = .ok (.iconst 0, 1) := dk_3 (dk_at dksX5_signs_0 20 rfl rfl)
theorem dX5_signs_21 : decode cX5_signs 21 = .ok (.iload_n 1, 1) := dk_27 (dk_at dksX5_signs_0 21 rfl rfl)
theorem dX5_signs_22 : decode cX5_signs 22 = .ok (.invokevirtual 72, 3) := dk_182 0 72 (dk_at dksX5_signs_1 0 rfl rfl)
theorem dX5_signs_25 : decode cX5_signs 25 = .ok (.aload_n 0, 1) := dk_42 (dk_at dksX5_signs_1 3 rfl rfl)
theorem dX5_signs_26 : decode cX5_signs 26 = .ok (.getfield 18, 3) := dk_180 0 18 (dk_at dksX5_signs_1 4 rfl rfl)
theorem dX5_signs_29 : decode cX5_signs 29 = .ok (.invokevirtual 178, 3) := dk_182 0 178 (dk_at dksX5_signs_1 7 rfl rfl)
theorem dX5_signs_32 : decode cX5_signs 32 = .ok (.bipush 40, 2) := dk_16 40 (dk_at dksX5_signs_1 10 rfl rfl)
theorem dX5_signs_34 : decode cX5_signs 34 = .ok (.if_icmp .ne 13, 3) := dk_160 0 13 (dk_at dksX5_signs_1 12 rfl rfl)
theorem dX5_signs_37 : decode cX5_signs 37 = .ok (.new 64, 3) := dk_187 0 64 (dk_at dksX5_signs_1 15 rfl rfl)
theorem dX5_signs_40 : decode cX5_signs 40 = .ok (.dup, 1) := dk_89 (dk_at dksX5_signs_1 18 rfl rfl)
theorem dX5_signs_41 : decode cX5_signs 41 = .ok (.iconst 4, 1) := dk_7 (dk_at dksX5_signs_1 19 rfl rfl)
theorem dX5_signs_42 : decode cX5_signs 42 = .ok (.iload_n 1, 1) := dk_27 (dk_at dksX5_signs_1 20 rfl rfl)
theorem dX5_signs_43 : decode cX5_signs 43 = .ok (.invokespecial 66, 3) := dk_183 0 66 (dk_at dksX5_signs_1 21 rfl rfl)
theorem dX5_signs_46 : decode cX5_signs 46 = .ok (.athrow, 1) := dk_191 (dk_at dksX5_signs_2 0 rfl rfl)
theorem dX5_signs_47 : decode cX5_signs 47 = .ok (.aload_n 0, 1) := dk_42 (dk_at dksX5_signs_2 1 rfl rfl)
theorem dX5_signs_48 : decode cX5_signs 48 = .ok (.invokevirtual 162, 3) := dk_182 0 162 (dk_at dksX5_signs_2 2 rfl rfl)
theorem dX5_signs_51 : decode cX5_signs 51 = .ok (.astore_n 2, 1) := dk_77 (dk_at dksX5_signs_2 5 rfl rfl)
theorem dX5_signs_52 : decode cX5_signs 52 = .ok (.aload_n 0, 1) := dk_42 (dk_at dksX5_signs_2 6 rfl rfl)
theorem dX5_signs_53 : decode cX5_signs 53 = .ok (.iconst 0, 1) := dk_3 (dk_at dksX5_signs_2 7 rfl rfl)
theorem dX5_signs_54 : decode cX5_signs 54 = .ok (.bipush 99, 2) := dk_16 99 (dk_at dksX5_signs_2 8 rfl rfl)
theorem dX5_signs_56 : decode cX5_signs 56 = .ok (.invokevirtual 92, 3) := dk_182 0 92 (dk_at dksX5_signs_2 10 rfl rfl)
theorem dX5_signs_59 : decode cX5_signs 59 = .ok (.istore_n 3, 1) := dk_62 (dk_at dksX5_signs_2 13 rfl rfl)
theorem dX5_signs_60 : decode cX5_signs 60 = .ok (.aload_n 0, 1) := dk_42 (dk_at dksX5_signs_2 14 rfl rfl)
theorem dX5_signs_61 : decode cX5_signs 61 = .ok (.iconst 0, 1) := dk_3 (dk_at dksX5_signs_2 15 rfl rfl)
theorem dX5_signs_62 : decode cX5_signs 62 = .ok (.sipush 999, 3) := dk_17 3 231 (dk_at dksX5_signs_2 16 rfl rfl)
theorem dX5_signs_65 : decode cX5_signs 65 = .ok (.invokevirtual 92, 3) := dk_182 0 92 (dk_at dksX5_signs_2 19 rfl rfl)
theorem dX5_signs_68 : decode cX5_signs 68 = .ok (.istore 4, 2) := dk_54 4 (dk_at dksX5_signs_2 22 rfl rfl)
theorem dX5_signs_70 : decode cX5_signs 70 = .ok (.aload_n 0, 1) := dk_42 (dk_at dksX5_signs_3 0 rfl rfl)
theorem dX5_signs_71 : decode cX5_signs 71 = .ok (.getfield 18, 3) := dk_180 0 18 (dk_at dksX5_signs_3 1 rfl rfl)
theorem dX5_signs_74 : decode cX5_signs 74 = .ok (.getfield 116, 3) := dk_180 0 116 (dk_at dksX5_signs_3 4 rfl rfl)
theorem dX5_signs_77 : decode cX5_signs 77 = .ok (.aload_n 0, 1) := dk_42 (dk_at dksX5_signs_3 7 rfl rfl)
theorem dX5_signs_78 : decode cX5_signs 78 = .ok (.getfield 18, 3) := dk_180 0 18 (dk_at dksX5_signs_3 8 rfl rfl)
theorem dX5_signs_81 : decode cX5_signs 81 = .ok (.getfield 116, 3) := dk_180 0 116 (dk_at dksX5_signs_3 11 rfl rfl)
theorem dX5_signs_84 : decode cX5_signs 84 = .ok (.invokeinterface 120 1, 5) := by decide +kernel
theorem dX5_signs_89 : decode cX5_signs 89 = .ok (.iconst 1, 1) := dk_4 (dk_at dksX5_signs_3 19 rfl rfl)
theorem dX5_signs_90 : decode cX5_signs 90 = .ok (.isub, 1) := dk_100 (dk_at dksX5_signs_3 20 rfl rfl)
theorem dX5_signs_91 : decode cX5_signs 91 = .ok (.invokeinterface 181 2, 5) := by decide +kernel
theorem dX5_signs_96 : decode cX5_signs 96 = .ok (.checkcast 124, 3) := dk_192 0 124 (dk_at dksX5_signs_4 5 rfl rfl)
theorem dX5_signs_99 : decode cX5_signs 99 = .ok (.getfield 185, 3) := dk_180 0 185 (dk_at dksX5_signs_4 8 rfl rfl)
theorem dX5_signs_102 : decode cX5_signs 102 = .ok (.new 187, 3) := dk_187 0 187 (dk_at dksX5_signs_4 11 rfl rfl)
theorem dX5_signs_105 : decode cX5_signs 105 = .ok (.dup, 1) := dk_89 (dk_at dksX5_signs_4 14 rfl rfl)
theorem dX5_signs_106 : decode cX5_signs 106 = .ok (.aload_n 2, 1) := dk_44 (dk_at dksX5_signs_4 15 rfl rfl)
theorem dX5_signs_107 : decode cX5_signs 107 = .ok (.iload_n 3, 1) := dk_29 (dk_at dksX5_signs_4 16 rfl rfl)
theorem dX5_signs_108 : decode cX5_signs 108 = .ok (.iload 4, 2) := dk_21 4 (dk_at dksX5_signs_4 17 rfl rfl)
theorem dX5_signs_110 : decode cX5_signs 110 = .ok (.aconst_null, 1) := dk_1 (dk_at dksX5_signs_4 19 rfl rfl)
theorem dX5_signs_111 : decode cX5_signs 111 = .ok (.invokespecial 189, 3) := dk_183 0 189 (dk_at dksX5_signs_4 20 rfl rfl)
theorem dX5_signs_114 : decode cX5_signs 114 = .ok (.invokeinterface 127 2, 5) := by decide +kernel
theorem dX5_signs_119 : decode cX5_signs 119 = .ok (.pop, 1) := dk_87 (dk_at dksX5_signs_5 5 rfl rfl)
theorem dX5_signs_120 : decode cX5_signs 120 = .ok (.return_, 1) := dk_177 (dk_at dksX5_signs_5 6 rfl rfl)
abbrev cX5_once : ByteArray := prog_5_method_11_code
def yX5_once : MethodName := ⟨RX5, "once", "(IIII)I"⟩
def dkwX5_once_0 : List UInt8 := [42, 27, 2, 160, 0, 7, 4, 167, 0, 4, 3, 28, 182, 0, 72, 42, 29, 21, 4, 182, 0, 92, 172]
abbrev dktX5_once_0 : List UInt8 := dkwX5_once_0 ++ []
theorem dksX5_once_0 : cX5_once.data.toList.drop 0 = dktX5_once_0 := by decide +kernel
theorem dX5_once_0 : decode cX5_once 0 = .ok (.aload_n 0, 1) := dk_42 (dk_at dksX5_once_0 0 rfl rfl)
theorem dX5_once_1 : decode cX5_once 1 = .ok (.iload_n 1, 1) := dk_27 (dk_at dksX5_once_0 1 rfl rfl)
theorem dX5_once_2 : decode cX5_once 2 = .ok (.iconst (-1), 1) := dk_2 (dk_at dksX5_once_0 2 rfl rfl)
theorem dX5_once_3 : decode cX5_once 3 = .ok (.if_icmp .ne 7, 3) := dk_160 0 7 (dk_at dksX5_once_0 3 rfl rfl)
theorem dX5_once_6 : decode cX5_once 6 = .ok (.iconst 1, 1) := dk_4 (dk_at dksX5_once_0 6 rfl rfl)
theorem dX5_once_7 : decode cX5_once 7 = .ok (.goto 4, 3) := dk_167 0 4 (dk_at dksX5_once_0 7 rfl rfl)
theorem dX5_once_10 : decode cX5_once 10 = .ok (.iconst 0, 1) := dk_3 (dk_at dksX5_once_0 10 rfl rfl)
theorem dX5_once_11 : decode cX5_once 11 = .ok (.iload_n 2, 1) := dk_28 (dk_at dksX5_once_0 11 rfl rfl)
theorem dX5_once_12 : decode cX5_once 12 = .ok (.invokevirtual 72, 3) := dk_182 0 72 (dk_at dksX5_once_0 12 rfl rfl)
theorem dX5_once_15 : decode cX5_once 15 = .ok (.aload_n 0, 1) := dk_42 (dk_at dksX5_once_0 15 rfl rfl)
theorem dX5_once_16 : decode cX5_once 16 = .ok (.iload_n 3, 1) := dk_29 (dk_at dksX5_once_0 16 rfl rfl)
theorem dX5_once_17 : decode cX5_once 17 = .ok (.iload 4, 2) := dk_21 4 (dk_at dksX5_once_0 17 rfl rfl)
theorem dX5_once_19 : decode cX5_once 19 = .ok (.invokevirtual 92, 3) := dk_182 0 92 (dk_at dksX5_once_0 19 rfl rfl)
theorem dX5_once_22 : decode cX5_once 22 = .ok (.ireturn, 1) := dk_172 (dk_at dksX5_once_0 22 rfl rfl)
abbrev cX5_either : ByteArray := prog_5_method_15_code
def yX5_either : MethodName := ⟨RX5, "either", "()LPetitionDesk$Rule;"⟩
def dkwX5_either_1 : List UInt8 := [167, 255, 238, 43, 176]
abbrev dktX5_either_1 : List UInt8 := dkwX5_either_1 ++ []
def dkwX5_either_0 : List UInt8 := [42, 182, 0, 192, 76, 42, 18, 195, 182, 0, 197, 153, 0, 15, 43, 42, 182, 0, 192, 184, 0, 200, 76]
abbrev dktX5_either_0 : List UInt8 := dkwX5_either_0 ++ dktX5_either_1
theorem dksX5_either_0 : cX5_either.data.toList.drop 0 = dktX5_either_0 := by decide +kernel
theorem dksX5_either_1 : cX5_either.data.toList.drop 23 = dktX5_either_1 := dk_seg dksX5_either_0 23 rfl rfl
theorem dX5_either_0 : decode cX5_either 0 = .ok (.aload_n 0, 1) := dk_42 (dk_at dksX5_either_0 0 rfl rfl)
theorem dX5_either_1 : decode cX5_either 1 = .ok (.invokevirtual 192, 3) := dk_182 0 192 (dk_at dksX5_either_0 1 rfl rfl)
theorem dX5_either_4 : decode cX5_either 4 = .ok (.astore_n 1, 1) := dk_76 (dk_at dksX5_either_0 4 rfl rfl)
theorem dX5_either_5 : decode cX5_either 5 = .ok (.aload_n 0, 1) := dk_42 (dk_at dksX5_either_0 5 rfl rfl)
theorem dX5_either_6 : decode cX5_either 6 = .ok (.ldc 195, 2) := dk_18 195 (dk_at dksX5_either_0 6 rfl rfl)
theorem dX5_either_8 : decode cX5_either 8 = .ok (.invokevirtual 197, 3) := dk_182 0 197 (dk_at dksX5_either_0 8 rfl rfl)
theorem dX5_either_11 : decode cX5_either 11 = .ok (.ifCond .eq 15, 3) := dk_153 0 15 (dk_at dksX5_either_0 11 rfl rfl)
theorem dX5_either_14 : decode cX5_either 14 = .ok (.aload_n 1, 1) := dk_43 (dk_at dksX5_either_0 14 rfl rfl)
theorem dX5_either_15 : decode cX5_either 15 = .ok (.aload_n 0, 1) := dk_42 (dk_at dksX5_either_0 15 rfl rfl)
theorem dX5_either_16 : decode cX5_either 16 = .ok (.invokevirtual 192, 3) := dk_182 0 192 (dk_at dksX5_either_0 16 rfl rfl)
theorem dX5_either_19 : decode cX5_either 19 = .ok (.invokestatic 200, 3) := dk_184 0 200 (dk_at dksX5_either_0 19 rfl rfl)
theorem dX5_either_22 : decode cX5_either 22 = .ok (.astore_n 1, 1) := dk_76 (dk_at dksX5_either_0 22 rfl rfl)
theorem dX5_either_23 : decode cX5_either 23 = .ok (.goto (-18), 3) := dk_167 255 238 (dk_at dksX5_either_1 0 rfl rfl)
theorem dX5_either_26 : decode cX5_either 26 = .ok (.aload_n 1, 1) := dk_43 (dk_at dksX5_either_1 3 rfl rfl)
theorem dX5_either_27 : decode cX5_either 27 = .ok (.areturn, 1) := dk_176 (dk_at dksX5_either_1 4 rfl rfl)
abbrev cX5_both : ByteArray := prog_5_method_16_code
def yX5_both : MethodName := ⟨RX5, "both", "()LPetitionDesk$Rule;"⟩
def dkwX5_both_1 : List UInt8 := [167, 255, 238, 43, 176]
abbrev dktX5_both_1 : List UInt8 := dkwX5_both_1 ++ []
def dkwX5_both_0 : List UInt8 := [42, 182, 0, 203, 76, 42, 18, 206, 182, 0, 197, 153, 0, 15, 43, 42, 182, 0, 203, 184, 0, 208, 76]
abbrev dktX5_both_0 : List UInt8 := dkwX5_both_0 ++ dktX5_both_1
theorem dksX5_both_0 : cX5_both.data.toList.drop 0 = dktX5_both_0 := by decide +kernel
theorem dksX5_both_1 : cX5_both.data.toList.drop 23 = dktX5_both_1 := dk_seg dksX5_both_0 23 rfl rfl
theorem dX5_both_0 : decode cX5_both 0 = .ok (.aload_n 0, 1) := dk_42 (dk_at dksX5_both_0 0 rfl rfl)
theorem dX5_both_1 : decode cX5_both 1 = .ok (.invokevirtual 203, 3) := dk_182 0 203 (dk_at dksX5_both_0 1 rfl rfl)
theorem dX5_both_4 : decode cX5_both 4 = .ok (.astore_n 1, 1) := dk_76 (dk_at dksX5_both_0 4 rfl rfl)
theorem dX5_both_5 : decode cX5_both 5 = .ok (.aload_n 0, 1) := dk_42 (dk_at dksX5_both_0 5 rfl rfl)
theorem dX5_both_6 : decode cX5_both 6 = .ok (.ldc 206, 2) := dk_18 206 (dk_at dksX5_both_0 6 rfl rfl)
theorem dX5_both_8 : decode cX5_both 8 = .ok (.invokevirtual 197, 3) := dk_182 0 197 (dk_at dksX5_both_0 8 rfl rfl)
theorem dX5_both_11 : decode cX5_both 11 = .ok (.ifCond .eq 15, 3) := dk_153 0 15 (dk_at dksX5_both_0 11 rfl rfl)
theorem dX5_both_14 : decode cX5_both 14 = .ok (.aload_n 1, 1) := dk_43 (dk_at dksX5_both_0 14 rfl rfl)
theorem dX5_both_15 : decode cX5_both 15 = .ok (.aload_n 0, 1) := dk_42 (dk_at dksX5_both_0 15 rfl rfl)
theorem dX5_both_16 : decode cX5_both 16 = .ok (.invokevirtual 203, 3) := dk_182 0 203 (dk_at dksX5_both_0 16 rfl rfl)
theorem dX5_both_19 : decode cX5_both 19 = .ok (.invokestatic 208, 3) := dk_184 0 208 (dk_at dksX5_both_0 19 rfl rfl)
theorem dX5_both_22 : decode cX5_both 22 = .ok (.astore_n 1, 1) := dk_76 (dk_at dksX5_both_0 22 rfl rfl)
theorem dX5_both_23 : decode cX5_both 23 = .ok (.goto (-18), 3) := dk_167 255 238 (dk_at dksX5_both_1 0 rfl rfl)
theorem dX5_both_26 : decode cX5_both 26 = .ok (.aload_n 1, 1) := dk_43 (dk_at dksX5_both_1 3 rfl rfl)
theorem dX5_both_27 : decode cX5_both 27 = .ok (.areturn, 1) := dk_176 (dk_at dksX5_both_1 4 rfl rfl)
abbrev cX5_part : ByteArray := prog_5_method_18_code
def yX5_part : MethodName := ⟨RX5, "part", "()LPetitionDesk$Rule;"⟩
def dkwX5_part_9 : List UInt8 := [43, 45, 186, 0, 230, 0, 0, 176]
abbrev dktX5_part_9 : List UInt8 := dkwX5_part_9 ++ []
def dkwX5_part_8 : List UInt8 := [186, 0, 225, 0, 0, 167, 0, 26, 28, 16, 61, 160, 0, 13, 43, 45, 186, 0, 229, 0, 0, 167, 0, 10]
abbrev dktX5_part_8 : List UInt8 := dkwX5_part_8 ++ dktX5_part_9
def dkwX5_part_7 : List UInt8 := [89, 180, 0, 26, 4, 96, 181, 0, 26, 42, 182, 0, 221, 78, 28, 16, 60, 160, 0, 13, 43, 45]
abbrev dktX5_part_7 : List UInt8 := dkwX5_part_7 ++ dktX5_part_8
def dkwX5_part_6 : List UInt8 := [16, 61, 159, 0, 9, 28, 16, 62, 160, 0, 7, 4, 167, 0, 4, 3, 42, 180, 0, 26, 182, 0, 72, 42]
abbrev dktX5_part_6 : List UInt8 := dkwX5_part_6 ++ dktX5_part_7
def dkwX5_part_5 : List UInt8 := [182, 0, 33, 61, 42, 42, 180, 0, 26, 42, 180, 0, 22, 162, 0, 25, 28, 16, 60, 159, 0, 15, 28]
abbrev dktX5_part_5 : List UInt8 := dkwX5_part_5 ++ dktX5_part_6
def dkwX5_part_4 : List UInt8 := [180, 0, 26, 182, 0, 72, 42, 89, 180, 0, 210, 4, 100, 181, 0, 210, 43, 176, 42, 182, 0, 221, 76, 42]
abbrev dktX5_part_4 : List UInt8 := dkwX5_part_4 ++ dktX5_part_5
def dkwX5_part_3 : List UInt8 := [89, 180, 0, 26, 4, 96, 181, 0, 26, 42, 182, 0, 152, 76, 42, 42, 16, 41, 182, 0, 156, 42]
abbrev dktX5_part_3 : List UInt8 := dkwX5_part_3 ++ dktX5_part_4
def dkwX5_part_2 : List UInt8 := [182, 0, 33, 16, 40, 160, 0, 59, 42, 180, 0, 26, 42, 180, 0, 22, 162, 0, 48, 42, 182, 0, 215, 42]
abbrev dktX5_part_2 : List UInt8 := dkwX5_part_2 ++ dktX5_part_3
def dkwX5_part_1 : List UInt8 := [181, 0, 26, 42, 182, 0, 203, 184, 0, 218, 76, 42, 89, 180, 0, 210, 4, 100, 181, 0, 210, 43, 176, 42]
abbrev dktX5_part_1 : List UInt8 := dkwX5_part_1 ++ dktX5_part_2
def dkwX5_part_0 : List UInt8 := [42, 182, 0, 52, 18, 213, 182, 0, 55, 153, 0, 37, 42, 182, 0, 215, 42, 89, 180, 0, 26, 6, 96]
abbrev dktX5_part_0 : List UInt8 := dkwX5_part_0 ++ dktX5_part_1
theorem dksX5_part_0 : cX5_part.data.toList.drop 0 = dktX5_part_0 := by decide +kernel
theorem dksX5_part_1 : cX5_part.data.toList.drop 23 = dktX5_part_1 := dk_seg dksX5_part_0 23 rfl rfl
theorem dksX5_part_2 : cX5_part.data.toList.drop 47 = dktX5_part_2 := dk_seg dksX5_part_1 24 rfl rfl
theorem dksX5_part_3 : cX5_part.data.toList.drop 71 = dktX5_part_3 := dk_seg dksX5_part_2 24 rfl rfl
theorem dksX5_part_4 : cX5_part.data.toList.drop 93 = dktX5_part_4 := dk_seg dksX5_part_3 22 rfl rfl
theorem dksX5_part_5 : cX5_part.data.toList.drop 117 = dktX5_part_5 := dk_seg dksX5_part_4 24 rfl rfl
theorem dksX5_part_6 : cX5_part.data.toList.drop 140 = dktX5_part_6 := dk_seg dksX5_part_5 23 rfl rfl
theorem dksX5_part_7 : cX5_part.data.toList.drop 164 = dktX5_part_7 := dk_seg dksX5_part_6 24 rfl rfl
theorem dksX5_part_8 : cX5_part.data.toList.drop 186 = dktX5_part_8 := dk_seg dksX5_part_7 22 rfl rfl
theorem dksX5_part_9 : cX5_part.data.toList.drop 210 = dktX5_part_9 := dk_seg dksX5_part_8 24 rfl rfl
theorem dX5_part_0 : decode cX5_part 0 = .ok (.aload_n 0, 1) := dk_42 (dk_at dksX5_part_0 0 rfl rfl)
theorem dX5_part_1 : decode cX5_part 1 = .ok (.invokevirtual 52, 3) := dk_182 0 52 (dk_at dksX5_part_0 1 rfl rfl)
theorem dX5_part_4 : decode cX5_part 4 = .ok (.ldc 213, 2) := dk_18 213 (dk_at dksX5_part_0 4 rfl rfl)
theorem dX5_part_6 : decode cX5_part 6 = .ok (.invokevirtual 55, 3) := dk_182 0 55 (dk_at dksX5_part_0 6 rfl rfl)
theorem dX5_part_9 : decode cX5_part 9 = .ok (.ifCond .eq 37, 3) := dk_153 0 37 (dk_at dksX5_part_0 9 rfl rfl)
theorem dX5_part_12 : decode cX5_part 12 = .ok (.aload_n 0, 1) := dk_42 (dk_at dksX5_part_0 12 rfl rfl)
theorem dX5_part_13 : decode cX5_part 13 = .ok (.invokevirtual 215, 3) := dk_182 0 215 (dk_at dksX5_part_0 13 rfl rfl)
theorem dX5_part_16 : decode cX5_part 16 = .ok (.aload_n 0, 1) := dk_42 (dk_at dksX5_part_0 16 rfl rfl)
theorem dX5_part_17 : decode cX5_part 17 = .ok (.dup, 1) := dk_89 (dk_at dksX5_part_0 17 rfl rfl)
theorem dX5_part_18 : decode cX5_part 18 = .ok (.getfield 26, 3) := dk_180 0 26 (dk_at dksX5_part_0 18 rfl rfl)
theorem dX5_part_21 : decode cX5_part 21 = .ok (.iconst 3, 1) := dk_6 (dk_at dksX5_part_0 21 rfl rfl)
theorem dX5_part_22 : decode cX5_part 22 = .ok (.iadd, 1) := dk_96 (dk_at dksX5_part_0 22 rfl rfl)
theorem dX5_part_23 : decode cX5_part 23 = .ok (.putfield 26, 3) := dk_181 0 26 (dk_at dksX5_part_1 0 rfl rfl)
theorem dX5_part_26 : decode cX5_part 26 = .ok (.aload_n 0, 1) := dk_42 (dk_at dksX5_part_1 3 rfl rfl)
theorem dX5_part_27 : decode cX5_part 27 = .ok (.invokevirtual 203, 3) := dk_182 0 203 (dk_at dksX5_part_1 4 rfl rfl)
theorem dX5_part_30 : decode cX5_part 30 = .ok (.invokestatic 218, 3) := dk_184 0 218 (dk_at dksX5_part_1 7 rfl rfl)
theorem dX5_part_33 : decode cX5_part 33 = .ok (.astore_n 1, 1) := dk_76 (dk_at dksX5_part_1 10 rfl rfl)
theorem dX5_part_34 : decode cX5_part 34 = .ok (.aload_n 0, 1) := dk_42 (dk_at dksX5_part_1 11 rfl rfl)
theorem dX5_part_35 : decode cX5_part 35 = .ok (.dup, 1) := dk_89 (dk_at dksX5_part_1 12 rfl rfl)
theorem dX5_part_36 : decode cX5_part 36 = .ok (.getfield 210, 3) := dk_180 0 210 (dk_at dksX5_part_1 13 rfl rfl)
theorem dX5_part_39 : decode cX5_part 39 = .ok (.iconst 1, 1) := dk_4 (dk_at dksX5_part_1 16 rfl rfl)
theorem dX5_part_40 : decode cX5_part 40 = .ok (.isub, 1) := dk_100 (dk_at dksX5_part_1 17 rfl rfl)
theorem dX5_part_41 : decode cX5_part 41 = .ok (.putfield 210, 3) := dk_181 0 210 (dk_at dksX5_part_1 18 rfl rfl)
theorem dX5_part_44 : decode cX5_part 44 = .ok (.aload_n 1, 1) := dk_43 (dk_at dksX5_part_1 21 rfl rfl)
theorem dX5_part_45 : decode cX5_part 45 = .ok (.areturn, 1) := dk_176 (dk_at dksX5_part_1 22 rfl rfl)
theorem dX5_part_46 : decode cX5_part 46 = .ok (.aload_n 0, 1) := dk_42 (dk_at dksX5_part_1 23 rfl rfl)
theorem dX5_part_47 : decode cX5_part 47 = .ok (.invokevirtual 33, 3) := dk_182 0 33 (dk_at dksX5_part_2 0 rfl rfl)
theorem dX5_part_50 : decode cX5_part 50 = .ok (.bipush 40, 2) := dk_16 40 (dk_at dksX5_part_2 3 rfl rfl)
theorem dX5_part_52 : decode cX5_part 52 = .ok (.if_icmp .ne 59, 3) := dk_160 0 59 (dk_at dksX5_part_2 5 rfl rfl)
theorem dX5_part_55 : decode cX5_part 55 = .ok (.aload_n 0, 1) := dk_42 (dk_at dksX5_part_2 8 rfl rfl)
theorem dX5_part_56 : decode cX5_part 56 = .ok (.getfield 26, 3) := dk_180 0 26 (dk_at dksX5_part_2 9 rfl rfl)
theorem dX5_part_59 : decode cX5_part 59 = .ok (.aload_n 0, 1) := dk_42 (dk_at dksX5_part_2 12 rfl rfl)
theorem dX5_part_60 : decode cX5_part 60 = .ok (.getfield 22, 3) := dk_180 0 22 (dk_at dksX5_part_2 13 rfl rfl)
theorem dX5_part_63 : decode cX5_part 63 = .ok (.if_icmp .ge 48, 3) := dk_162 0 48 (dk_at dksX5_part_2 16 rfl rfl)
theorem dX5_part_66 : decode cX5_part 66 = .ok (.aload_n 0, 1) := dk_42 (dk_at dksX5_part_2 19 rfl rfl)
theorem dX5_part_67 : decode cX5_part 67 = .ok (.invokevirtual 215, 3) := dk_182 0 215 (dk_at dksX5_part_2 20 rfl rfl)
theorem dX5_part_70 : decode cX5_part 70 = .ok (.aload_n 0, 1) := dk_42 (dk_at dksX5_part_2 23 rfl rfl)
theorem dX5_part_71 : decode cX5_part 71 = .ok (.dup, 1) := dk_89 (dk_at dksX5_part_3 0 rfl rfl)
theorem dX5_part_72 : decode cX5_part 72 = .ok (.getfield 26, 3) := dk_180 0 26 (dk_at dksX5_part_3 1 rfl rfl)
theorem dX5_part_75 : decode cX5_part 75 = .ok (.iconst 1, 1) := dk_4 (dk_at dksX5_part_3 4 rfl rfl)
theorem dX5_part_76 : decode cX5_part 76 = .ok (.iadd, 1) := dk_96 (dk_at dksX5_part_3 5 rfl rfl)
theorem dX5_part_77 : decode cX5_part 77 = .ok (.putfield 26, 3) := dk_181 0 26 (dk_at dksX5_part_3 6 rfl rfl)
theorem dX5_part_80 : decode cX5_part 80 = .ok (.aload_n 0, 1) := dk_42 (dk_at dksX5_part_3 9 rfl rfl)
theorem dX5_part_81 : decode cX5_part 81 = .ok (.invokevirtual 152, 3) := dk_182 0 152 (dk_at dksX5_part_3 10 rfl rfl)
theorem dX5_part_84 : decode cX5_part 84 = .ok (.astore_n 1, 1) := dk_76 (dk_at dksX5_part_3 13 rfl rfl)
theorem dX5_part_85 : decode cX5_part 85 = .ok (.aload_n 0, 1) := dk_42 (dk_at dksX5_part_3 14 rfl rfl)
theorem dX5_part_86 : decode cX5_part 86 = .ok (.aload_n 0, 1) := dk_42 (dk_at dksX5_part_3 15 rfl rfl)
theorem dX5_part_87 : decode cX5_part 87 = .ok (.bipush 41, 2) := dk_16 41 (dk_at dksX5_part_3 16 rfl rfl)
theorem dX5_part_89 : decode cX5_part 89 = .ok (.invokevirtual 156, 3) := dk_182 0 156 (dk_at dksX5_part_3 18 rfl rfl)
theorem dX5_part_92 : decode cX5_part 92 = .ok (.aload_n 0, 1) := dk_42 (dk_at dksX5_part_3 21 rfl rfl)
theorem dX5_part_93 : decode cX5_part 93 = .ok (.getfield 26, 3) := dk_180 0 26 (dk_at dksX5_part_4 0 rfl rfl)
theorem dX5_part_96 : decode cX5_part 96 = .ok (.invokevirtual 72, 3) := dk_182 0 72 (dk_at dksX5_part_4 3 rfl rfl)
theorem dX5_part_99 : decode cX5_part 99 = .ok (.aload_n 0, 1) := dk_42 (dk_at dksX5_part_4 6 rfl rfl)
theorem dX5_part_100 : decode cX5_part 100 = .ok (.dup, 1) := dk_89 (dk_at dksX5_part_4 7 rfl rfl)
theorem dX5_part_101 : decode cX5_part 101 = .ok (.getfield 210, 3) := dk_180 0 210 (dk_at dksX5_part_4 8 rfl rfl)
theorem dX5_part_104 : decode cX5_part 104 = .ok (.iconst 1, 1) := dk_4 (dk_at dksX5_part_4 11 rfl rfl)
theorem dX5_part_105 : decode cX5_part 105 = .ok (.isub, 1) := dk_100 (dk_at dksX5_part_4 12 rfl rfl)
theorem dX5_part_106 : decode cX5_part 106 = .ok (.putfield 210, 3) := dk_181 0 210 (dk_at dksX5_part_4 13 rfl rfl)
theorem dX5_part_109 : decode cX5_part 109 = .ok (.aload_n 1, 1) := dk_43 (dk_at dksX5_part_4 16 rfl rfl)
theorem dX5_part_110 : decode cX5_part 110 = .ok (.areturn, 1) := dk_176 (dk_at dksX5_part_4 17 rfl rfl)
theorem dX5_part_111 : decode cX5_part 111 = .ok (.aload_n 0, 1) := dk_42 (dk_at dksX5_part_4 18 rfl rfl)
theorem dX5_part_112 : decode cX5_part 112 = .ok (.invokevirtual 221, 3) := dk_182 0 221 (dk_at dksX5_part_4 19 rfl rfl)
theorem dX5_part_115 : decode cX5_part 115 = .ok (.astore_n 1, 1) := dk_76 (dk_at dksX5_part_4 22 rfl rfl)
theorem dX5_part_116 : decode cX5_part 116 = .ok (.aload_n 0, 1) := dk_42 (dk_at dksX5_part_4 23 rfl rfl)
theorem dX5_part_117 : decode cX5_part 117 = .ok (.invokevirtual 33, 3) := dk_182 0 33 (dk_at dksX5_part_5 0 rfl rfl)
theorem dX5_part_120 : decode cX5_part 120 = .ok (.istore_n 2, 1) := dk_61 (dk_at dksX5_part_5 3 rfl rfl)
theorem dX5_part_121 : decode cX5_part 121 = .ok (.aload_n 0, 1) := dk_42 (dk_at dksX5_part_5 4 rfl rfl)
theorem dX5_part_122 : decode cX5_part 122 = .ok (.aload_n 0, 1) := dk_42 (dk_at dksX5_part_5 5 rfl rfl)
theorem dX5_part_123 : decode cX5_part 123 = .ok (.getfield 26, 3) := dk_180 0 26 (dk_at dksX5_part_5 6 rfl rfl)
theorem dX5_part_126 : decode cX5_part 126 = .ok (.aload_n 0, 1) := dk_42 (dk_at dksX5_part_5 9 rfl rfl)
theorem dX5_part_127 : decode cX5_part 127 = .ok (.getfield 22, 3) := dk_180 0 22 (dk_at dksX5_part_5 10 rfl rfl)
theorem dX5_part_130 : decode cX5_part 130 = .ok (.if_icmp .ge 25, 3) := dk_162 0 25 (dk_at dksX5_part_5 13 rfl rfl)
theorem dX5_part_133 : decode cX5_part 133 = .ok (.iload_n 2, 1) := dk_28 (dk_at dksX5_part_5 16 rfl rfl)
theorem dX5_part_134 : decode cX5_part 134 = .ok (.bipush 60, 2) := dk_16 60 (dk_at dksX5_part_5 17 rfl rfl)
theorem dX5_part_136 : decode cX5_part 136 = .ok (.if_icmp .eq 15, 3) := dk_159 0 15 (dk_at dksX5_part_5 19 rfl rfl)
theorem dX5_part_139 : decode cX5_part 139 = .ok (.iload_n 2, 1) := dk_28 (dk_at dksX5_part_5 22 rfl rfl)
theorem dX5_part_140 : decode cX5_part 140 = .ok (.bipush 61, 2) := dk_16 61 (dk_at dksX5_part_6 0 rfl rfl)
theorem dX5_part_142 : decode cX5_part 142 = .ok (.if_icmp .eq 9, 3) := dk_159 0 9 (dk_at dksX5_part_6 2 rfl rfl)
theorem dX5_part_145 : decode cX5_part 145 = .ok (.iload_n 2, 1) := dk_28 (dk_at dksX5_part_6 5 rfl rfl)
theorem dX5_part_146 : decode cX5_part 146 = .ok (.bipush 62, 2) := dk_16 62 (dk_at dksX5_part_6 6 rfl rfl)
theorem dX5_part_148 : decode cX5_part 148 = .ok (.if_icmp .ne 7, 3) := dk_160 0 7 (dk_at dksX5_part_6 8 rfl rfl)
theorem dX5_part_151 : decode cX5_part 151 = .ok (.iconst 1, 1) := dk_4 (dk_at dksX5_part_6 11 rfl rfl)
theorem dX5_part_152 : decode cX5_part 152 = .ok (.goto 4, 3) := dk_167 0 4 (dk_at dksX5_part_6 12 rfl rfl)
theorem dX5_part_155 : decode cX5_part 155 = .ok (.iconst 0, 1) := dk_3 (dk_at dksX5_part_6 15 rfl rfl)
theorem dX5_part_156 : decode cX5_part 156 = .ok (.aload_n 0, 1) := dk_42 (dk_at dksX5_part_6 16 rfl rfl)
theorem dX5_part_157 : decode cX5_part 157 = .ok (.getfield 26, 3) := dk_180 0 26 (dk_at dksX5_part_6 17 rfl rfl)
theorem dX5_part_160 : decode cX5_part 160 = .ok (.invokevirtual 72, 3) := dk_182 0 72 (dk_at dksX5_part_6 20 rfl rfl)
theorem dX5_part_163 : decode cX5_part 163 = .ok (.aload_n 0, 1) := dk_42 (dk_at dksX5_part_6 23 rfl rfl)
theorem dX5_part_164 : decode cX5_part 164 = .ok (.dup, 1) := dk_89 (dk_at dksX5_part_7 0 rfl rfl)
theorem dX5_part_165 : decode cX5_part 165 = .ok (.getfield 26, 3) := dk_180 0 26 (dk_at dksX5_part_7 1 rfl rfl)
theorem dX5_part_168 : decode cX5_part 168 = .ok (.iconst 1, 1) := dk_4 (dk_at dksX5_part_7 4 rfl rfl)
theorem dX5_part_169 : decode cX5_part 169 = .ok (.iadd, 1) := dk_96 (dk_at dksX5_part_7 5 rfl rfl)
theorem dX5_part_170 : decode cX5_part 170 = .ok (.putfield 26, 3) := dk_181 0 26 (dk_at dksX5_part_7 6 rfl rfl)
theorem dX5_part_173 : decode cX5_part 173 = .ok (.aload_n 0, 1) := dk_42 (dk_at dksX5_part_7 9 rfl rfl)
theorem dX5_part_174 : decode cX5_part 174 = .ok (.invokevirtual 221, 3) := dk_182 0 221 (dk_at dksX5_part_7 10 rfl rfl)
theorem dX5_part_177 : decode cX5_part 177 = .ok (.astore_n 3, 1) := dk_78 (dk_at dksX5_part_7 13 rfl rfl)
theorem dX5_part_178 : decode cX5_part 178 = .ok (.iload_n 2, 1) := dk_28 (dk_at dksX5_part_7 14 rfl rfl)
theorem dX5_part_179 : decode cX5_part 179 = .ok (.bipush 60, 2) := dk_16 60 (dk_at dksX5_part_7 15 rfl rfl)
theorem dX5_part_181 : decode cX5_part 181 = .ok (.if_icmp .ne 13, 3) := dk_160 0 13 (dk_at dksX5_part_7 17 rfl rfl)
theorem dX5_part_184 : decode cX5_part 184 = .ok (.aload_n 1, 1) := dk_43 (dk_at dksX5_part_7 20 rfl rfl)
theorem dX5_part_185 : decode cX5_part 185 = .ok (.aload_n 3, 1) := dk_45 (dk_at dksX5_part_7 21 rfl rfl)
theorem dX5_part_186 : decode cX5_part 186 = .ok (.invokedynamic 225, 5) := by decide +kernel
theorem dX5_part_191 : decode cX5_part 191 = .ok (.goto 26, 3) := dk_167 0 26 (dk_at dksX5_part_8 5 rfl rfl)
theorem dX5_part_194 : decode cX5_part 194 = .ok (.iload_n 2, 1) := dk_28 (dk_at dksX5_part_8 8 rfl rfl)
theorem dX5_part_195 : decode cX5_part 195 = .ok (.bipush 61, 2) := dk_16 61 (dk_at dksX5_part_8 9 rfl rfl)
theorem dX5_part_197 : decode cX5_part 197 = .ok (.if_icmp .ne 13, 3) := dk_160 0 13 (dk_at dksX5_part_8 11 rfl rfl)
theorem dX5_part_200 : decode cX5_part 200 = .ok (.aload_n 1, 1) := dk_43 (dk_at dksX5_part_8 14 rfl rfl)
theorem dX5_part_201 : decode cX5_part 201 = .ok (.aload_n 3, 1) := dk_45 (dk_at dksX5_part_8 15 rfl rfl)
theorem dX5_part_202 : decode cX5_part 202 = .ok (.invokedynamic 229, 5) := by decide +kernel
theorem dX5_part_207 : decode cX5_part 207 = .ok (.goto 10, 3) := dk_167 0 10 (dk_at dksX5_part_8 21 rfl rfl)
theorem dX5_part_210 : decode cX5_part 210 = .ok (.aload_n 1, 1) := dk_43 (dk_at dksX5_part_9 0 rfl rfl)
theorem dX5_part_211 : decode cX5_part 211 = .ok (.aload_n 3, 1) := dk_45 (dk_at dksX5_part_9 1 rfl rfl)
theorem dX5_part_212 : decode cX5_part 212 = .ok (.invokedynamic 230, 5) := by decide +kernel
theorem dX5_part_217 : decode cX5_part 217 = .ok (.areturn, 1) := dk_176 (dk_at dksX5_part_9 7 rfl rfl)
abbrev cX5_opens : ByteArray := prog_5_method_17_code
def yX5_opens : MethodName := ⟨RX5, "opens", "()V"⟩
def dkwX5_opens_1 : List UInt8 := [180, 0, 210, 4, 96, 181, 0, 210, 177]
abbrev dktX5_opens_1 : List UInt8 := dkwX5_opens_1 ++ []
def dkwX5_opens_0 : List UInt8 := [42, 180, 0, 210, 7, 160, 0, 16, 187, 0, 64, 89, 8, 42, 180, 0, 26, 183, 0, 66, 191, 42, 89]
abbrev dktX5_opens_0 : List UInt8 := dkwX5_opens_0 ++ dktX5_opens_1
theorem dksX5_opens_0 : cX5_opens.data.toList.drop 0 = dktX5_opens_0 := by decide +kernel
theorem dksX5_opens_1 : cX5_opens.data.toList.drop 23 = dktX5_opens_1 := dk_seg dksX5_opens_0 23 rfl rfl
theorem dX5_opens_0 : decode cX5_opens 0 = .ok (.aload_n 0, 1) := dk_42 (dk_at dksX5_opens_0 0 rfl rfl)
theorem dX5_opens_1 : decode cX5_opens 1 = .ok (.getfield 210, 3) := dk_180 0 210 (dk_at dksX5_opens_0 1 rfl rfl)
theorem dX5_opens_4 : decode cX5_opens 4 = .ok (.iconst 4, 1) := dk_7 (dk_at dksX5_opens_0 4 rfl rfl)
theorem dX5_opens_5 : decode cX5_opens 5 = .ok (.if_icmp .ne 16, 3) := dk_160 0 16 (dk_at dksX5_opens_0 5 rfl rfl)
theorem dX5_opens_8 : decode cX5_opens 8 = .ok (.new 64, 3) := dk_187 0 64 (dk_at dksX5_opens_0 8 rfl rfl)
theorem dX5_opens_11 : decode cX5_opens 11 = .ok (.dup, 1) := dk_89 (dk_at dksX5_opens_0 11 rfl rfl)
theorem dX5_opens_12 : decode cX5_opens 12 = .ok (.iconst 5, 1) := dk_8 (dk_at dksX5_opens_0 12 rfl rfl)
theorem dX5_opens_13 : decode cX5_opens 13 = .ok (.aload_n 0, 1) := dk_42 (dk_at dksX5_opens_0 13 rfl rfl)
theorem dX5_opens_14 : decode cX5_opens 14 = .ok (.getfield 26, 3) := dk_180 0 26 (dk_at dksX5_opens_0 14 rfl rfl)
theorem dX5_opens_17 : decode cX5_opens 17 = .ok (.invokespecial 66, 3) := dk_183 0 66 (dk_at dksX5_opens_0 17 rfl rfl)
theorem dX5_opens_20 : decode cX5_opens 20 = .ok (.athrow, 1) := dk_191 (dk_at dksX5_opens_0 20 rfl rfl)
theorem dX5_opens_21 : decode cX5_opens 21 = .ok (.aload_n 0, 1) := dk_42 (dk_at dksX5_opens_0 21 rfl rfl)
theorem dX5_opens_22 : decode cX5_opens 22 = .ok (.dup, 1) := dk_89 (dk_at dksX5_opens_0 22 rfl rfl)
theorem dX5_opens_23 : decode cX5_opens 23 = .ok (.getfield 210, 3) := dk_180 0 210 (dk_at dksX5_opens_1 0 rfl rfl)
theorem dX5_opens_26 : decode cX5_opens 26 = .ok (.iconst 1, 1) := dk_4 (dk_at dksX5_opens_1 3 rfl rfl)
theorem dX5_opens_27 : decode cX5_opens 27 = .ok (.iadd, 1) := dk_96 (dk_at dksX5_opens_1 4 rfl rfl)
theorem dX5_opens_28 : decode cX5_opens 28 = .ok (.putfield 210, 3) := dk_181 0 210 (dk_at dksX5_opens_1 5 rfl rfl)
theorem dX5_opens_31 : decode cX5_opens 31 = .ok (.return_, 1) := dk_177 (dk_at dksX5_opens_1 8 rfl rfl)
abbrev cX5_passes : ByteArray := prog_5_method_7_code
def yX5_passes : MethodName := ⟨RX5, "passes", "(I)Z"⟩
def dkwX5_passes_1 : List UInt8 := [180, 0, 26, 4, 96, 181, 0, 26, 4, 172]
abbrev dktX5_passes_1 : List UInt8 := dkwX5_passes_1 ++ []
def dkwX5_passes_0 : List UInt8 := [42, 182, 0, 33, 27, 160, 0, 14, 42, 180, 0, 26, 42, 180, 0, 22, 161, 0, 5, 3, 172, 42, 89]
abbrev dktX5_passes_0 : List UInt8 := dkwX5_passes_0 ++ dktX5_passes_1
theorem dksX5_passes_0 : cX5_passes.data.toList.drop 0 = dktX5_passes_0 := by decide +kernel
theorem dksX5_passes_1 : cX5_passes.data.toList.drop 23 = dktX5_passes_1 := dk_seg dksX5_passes_0 23 rfl rfl
theorem dX5_passes_0 : decode cX5_passes 0 = .ok (.aload_n 0, 1) := dk_42 (dk_at dksX5_passes_0 0 rfl rfl)
theorem dX5_passes_1 : decode cX5_passes 1 = .ok (.invokevirtual 33, 3) := dk_182 0 33 (dk_at dksX5_passes_0 1 rfl rfl)
theorem dX5_passes_4 : decode cX5_passes 4 = .ok (.iload_n 1, 1) := dk_27 (dk_at dksX5_passes_0 4 rfl rfl)
theorem dX5_passes_5 : decode cX5_passes 5 = .ok (.if_icmp .ne 14, 3) := dk_160 0 14 (dk_at dksX5_passes_0 5 rfl rfl)
theorem dX5_passes_8 : decode cX5_passes 8 = .ok (.aload_n 0, 1) := dk_42 (dk_at dksX5_passes_0 8 rfl rfl)
theorem dX5_passes_9 : decode cX5_passes 9 = .ok (.getfield 26, 3) := dk_180 0 26 (dk_at dksX5_passes_0 9 rfl rfl)
theorem dX5_passes_12 : decode cX5_passes 12 = .ok (.aload_n 0, 1) := dk_42 (dk_at dksX5_passes_0 12 rfl rfl)
theorem dX5_passes_13 : decode cX5_passes 13 = .ok (.getfield 22, 3) := dk_180 0 22 (dk_at dksX5_passes_0 13 rfl rfl)
theorem dX5_passes_16 : decode cX5_passes 16 = .ok (.if_icmp .lt 5, 3) := dk_161 0 5 (dk_at dksX5_passes_0 16 rfl rfl)
theorem dX5_passes_19 : decode cX5_passes 19 = .ok (.iconst 0, 1) := dk_3 (dk_at dksX5_passes_0 19 rfl rfl)
theorem dX5_passes_20 : decode cX5_passes 20 = .ok (.ireturn, 1) := dk_172 (dk_at dksX5_passes_0 20 rfl rfl)
theorem dX5_passes_21 : decode cX5_passes 21 = .ok (.aload_n 0, 1) := dk_42 (dk_at dksX5_passes_0 21 rfl rfl)
theorem dX5_passes_22 : decode cX5_passes 22 = .ok (.dup, 1) := dk_89 (dk_at dksX5_passes_0 22 rfl rfl)
theorem dX5_passes_23 : decode cX5_passes 23 = .ok (.getfield 26, 3) := dk_180 0 26 (dk_at dksX5_passes_1 0 rfl rfl)
theorem dX5_passes_26 : decode cX5_passes 26 = .ok (.iconst 1, 1) := dk_4 (dk_at dksX5_passes_1 3 rfl rfl)
theorem dX5_passes_27 : decode cX5_passes 27 = .ok (.iadd, 1) := dk_96 (dk_at dksX5_passes_1 4 rfl rfl)
theorem dX5_passes_28 : decode cX5_passes 28 = .ok (.putfield 26, 3) := dk_181 0 26 (dk_at dksX5_passes_1 5 rfl rfl)
theorem dX5_passes_31 : decode cX5_passes 31 = .ok (.iconst 1, 1) := dk_4 (dk_at dksX5_passes_1 8 rfl rfl)
theorem dX5_passes_32 : decode cX5_passes 32 = .ok (.ireturn, 1) := dk_172 (dk_at dksX5_passes_1 9 rfl rfl)
abbrev cX5_reading : ByteArray := prog_5_method_19_code
def yX5_reading : MethodName := ⟨RX5, "reading", "()LPetitionDesk$Reading;"⟩
def dkwX5_reading_4 : List UInt8 := [17, 3, 231, 182, 0, 92, 60, 27, 186, 0, 249, 0, 0, 176]
abbrev dktX5_reading_4 : List UInt8 := dkwX5_reading_4 ++ []
def dkwX5_reading_3 : List UInt8 := [186, 0, 245, 0, 0, 176, 42, 18, 246, 182, 0, 197, 153, 0, 9, 186, 0, 248, 0, 0, 176, 42, 3]
abbrev dktX5_reading_3 : List UInt8 := dkwX5_reading_3 ++ dktX5_reading_4
def dkwX5_reading_2 : List UInt8 := [182, 0, 197, 153, 0, 9, 186, 0, 242, 0, 0, 176, 42, 18, 243, 182, 0, 197, 153, 0, 9]
abbrev dktX5_reading_2 : List UInt8 := dkwX5_reading_2 ++ dktX5_reading_3
def dkwX5_reading_1 : List UInt8 := [186, 0, 238, 0, 0, 176, 42, 18, 239, 182, 0, 197, 153, 0, 9, 186, 0, 241, 0, 0, 176, 42, 18, 100]
abbrev dktX5_reading_1 : List UInt8 := dkwX5_reading_1 ++ dktX5_reading_2
def dkwX5_reading_0 : List UInt8 := [42, 18, 231, 182, 0, 197, 153, 0, 9, 186, 0, 233, 0, 0, 176, 42, 18, 236, 182, 0, 197, 153, 0, 9]
abbrev dktX5_reading_0 : List UInt8 := dkwX5_reading_0 ++ dktX5_reading_1
theorem dksX5_reading_0 : cX5_reading.data.toList.drop 0 = dktX5_reading_0 := by decide +kernel
theorem dksX5_reading_1 : cX5_reading.data.toList.drop 24 = dktX5_reading_1 := dk_seg dksX5_reading_0 24 rfl rfl
theorem dksX5_reading_2 : cX5_reading.data.toList.drop 48 = dktX5_reading_2 := dk_seg dksX5_reading_1 24 rfl rfl
theorem dksX5_reading_3 : cX5_reading.data.toList.drop 69 = dktX5_reading_3 := dk_seg dksX5_reading_2 21 rfl rfl
theorem dksX5_reading_4 : cX5_reading.data.toList.drop 92 = dktX5_reading_4 := dk_seg dksX5_reading_3 23 rfl rfl
theorem dX5_reading_0 : decode cX5_reading 0 = .ok (.aload_n 0, 1) := dk_42 (dk_at dksX5_reading_0 0 rfl rfl)
theorem dX5_reading_1 : decode cX5_reading 1 = .ok (.ldc 231, 2) := dk_18 231 (dk_at dksX5_reading_0 1 rfl rfl)
theorem dX5_reading_3 : decode cX5_reading 3 = .ok (.invokevirtual 197, 3) := dk_182 0 197 (dk_at dksX5_reading_0 3 rfl rfl)
theorem dX5_reading_6 : decode cX5_reading 6 = .ok (.ifCond .eq 9, 3) := dk_153 0 9 (dk_at dksX5_reading_0 6 rfl rfl)
theorem dX5_reading_9 : decode cX5_reading 9 = .ok (.invokedynamic 233, 5) := by decide +kernel
theorem dX5_reading_14 : decode cX5_reading 14 = .ok (.areturn, 1) := dk_176 (dk_at dksX5_reading_0 14 rfl rfl)
theorem dX5_reading_15 : decode cX5_reading 15 = .ok (.aload_n 0, 1) := dk_42 (dk_at dksX5_reading_0 15 rfl rfl)
theorem dX5_reading_16 : decode cX5_reading 16 = .ok (.ldc 236, 2) := dk_18 236 (dk_at dksX5_reading_0 16 rfl rfl)
theorem dX5_reading_18 : decode cX5_reading 18 = .ok (.invokevirtual 197, 3) := dk_182 0 197 (dk_at dksX5_reading_0 18 rfl rfl)
theorem dX5_reading_21 : decode cX5_reading 21 = .ok (.ifCond .eq 9, 3) := dk_153 0 9 (dk_at dksX5_reading_0 21 rfl rfl)
theorem dX5_reading_24 : decode cX5_reading 24 = .ok (.invokedynamic 238, 5) := by decide +kernel
theorem dX5_reading_29 : decode cX5_reading 29 = .ok (.areturn, 1) := dk_176 (dk_at dksX5_reading_1 5 rfl rfl)
theorem dX5_reading_30 : decode cX5_reading 30 = .ok (.aload_n 0, 1) := dk_42 (dk_at dksX5_reading_1 6 rfl rfl)
theorem dX5_reading_31 : decode cX5_reading 31 = .ok (.ldc 239, 2) := dk_18 239 (dk_at dksX5_reading_1 7 rfl rfl)
theorem dX5_reading_33 : decode cX5_reading 33 = .ok (.invokevirtual 197, 3) := dk_182 0 197 (dk_at dksX5_reading_1 9 rfl rfl)
theorem dX5_reading_36 : decode cX5_reading 36 = .ok (.ifCond .eq 9, 3) := dk_153 0 9 (dk_at dksX5_reading_1 12 rfl rfl)
theorem dX5_reading_39 : decode cX5_reading 39 = .ok (.invokedynamic 241, 5) := by decide +kernel
theorem dX5_reading_44 : decode cX5_reading 44 = .ok (.areturn, 1) := dk_176 (dk_at dksX5_reading_1 20 rfl rfl)
theorem dX5_reading_45 : decode cX5_reading 45 = .ok (.aload_n 0, 1) := dk_42 (dk_at dksX5_reading_1 21 rfl rfl)
theorem dX5_reading_46 : decode cX5_reading 46 = .ok (.ldc 100, 2) := dk_18 100 (dk_at dksX5_reading_1 22 rfl rfl)
theorem dX5_reading_48 : decode cX5_reading 48 = .ok (.invokevirtual 197, 3) := dk_182 0 197 (dk_at dksX5_reading_2 0 rfl rfl)
theorem dX5_reading_51 : decode cX5_reading 51 = .ok (.ifCond .eq 9, 3) := dk_153 0 9 (dk_at dksX5_reading_2 3 rfl rfl)
theorem dX5_reading_54 : decode cX5_reading 54 = .ok (.invokedynamic 242, 5) := by decide +kernel
theorem dX5_reading_59 : decode cX5_reading 59 = .ok (.areturn, 1) := dk_176 (dk_at dksX5_reading_2 11 rfl rfl)
theorem dX5_reading_60 : decode cX5_reading 60 = .ok (.aload_n 0, 1) := dk_42 (dk_at dksX5_reading_2 12 rfl rfl)
theorem dX5_reading_61 : decode cX5_reading 61 = .ok (.ldc 243, 2) := dk_18 243 (dk_at dksX5_reading_2 13 rfl rfl)
theorem dX5_reading_63 : decode cX5_reading 63 = .ok (.invokevirtual 197, 3) := dk_182 0 197 (dk_at dksX5_reading_2 15 rfl rfl)
theorem dX5_reading_66 : decode cX5_reading 66 = .ok (.ifCond .eq 9, 3) := dk_153 0 9 (dk_at dksX5_reading_2 18 rfl rfl)
theorem dX5_reading_69 : decode cX5_reading 69 = .ok (.invokedynamic 245, 5) := by decide +kernel
theorem dX5_reading_74 : decode cX5_reading 74 = .ok (.areturn, 1) := dk_176 (dk_at dksX5_reading_3 5 rfl rfl)
theorem dX5_reading_75 : decode cX5_reading 75 = .ok (.aload_n 0, 1) := dk_42 (dk_at dksX5_reading_3 6 rfl rfl)
theorem dX5_reading_76 : decode cX5_reading 76 = .ok (.ldc 246, 2) := dk_18 246 (dk_at dksX5_reading_3 7 rfl rfl)
theorem dX5_reading_78 : decode cX5_reading 78 = .ok (.invokevirtual 197, 3) := dk_182 0 197 (dk_at dksX5_reading_3 9 rfl rfl)
theorem dX5_reading_81 : decode cX5_reading 81 = .ok (.ifCond .eq 9, 3) := dk_153 0 9 (dk_at dksX5_reading_3 12 rfl rfl)
theorem dX5_reading_84 : decode cX5_reading 84 = .ok (.invokedynamic 248, 5) := by decide +kernel
theorem dX5_reading_89 : decode cX5_reading 89 = .ok (.areturn, 1) := dk_176 (dk_at dksX5_reading_3 20 rfl rfl)
theorem dX5_reading_90 : decode cX5_reading 90 = .ok (.aload_n 0, 1) := dk_42 (dk_at dksX5_reading_3 21 rfl rfl)
theorem dX5_reading_91 : decode cX5_reading 91 = .ok (.iconst 0, 1) := dk_3 (dk_at dksX5_reading_3 22 rfl rfl)
theorem dX5_reading_92 : decode cX5_reading 92 = .ok (.sipush 999, 3) := dk_17 3 231 (dk_at dksX5_reading_4 0 rfl rfl)
theorem dX5_reading_95 : decode cX5_reading 95 = .ok (.invokevirtual 92, 3) := dk_182 0 92 (dk_at dksX5_reading_4 3 rfl rfl)
theorem dX5_reading_98 : decode cX5_reading 98 = .ok (.istore_n 1, 1) := dk_60 (dk_at dksX5_reading_4 6 rfl rfl)
theorem dX5_reading_99 : decode cX5_reading 99 = .ok (.iload_n 1, 1) := dk_27 (dk_at dksX5_reading_4 7 rfl rfl)
theorem dX5_reading_100 : decode cX5_reading 100 = .ok (.invokedynamic 249, 5) := by decide +kernel
theorem dX5_reading_105 : decode cX5_reading 105 = .ok (.areturn, 1) := dk_176 (dk_at dksX5_reading_4 13 rfl rfl)
abbrev cX5_passes_2 : ByteArray := prog_5_method_6_code
def yX5_passes_2 : MethodName := ⟨RX5, "passes", "(Ljava/lang/String;)Z"⟩
def dkwX5_passes_2_1 : List UInt8 := [181, 0, 26, 4, 172]
abbrev dktX5_passes_2_1 : List UInt8 := dkwX5_passes_2_1 ++ []
def dkwX5_passes_2_0 : List UInt8 := [42, 182, 0, 52, 43, 182, 0, 55, 154, 0, 5, 3, 172, 42, 89, 180, 0, 26, 43, 182, 0, 61, 96]
abbrev dktX5_passes_2_0 : List UInt8 := dkwX5_passes_2_0 ++ dktX5_passes_2_1
theorem dksX5_passes_2_0 : cX5_passes_2.data.toList.drop 0 = dktX5_passes_2_0 := by decide +kernel
theorem dksX5_passes_2_1 : cX5_passes_2.data.toList.drop 23 = dktX5_passes_2_1 := dk_seg dksX5_passes_2_0 23 rfl rfl
theorem dX5_passes_2_0 : decode cX5_passes_2 0 = .ok (.aload_n 0, 1) := dk_42 (dk_at dksX5_passes_2_0 0 rfl rfl)
theorem dX5_passes_2_1 : decode cX5_passes_2 1 = .ok (.invokevirtual 52, 3) := dk_182 0 52 (dk_at dksX5_passes_2_0 1 rfl rfl)
theorem dX5_passes_2_4 : decode cX5_passes_2 4 = .ok (.aload_n 1, 1) := dk_43 (dk_at dksX5_passes_2_0 4 rfl rfl)
theorem dX5_passes_2_5 : decode cX5_passes_2 5 = .ok (.invokevirtual 55, 3) := dk_182 0 55 (dk_at dksX5_passes_2_0 5 rfl rfl)
theorem dX5_passes_2_8 : decode cX5_passes_2 8 = .ok (.ifCond .ne 5, 3) := dk_154 0 5 (dk_at dksX5_passes_2_0 8 rfl rfl)
theorem dX5_passes_2_11 : decode cX5_passes_2 11 = .ok (.iconst 0, 1) := dk_3 (dk_at dksX5_passes_2_0 11 rfl rfl)
theorem dX5_passes_2_12 : decode cX5_passes_2 12 = .ok (.ireturn, 1) := dk_172 (dk_at dksX5_passes_2_0 12 rfl rfl)
theorem dX5_passes_2_13 : decode cX5_passes_2 13 = .ok (.aload_n 0, 1) := dk_42 (dk_at dksX5_passes_2_0 13 rfl rfl)
theorem dX5_passes_2_14 : decode cX5_passes_2 14 = .ok (.dup, 1) := dk_89 (dk_at dksX5_passes_2_0 14 rfl rfl)
theorem dX5_passes_2_15 : decode cX5_passes_2 15 = .ok (.getfield 26, 3) := dk_180 0 26 (dk_at dksX5_passes_2_0 15 rfl rfl)
theorem dX5_passes_2_18 : decode cX5_passes_2 18 = .ok (.aload_n 1, 1) := dk_43 (dk_at dksX5_passes_2_0 18 rfl rfl)
theorem dX5_passes_2_19 : decode cX5_passes_2 19 = .ok (.invokevirtual 61, 3) := dk_182 0 61 (dk_at dksX5_passes_2_0 19 rfl rfl)
theorem dX5_passes_2_22 : decode cX5_passes_2 22 = .ok (.iadd, 1) := dk_96 (dk_at dksX5_passes_2_0 22 rfl rfl)
theorem dX5_passes_2_23 : decode cX5_passes_2 23 = .ok (.putfield 26, 3) := dk_181 0 26 (dk_at dksX5_passes_2_1 0 rfl rfl)
theorem dX5_passes_2_26 : decode cX5_passes_2 26 = .ok (.iconst 1, 1) := dk_4 (dk_at dksX5_passes_2_1 3 rfl rfl)
theorem dX5_passes_2_27 : decode cX5_passes_2 27 = .ok (.ireturn, 1) := dk_172 (dk_at dksX5_passes_2_1 4 rfl rfl)
abbrev cX5_lambda_reading_3 : ByteArray := prog_5_method_27_code
def yX5_lambda_reading_3 : MethodName := ⟨RX5, "lambda$reading$3", "(LPetitionDesk$Line;)I"⟩
theorem dX5_lambda_reading_3_0 : decode cX5_lambda_reading_3 0 = .ok (.aload_n 0, 1) := by decide +kernel
theorem dX5_lambda_reading_3_1 : decode cX5_lambda_reading_3 1 = .ok (.getfield 271, 3) := by decide +kernel
theorem dX5_lambda_reading_3_4 : decode cX5_lambda_reading_3 4 = .ok (.ireturn, 1) := by decide +kernel
abbrev cX5_lambda_reading_4 : ByteArray := prog_5_method_26_code
def yX5_lambda_reading_4 : MethodName := ⟨RX5, "lambda$reading$4", "(LPetitionDesk$Line;)I"⟩
theorem dX5_lambda_reading_4_0 : decode cX5_lambda_reading_4 0 = .ok (.aload_n 0, 1) := by decide +kernel
theorem dX5_lambda_reading_4_1 : decode cX5_lambda_reading_4 1 = .ok (.getfield 269, 3) := by decide +kernel
theorem dX5_lambda_reading_4_4 : decode cX5_lambda_reading_4 4 = .ok (.ireturn, 1) := by decide +kernel
abbrev cX5_lambda_reading_5 : ByteArray := prog_5_method_25_code
def yX5_lambda_reading_5 : MethodName := ⟨RX5, "lambda$reading$5", "(LPetitionDesk$Line;)I"⟩
theorem dX5_lambda_reading_5_0 : decode cX5_lambda_reading_5 0 = .ok (.aload_n 0, 1) := by decide +kernel
theorem dX5_lambda_reading_5_1 : decode cX5_lambda_reading_5 1 = .ok (.getfield 290, 3) := by decide +kernel
theorem dX5_lambda_reading_5_4 : decode cX5_lambda_reading_5 4 = .ok (.ireturn, 1) := by decide +kernel
abbrev cX5_lambda_reading_6 : ByteArray := prog_5_method_24_code
def yX5_lambda_reading_6 : MethodName := ⟨RX5, "lambda$reading$6", "(LPetitionDesk$Line;)I"⟩
theorem dX5_lambda_reading_6_0 : decode cX5_lambda_reading_6 0 = .ok (.aload_n 0, 1) := by decide +kernel
theorem dX5_lambda_reading_6_1 : decode cX5_lambda_reading_6 1 = .ok (.getfield 288, 3) := by decide +kernel
theorem dX5_lambda_reading_6_4 : decode cX5_lambda_reading_6 4 = .ok (.ireturn, 1) := by decide +kernel
abbrev cX5_lambda_reading_7 : ByteArray := prog_5_method_23_code
def yX5_lambda_reading_7 : MethodName := ⟨RX5, "lambda$reading$7", "(LPetitionDesk$Line;)I"⟩
def dkwX5_lambda_reading_7_0 : List UInt8 := [42, 180, 1, 27, 180, 1, 30, 172]
abbrev dktX5_lambda_reading_7_0 : List UInt8 := dkwX5_lambda_reading_7_0 ++ []
theorem dksX5_lambda_reading_7_0 : cX5_lambda_reading_7.data.toList.drop 0 = dktX5_lambda_reading_7_0 := by decide +kernel
theorem dX5_lambda_reading_7_0 : decode cX5_lambda_reading_7 0 = .ok (.aload_n 0, 1) := dk_42 (dk_at dksX5_lambda_reading_7_0 0 rfl rfl)
theorem dX5_lambda_reading_7_1 : decode cX5_lambda_reading_7 1 = .ok (.getfield 283, 3) := dk_180 1 27 (dk_at dksX5_lambda_reading_7_0 1 rfl rfl)
theorem dX5_lambda_reading_7_4 : decode cX5_lambda_reading_7 4 = .ok (.getfield 286, 3) := dk_180 1 30 (dk_at dksX5_lambda_reading_7_0 4 rfl rfl)
theorem dX5_lambda_reading_7_7 : decode cX5_lambda_reading_7 7 = .ok (.ireturn, 1) := dk_172 (dk_at dksX5_lambda_reading_7_0 7 rfl rfl)
abbrev cX5_lambda_reading_8 : ByteArray := prog_5_method_22_code
def yX5_lambda_reading_8 : MethodName := ⟨RX5, "lambda$reading$8", "(LPetitionDesk$Line;)I"⟩
theorem dX5_lambda_reading_8_0 : decode cX5_lambda_reading_8 0 = .ok (.aload_n 0, 1) := by decide +kernel
theorem dX5_lambda_reading_8_1 : decode cX5_lambda_reading_8 1 = .ok (.getfield 281, 3) := by decide +kernel
theorem dX5_lambda_reading_8_4 : decode cX5_lambda_reading_8 4 = .ok (.ireturn, 1) := by decide +kernel
abbrev cX5_lambda_reading_9 : ByteArray := prog_5_method_21_code
def yX5_lambda_reading_9 : MethodName := ⟨RX5, "lambda$reading$9", "(ILPetitionDesk$Line;)I"⟩
theorem dX5_lambda_reading_9_0 : decode cX5_lambda_reading_9 0 = .ok (.iload_n 0, 1) := by decide +kernel
theorem dX5_lambda_reading_9_1 : decode cX5_lambda_reading_9 1 = .ok (.ireturn, 1) := by decide +kernel
abbrev cX5_lambda_part_0 : ByteArray := prog_5_method_30_code
def yX5_lambda_part_0 : MethodName := ⟨RX5, "lambda$part$0", "(LPetitionDesk$Reading;LPetitionDesk$Reading;LPetitionDesk$Line;)Z"⟩
def dkwX5_lambda_part_0_0 : List UInt8 := [42, 44, 185, 1, 36, 2, 0, 43, 44, 185, 1, 36, 2, 0, 162, 0, 7, 4, 167, 0, 4, 3, 172]
abbrev dktX5_lambda_part_0_0 : List UInt8 := dkwX5_lambda_part_0_0 ++ []
theorem dksX5_lambda_part_0_0 : cX5_lambda_part_0.data.toList.drop 0 = dktX5_lambda_part_0_0 := by decide +kernel
theorem dX5_lambda_part_0_0 : decode cX5_lambda_part_0 0 = .ok (.aload_n 0, 1) := dk_42 (dk_at dksX5_lambda_part_0_0 0 rfl rfl)
theorem dX5_lambda_part_0_1 : decode cX5_lambda_part_0 1 = .ok (.aload_n 2, 1) := dk_44 (dk_at dksX5_lambda_part_0_0 1 rfl rfl)
theorem dX5_lambda_part_0_2 : decode cX5_lambda_part_0 2 = .ok (.invokeinterface 292 2, 5) := by decide +kernel
theorem dX5_lambda_part_0_7 : decode cX5_lambda_part_0 7 = .ok (.aload_n 1, 1) := dk_43 (dk_at dksX5_lambda_part_0_0 7 rfl rfl)
theorem dX5_lambda_part_0_8 : decode cX5_lambda_part_0 8 = .ok (.aload_n 2, 1) := dk_44 (dk_at dksX5_lambda_part_0_0 8 rfl rfl)
theorem dX5_lambda_part_0_9 : decode cX5_lambda_part_0 9 = .ok (.invokeinterface 292 2, 5) := by decide +kernel
theorem dX5_lambda_part_0_14 : decode cX5_lambda_part_0 14 = .ok (.if_icmp .ge 7, 3) := dk_162 0 7 (dk_at dksX5_lambda_part_0_0 14 rfl rfl)
theorem dX5_lambda_part_0_17 : decode cX5_lambda_part_0 17 = .ok (.iconst 1, 1) := dk_4 (dk_at dksX5_lambda_part_0_0 17 rfl rfl)
theorem dX5_lambda_part_0_18 : decode cX5_lambda_part_0 18 = .ok (.goto 4, 3) := dk_167 0 4 (dk_at dksX5_lambda_part_0_0 18 rfl rfl)
theorem dX5_lambda_part_0_21 : decode cX5_lambda_part_0 21 = .ok (.iconst 0, 1) := dk_3 (dk_at dksX5_lambda_part_0_0 21 rfl rfl)
theorem dX5_lambda_part_0_22 : decode cX5_lambda_part_0 22 = .ok (.ireturn, 1) := dk_172 (dk_at dksX5_lambda_part_0_0 22 rfl rfl)
abbrev cX5_lambda_part_1 : ByteArray := prog_5_method_29_code
def yX5_lambda_part_1 : MethodName := ⟨RX5, "lambda$part$1", "(LPetitionDesk$Reading;LPetitionDesk$Reading;LPetitionDesk$Line;)Z"⟩
def dkwX5_lambda_part_1_0 : List UInt8 := [42, 44, 185, 1, 36, 2, 0, 43, 44, 185, 1, 36, 2, 0, 160, 0, 7, 4, 167, 0, 4, 3, 172]
abbrev dktX5_lambda_part_1_0 : List UInt8 := dkwX5_lambda_part_1_0 ++ []
theorem dksX5_lambda_part_1_0 : cX5_lambda_part_1.data.toList.drop 0 = dktX5_lambda_part_1_0 := by decide +kernel
theorem dX5_lambda_part_1_0 : decode cX5_lambda_part_1 0 = .ok (.aload_n 0, 1) := dk_42 (dk_at dksX5_lambda_part_1_0 0 rfl rfl)
theorem dX5_lambda_part_1_1 : decode cX5_lambda_part_1 1 = .ok (.aload_n 2, 1) := dk_44 (dk_at dksX5_lambda_part_1_0 1 rfl rfl)
theorem dX5_lambda_part_1_2 : decode cX5_lambda_part_1 2 = .ok (.invokeinterface 292 2, 5) := by decide +kernel
theorem dX5_lambda_part_1_7 : decode cX5_lambda_part_1 7 = .ok (.aload_n 1, 1) := dk_43 (dk_at dksX5_lambda_part_1_0 7 rfl rfl)
theorem dX5_lambda_part_1_8 : decode cX5_lambda_part_1 8 = .ok (.aload_n 2, 1) := dk_44 (dk_at dksX5_lambda_part_1_0 8 rfl rfl)
theorem dX5_lambda_part_1_9 : decode cX5_lambda_part_1 9 = .ok (.invokeinterface 292 2, 5) := by decide +kernel
theorem dX5_lambda_part_1_14 : decode cX5_lambda_part_1 14 = .ok (.if_icmp .ne 7, 3) := dk_160 0 7 (dk_at dksX5_lambda_part_1_0 14 rfl rfl)
theorem dX5_lambda_part_1_17 : decode cX5_lambda_part_1 17 = .ok (.iconst 1, 1) := dk_4 (dk_at dksX5_lambda_part_1_0 17 rfl rfl)
theorem dX5_lambda_part_1_18 : decode cX5_lambda_part_1 18 = .ok (.goto 4, 3) := dk_167 0 4 (dk_at dksX5_lambda_part_1_0 18 rfl rfl)
theorem dX5_lambda_part_1_21 : decode cX5_lambda_part_1 21 = .ok (.iconst 0, 1) := dk_3 (dk_at dksX5_lambda_part_1_0 21 rfl rfl)
theorem dX5_lambda_part_1_22 : decode cX5_lambda_part_1 22 = .ok (.ireturn, 1) := dk_172 (dk_at dksX5_lambda_part_1_0 22 rfl rfl)
abbrev cX5_lambda_part_2 : ByteArray := prog_5_method_28_code
def yX5_lambda_part_2 : MethodName := ⟨RX5, "lambda$part$2", "(LPetitionDesk$Reading;LPetitionDesk$Reading;LPetitionDesk$Line;)Z"⟩
def dkwX5_lambda_part_2_0 : List UInt8 := [42, 44, 185, 1, 36, 2, 0, 43, 44, 185, 1, 36, 2, 0, 164, 0, 7, 4, 167, 0, 4, 3, 172]
abbrev dktX5_lambda_part_2_0 : List UInt8 := dkwX5_lambda_part_2_0 ++ []
theorem dksX5_lambda_part_2_0 : cX5_lambda_part_2.data.toList.drop 0 = dktX5_lambda_part_2_0 := by decide +kernel
theorem dX5_lambda_part_2_0 : decode cX5_lambda_part_2 0 = .ok (.aload_n 0, 1) := dk_42 (dk_at dksX5_lambda_part_2_0 0 rfl rfl)
theorem dX5_lambda_part_2_1 : decode cX5_lambda_part_2 1 = .ok (.aload_n 2, 1) := dk_44 (dk_at dksX5_lambda_part_2_0 1 rfl rfl)
theorem dX5_lambda_part_2_2 : decode cX5_lambda_part_2 2 = .ok (.invokeinterface 292 2, 5) := by decide +kernel
theorem dX5_lambda_part_2_7 : decode cX5_lambda_part_2 7 = .ok (.aload_n 1, 1) := dk_43 (dk_at dksX5_lambda_part_2_0 7 rfl rfl)
theorem dX5_lambda_part_2_8 : decode cX5_lambda_part_2 8 = .ok (.aload_n 2, 1) := dk_44 (dk_at dksX5_lambda_part_2_0 8 rfl rfl)
theorem dX5_lambda_part_2_9 : decode cX5_lambda_part_2 9 = .ok (.invokeinterface 292 2, 5) := by decide +kernel
theorem dX5_lambda_part_2_14 : decode cX5_lambda_part_2 14 = .ok (.if_icmp .le 7, 3) := dk_164 0 7 (dk_at dksX5_lambda_part_2_0 14 rfl rfl)
theorem dX5_lambda_part_2_17 : decode cX5_lambda_part_2 17 = .ok (.iconst 1, 1) := dk_4 (dk_at dksX5_lambda_part_2_0 17 rfl rfl)
theorem dX5_lambda_part_2_18 : decode cX5_lambda_part_2 18 = .ok (.goto 4, 3) := dk_167 0 4 (dk_at dksX5_lambda_part_2_0 18 rfl rfl)
theorem dX5_lambda_part_2_21 : decode cX5_lambda_part_2 21 = .ok (.iconst 0, 1) := dk_3 (dk_at dksX5_lambda_part_2_0 21 rfl rfl)
theorem dX5_lambda_part_2_22 : decode cX5_lambda_part_2 22 = .ok (.ireturn, 1) := dk_172 (dk_at dksX5_lambda_part_2_0 22 rfl rfl)
theorem q106 : (Jvm.Cond.initialized "PetitionDesk$Reader") ∈ lw_all := lw_g (lw_at lw_m1 18 rfl) rfl
theorem q178 : (Jvm.Cond.fieldLinkNest "PetitionDesk$Reader" (159 : Nat) "PetitionDesk$Petition" "roll" "Ljava/util/List;" "PetitionDesk") ∈ lw_tbl := lw_at lw_m1 90 rfl
theorem q182 : (Jvm.Cond.fieldLinkNest "PetitionDesk$Reader" (116 : Nat) "PetitionDesk$Petition" "sheets" "Ljava/util/List;" "PetitionDesk") ∈ lw_tbl := lw_at lw_m1 94 rfl
theorem q187 : (Jvm.Cond.fieldLinkNest "PetitionDesk$Reader" (133 : Nat) "PetitionDesk$Petition" "need" "I" "PetitionDesk") ∈ lw_tbl := lw_at lw_m1 99 rfl
theorem q190 : (Jvm.Cond.fieldLinkNest "PetitionDesk$Reader" (139 : Nat) "PetitionDesk$Petition" "first" "I" "PetitionDesk") ∈ lw_tbl := lw_at lw_m1 102 rfl
theorem q193 : (Jvm.Cond.fieldLinkNest "PetitionDesk$Reader" (142 : Nat) "PetitionDesk$Petition" "last" "I" "PetitionDesk") ∈ lw_tbl := lw_at lw_m1 105 rfl
theorem q196 : (Jvm.Cond.fieldLinkNest "PetitionDesk$Reader" (145 : Nat) "PetitionDesk$Petition" "spoilt" "I" "PetitionDesk") ∈ lw_tbl := lw_at lw_m1 108 rfl
theorem q199 : (Jvm.Cond.fieldLinkNest "PetitionDesk$Reader" (147 : Nat) "PetitionDesk$Petition" "alpha" "I" "PetitionDesk") ∈ lw_tbl := lw_at lw_m1 111 rfl
theorem q202 : (Jvm.Cond.fieldLinkNest "PetitionDesk$Reader" (149 : Nat) "PetitionDesk$Petition" "good" "LPetitionDesk$Rule;" "PetitionDesk") ∈ lw_tbl := lw_at lw_m1 114 rfl
theorem q490 : (Jvm.Cond.selects "PetitionDesk$Reader" ({ cls := "java/lang/Object", name := "equals", desc := "(Ljava/lang/Object;)Z" } : Jvm.MethodName) ({ cls := "java/lang/Object", name := "equals", desc := "(Ljava/lang/Object;)Z" } : Jvm.MethodName)) ∈ lw_all := lw_g (lw_at lw_m2 162 rfl) rfl
theorem q516 : (Jvm.Cond.fieldLinkNest "PetitionDesk$Reader" (29 : Nat) "PetitionDesk" "tape" "[B" "PetitionDesk") ∈ lw_tbl := lw_at lw_m2 188 rfl
theorem q655 : (Jvm.Cond.instantiable "PetitionDesk$Reader" (6 : Nat)) ∈ lw_all := lw_g (lw_at lw_m3 87 rfl) rfl
theorem q657 : (Jvm.Cond.instanceMethod ({ cls := "PetitionDesk$Reader", name := "<init>", desc := "(LPetitionDesk;I)V" } : Jvm.MethodName)) ∈ lw_all := lw_g (lw_at lw_m3 89 rfl) rfl
theorem q658 : (Jvm.Cond.code ({ cls := "PetitionDesk$Reader", name := "<init>", desc := "(LPetitionDesk;I)V" } : Jvm.MethodName) prog_5_method_1_code (3 : Nat) (Option.none : Option Jvm.ClassFile.FieldType)) ∈ lw_all := lw_g (lw_at lw_m3 90 rfl) rfl
theorem q659 : (Jvm.Cond.methodLink "PetitionDesk$Reader" (9 : Nat) ({ cls := "java/lang/Object", name := "<init>", desc := "()V" } : Jvm.MethodName)) ∈ lw_all := lw_g (lw_at lw_m3 91 rfl) rfl
theorem q660 : (Jvm.Cond.classLink "PetitionDesk$Reader" (15 : Nat) "PetitionDesk$Petition") ∈ lw_all := lw_g (lw_at lw_m3 92 rfl) rfl
theorem q661 : (Jvm.Cond.methodLink "PetitionDesk$Reader" (17 : Nat) ({ cls := "PetitionDesk$Petition", name := "<init>", desc := "()V" } : Jvm.MethodName)) ∈ lw_all := lw_g (lw_at lw_m3 93 rfl) rfl
theorem q662 : (Jvm.Cond.fieldLink "PetitionDesk$Reader" (22 : Nat) "PetitionDesk$Reader" "size" "I") ∈ lw_all := lw_g (lw_at lw_m3 94 rfl) rfl
theorem q663 : (Jvm.Cond.fieldLink "PetitionDesk$Reader" (18 : Nat) "PetitionDesk$Reader" "to" "LPetitionDesk$Petition;") ∈ lw_all := lw_g (lw_at lw_m3 95 rfl) rfl
theorem q664 : (Jvm.Cond.fieldLink "PetitionDesk$Reader" (26 : Nat) "PetitionDesk$Reader" "next" "I") ∈ lw_all := lw_g (lw_at lw_m3 96 rfl) rfl
theorem q665 : (Jvm.Cond.fieldLink "PetitionDesk$Reader" (76 : Nat) "PetitionDesk$Reader" "from" "I") ∈ lw_all := lw_g (lw_at lw_m3 97 rfl) rfl
theorem q666 : (Jvm.Cond.fieldLink "PetitionDesk$Reader" (210 : Nat) "PetitionDesk$Reader" "open" "I") ∈ lw_all := lw_g (lw_at lw_m3 98 rfl) rfl
theorem q667 : (Jvm.Cond.fieldLink "PetitionDesk$Reader" (3 : Nat) "PetitionDesk$Reader" "this$0" "LPetitionDesk;") ∈ lw_all := lw_g (lw_at lw_m3 99 rfl) rfl
theorem q668 : (Jvm.Cond.laysFinal "PetitionDesk$Reader" "PetitionDesk$Reader" "size" "I") ∈ lw_all := lw_g (lw_at lw_m3 100 rfl) rfl
theorem q669 : (Jvm.Cond.soleField "PetitionDesk$Reader" "size") ∈ lw_all := lw_g (lw_at lw_m3 101 rfl) rfl
theorem q670 : (Jvm.Cond.laysFinal "PetitionDesk$Reader" "PetitionDesk$Reader" "to" "LPetitionDesk$Petition;") ∈ lw_all := lw_g (lw_at lw_m3 102 rfl) rfl
theorem q671 : (Jvm.Cond.soleField "PetitionDesk$Reader" "to") ∈ lw_all := lw_g (lw_at lw_m3 103 rfl) rfl
theorem q672 : (Jvm.Cond.lays "PetitionDesk$Reader" "PetitionDesk$Reader" "next" "I") ∈ lw_all := lw_g (lw_at lw_m3 104 rfl) rfl
theorem q673 : (Jvm.Cond.soleField "PetitionDesk$Reader" "next") ∈ lw_all := lw_g (lw_at lw_m3 105 rfl) rfl
theorem q674 : (Jvm.Cond.lays "PetitionDesk$Reader" "PetitionDesk$Reader" "from" "I") ∈ lw_all := lw_g (lw_at lw_m3 106 rfl) rfl
theorem q675 : (Jvm.Cond.soleField "PetitionDesk$Reader" "from") ∈ lw_all := lw_g (lw_at lw_m3 107 rfl) rfl
theorem q676 : (Jvm.Cond.lays "PetitionDesk$Reader" "PetitionDesk$Reader" "open" "I") ∈ lw_all := lw_g (lw_at lw_m3 108 rfl) rfl
theorem q677 : (Jvm.Cond.soleField "PetitionDesk$Reader" "open") ∈ lw_all := lw_g (lw_at lw_m3 109 rfl) rfl
theorem q678 : (Jvm.Cond.laysFinal "PetitionDesk$Reader" "PetitionDesk$Reader" "this$0" "LPetitionDesk;") ∈ lw_all := lw_g (lw_at lw_m3 110 rfl) rfl
theorem q679 : (Jvm.Cond.soleField "PetitionDesk$Reader" "this$0") ∈ lw_all := lw_g (lw_at lw_m3 111 rfl) rfl
theorem q680 : (Jvm.Cond.superclass "PetitionDesk$Reader" "java/lang/Object") ∈ lw_all := lw_g (lw_at lw_m3 112 rfl) rfl
theorem q682 : (Jvm.Cond.instanceMethod ({ cls := "PetitionDesk$Reader", name := "all", desc := "()LPetitionDesk$Petition;" } : Jvm.MethodName)) ∈ lw_all := lw_g (lw_at lw_m3 114 rfl) rfl
theorem q683 : (Jvm.Cond.selects "PetitionDesk$Reader" ({ cls := "PetitionDesk$Reader", name := "all", desc := "()LPetitionDesk$Petition;" } : Jvm.MethodName) ({ cls := "PetitionDesk$Reader", name := "all", desc := "()LPetitionDesk$Petition;" } : Jvm.MethodName)) ∈ lw_all := lw_g (lw_at lw_m3 115 rfl) rfl
theorem q684 : (Jvm.Cond.code ({ cls := "PetitionDesk$Reader", name := "all", desc := "()LPetitionDesk$Petition;" } : Jvm.MethodName) prog_5_method_20_code (5 : Nat) (Option.some (Jvm.ClassFile.FieldType.object "PetitionDesk$Petition"))) ∈ lw_all := lw_g (lw_at lw_m3 116 rfl) rfl
theorem q685 : (Jvm.Cond.methodLink "PetitionDesk$Reader" (33 : Nat) ({ cls := "PetitionDesk$Reader", name := "sign", desc := "()I" } : Jvm.MethodName)) ∈ lw_all := lw_g (lw_at lw_m3 117 rfl) rfl
theorem q686 : (Jvm.Cond.privateMethod ({ cls := "PetitionDesk$Reader", name := "sign", desc := "()I" } : Jvm.MethodName)) ∈ lw_tbl := lw_at lw_m3 118 rfl
theorem q687 : (Jvm.Cond.instanceMethod ({ cls := "PetitionDesk$Reader", name := "sign", desc := "()I" } : Jvm.MethodName)) ∈ lw_all := lw_g (lw_at lw_m3 119 rfl) rfl
theorem q688 : (Jvm.Cond.code ({ cls := "PetitionDesk$Reader", name := "sign", desc := "()I" } : Jvm.MethodName) prog_5_method_2_code (1 : Nat) (Option.some Jvm.ClassFile.FieldType.int)) ∈ lw_all := lw_g (lw_at lw_m3 120 rfl) rfl
theorem q689 : (Jvm.Cond.methodLink "PetitionDesk$Reader" (252 : Nat) ({ cls := "PetitionDesk$Reader", name := "line", desc := "()V" } : Jvm.MethodName)) ∈ lw_all := lw_g (lw_at lw_m3 121 rfl) rfl
theorem q690 : (Jvm.Cond.privateMethod ({ cls := "PetitionDesk$Reader", name := "line", desc := "()V" } : Jvm.MethodName)) ∈ lw_tbl := lw_at lw_m3 122 rfl
theorem q691 : (Jvm.Cond.instanceMethod ({ cls := "PetitionDesk$Reader", name := "line", desc := "()V" } : Jvm.MethodName)) ∈ lw_all := lw_g (lw_at lw_m3 123 rfl) rfl
theorem q692 : (Jvm.Cond.code ({ cls := "PetitionDesk$Reader", name := "line", desc := "()V" } : Jvm.MethodName) prog_5_method_12_code (5 : Nat) (Option.none : Option Jvm.ClassFile.FieldType)) ∈ lw_all := lw_g (lw_at lw_m3 124 rfl) rfl
theorem q693 : (Jvm.Cond.methodLink "PetitionDesk$Reader" (52 : Nat) ({ cls := "PetitionDesk$Reader", name := "word", desc := "()Ljava/lang/String;" } : Jvm.MethodName)) ∈ lw_all := lw_g (lw_at lw_m3 125 rfl) rfl
theorem q694 : (Jvm.Cond.privateMethod ({ cls := "PetitionDesk$Reader", name := "word", desc := "()Ljava/lang/String;" } : Jvm.MethodName)) ∈ lw_tbl := lw_at lw_m3 126 rfl
theorem q695 : (Jvm.Cond.instanceMethod ({ cls := "PetitionDesk$Reader", name := "word", desc := "()Ljava/lang/String;" } : Jvm.MethodName)) ∈ lw_all := lw_g (lw_at lw_m3 127 rfl) rfl
theorem q696 : (Jvm.Cond.code ({ cls := "PetitionDesk$Reader", name := "word", desc := "()Ljava/lang/String;" } : Jvm.MethodName) prog_5_method_5_code (3 : Nat) (Option.some (Jvm.ClassFile.FieldType.object "java/lang/String"))) ∈ lw_all := lw_g (lw_at lw_m3 128 rfl) rfl
theorem q697 : (Jvm.Cond.classLink "PetitionDesk$Reader" (37 : Nat) "java/lang/StringBuilder") ∈ lw_all := lw_g (lw_at lw_m3 129 rfl) rfl
theorem q699 : (Jvm.Cond.methodLink "PetitionDesk$Reader" (39 : Nat) ({ cls := "java/lang/StringBuilder", name := "<init>", desc := "()V" } : Jvm.MethodName)) ∈ lw_all := lw_g (lw_at lw_m3 131 rfl) rfl
theorem q727 : (Jvm.Cond.methodLink "PetitionDesk$Reader" (40 : Nat) ({ cls := "PetitionDesk$Reader", name := "isSmall", desc := "(I)Z" } : Jvm.MethodName)) ∈ lw_all := lw_g (lw_at lw_m3 159 rfl) rfl
theorem q728 : (Jvm.Cond.privateMethod ({ cls := "PetitionDesk$Reader", name := "isSmall", desc := "(I)Z" } : Jvm.MethodName)) ∈ lw_tbl := lw_at lw_m3 160 rfl
theorem q729 : (Jvm.Cond.instanceMethod ({ cls := "PetitionDesk$Reader", name := "isSmall", desc := "(I)Z" } : Jvm.MethodName)) ∈ lw_all := lw_g (lw_at lw_m3 161 rfl) rfl
theorem q730 : (Jvm.Cond.code ({ cls := "PetitionDesk$Reader", name := "isSmall", desc := "(I)Z" } : Jvm.MethodName) prog_5_method_3_code (2 : Nat) (Option.some Jvm.ClassFile.FieldType.boolean)) ∈ lw_all := lw_g (lw_at lw_m3 162 rfl) rfl
theorem q731 : (Jvm.Cond.methodLink "PetitionDesk$Reader" (44 : Nat) ({ cls := "java/lang/StringBuilder", name := "append", desc := "(C)Ljava/lang/StringBuilder;" } : Jvm.MethodName)) ∈ lw_all := lw_g (lw_at lw_m3 163 rfl) rfl
theorem q818 : (Jvm.Cond.methodLink "PetitionDesk$Reader" (48 : Nat) ({ cls := "java/lang/StringBuilder", name := "toString", desc := "()Ljava/lang/String;" } : Jvm.MethodName)) ∈ lw_all := lw_g (lw_at lw_m4 10 rfl) rfl
theorem q968 : (Jvm.Cond.methodLink "PetitionDesk$Reader" (61 : Nat) ({ cls := "java/lang/String", name := "length", desc := "()I" } : Jvm.MethodName)) ∈ lw_all := lw_g (lw_at lw_m4 160 rfl) rfl
theorem q969 : (Jvm.Cond.methodLink "PetitionDesk$Reader" (95 : Nat) ({ cls := "java/lang/String", name := "hashCode", desc := "()I" } : Jvm.MethodName)) ∈ lw_all := lw_g (lw_at lw_m4 161 rfl) rfl
theorem q1030 : (Jvm.Cond.stringRef "PetitionDesk$Reader" (98 : Nat) "voter") ∈ lw_tbl := lw_at lw_m4 222 rfl
theorem q1031 : (Jvm.Cond.methodLink "PetitionDesk$Reader" (55 : Nat) ({ cls := "java/lang/String", name := "equals", desc := "(Ljava/lang/Object;)Z" } : Jvm.MethodName)) ∈ lw_all := lw_g (lw_at lw_m4 223 rfl) rfl
theorem q1032 : (Jvm.Cond.stringRef "PetitionDesk$Reader" (100 : Nat) "sheet") ∈ lw_tbl := lw_at lw_m4 224 rfl
theorem q1033 : (Jvm.Cond.stringRef "PetitionDesk$Reader" (102 : Nat) "sign") ∈ lw_tbl := lw_at lw_m4 225 rfl
theorem q1034 : (Jvm.Cond.stringRef "PetitionDesk$Reader" (103 : Nat) "need") ∈ lw_tbl := lw_at lw_m4 226 rfl
theorem q1035 : (Jvm.Cond.stringRef "PetitionDesk$Reader" (105 : Nat) "span") ∈ lw_tbl := lw_at lw_m4 227 rfl
theorem q1036 : (Jvm.Cond.stringRef "PetitionDesk$Reader" (107 : Nat) "spoilt") ∈ lw_tbl := lw_at lw_m4 228 rfl
theorem q1037 : (Jvm.Cond.stringRef "PetitionDesk$Reader" (109 : Nat) "alpha") ∈ lw_tbl := lw_at lw_m4 229 rfl
theorem q1038 : (Jvm.Cond.stringRef "PetitionDesk$Reader" (111 : Nat) "good") ∈ lw_tbl := lw_at lw_m4 230 rfl
theorem q1039 : (Jvm.Cond.methodLink "PetitionDesk$Reader" (113 : Nat) ({ cls := "PetitionDesk$Reader", name := "voter", desc := "(I)V" } : Jvm.MethodName)) ∈ lw_all := lw_g (lw_at lw_m4 231 rfl) rfl
theorem q1040 : (Jvm.Cond.privateMethod ({ cls := "PetitionDesk$Reader", name := "voter", desc := "(I)V" } : Jvm.MethodName)) ∈ lw_tbl := lw_at lw_m4 232 rfl
theorem q1041 : (Jvm.Cond.instanceMethod ({ cls := "PetitionDesk$Reader", name := "voter", desc := "(I)V" } : Jvm.MethodName)) ∈ lw_all := lw_g (lw_at lw_m4 233 rfl) rfl
theorem q1042 : (Jvm.Cond.code ({ cls := "PetitionDesk$Reader", name := "voter", desc := "(I)V" } : Jvm.MethodName) prog_5_method_13_code (5 : Nat) (Option.none : Option Jvm.ClassFile.FieldType)) ∈ lw_all := lw_g (lw_at lw_m4 234 rfl) rfl
theorem q1043 : (Jvm.Cond.interfaceEntry "PetitionDesk$Reader" (120 : Nat)) ∈ lw_tbl := lw_at lw_m4 235 rfl
theorem q1044 : (Jvm.Cond.methodLink "PetitionDesk$Reader" (120 : Nat) ({ cls := "java/util/List", name := "size", desc := "()I" } : Jvm.MethodName)) ∈ lw_all := lw_g (lw_at lw_m4 236 rfl) rfl
theorem q1045 : (Jvm.Cond.classLink "PetitionDesk$Reader" (64 : Nat) "PetitionDesk$Wrong") ∈ lw_all := lw_g (lw_at lw_m4 237 rfl) rfl
theorem q1054 : (Jvm.Cond.methodLink "PetitionDesk$Reader" (66 : Nat) ({ cls := "PetitionDesk$Wrong", name := "<init>", desc := "(II)V" } : Jvm.MethodName)) ∈ lw_all := lw_g (lw_at lw_m5 6 rfl) rfl
theorem q1073 : (Jvm.Cond.methodLink "PetitionDesk$Reader" (162 : Nat) ({ cls := "PetitionDesk$Reader", name := "name", desc := "()Ljava/lang/String;" } : Jvm.MethodName)) ∈ lw_all := lw_g (lw_at lw_m5 25 rfl) rfl
theorem q1074 : (Jvm.Cond.privateMethod ({ cls := "PetitionDesk$Reader", name := "name", desc := "()Ljava/lang/String;" } : Jvm.MethodName)) ∈ lw_tbl := lw_at lw_m5 26 rfl
theorem q1075 : (Jvm.Cond.instanceMethod ({ cls := "PetitionDesk$Reader", name := "name", desc := "()Ljava/lang/String;" } : Jvm.MethodName)) ∈ lw_all := lw_g (lw_at lw_m5 27 rfl) rfl
theorem q1076 : (Jvm.Cond.code ({ cls := "PetitionDesk$Reader", name := "name", desc := "()Ljava/lang/String;" } : Jvm.MethodName) prog_5_method_10_code (2 : Nat) (Option.some (Jvm.ClassFile.FieldType.object "java/lang/String"))) ∈ lw_all := lw_g (lw_at lw_m5 28 rfl) rfl
theorem q1077 : (Jvm.Cond.constantLong "PetitionDesk$Reader" (90 : Nat) (5 : Int64)) ∈ lw_all := lw_g (lw_at lw_m5 29 rfl) rfl
theorem q1078 : (Jvm.Cond.methodLinkNest "PetitionDesk$Reader" (86 : Nat) ({ cls := "PetitionDesk", name := "isIn", desc := "(JJJ)Z" } : Jvm.MethodName) "PetitionDesk") ∈ lw_tbl := lw_at lw_m5 30 rfl
theorem q1079 : (Jvm.Cond.methodLink "PetitionDesk$Reader" (72 : Nat) ({ cls := "PetitionDesk$Reader", name := "needs", desc := "(ZI)V" } : Jvm.MethodName)) ∈ lw_all := lw_g (lw_at lw_m5 31 rfl) rfl
theorem q1080 : (Jvm.Cond.privateMethod ({ cls := "PetitionDesk$Reader", name := "needs", desc := "(ZI)V" } : Jvm.MethodName)) ∈ lw_tbl := lw_at lw_m5 32 rfl
theorem q1081 : (Jvm.Cond.instanceMethod ({ cls := "PetitionDesk$Reader", name := "needs", desc := "(ZI)V" } : Jvm.MethodName)) ∈ lw_all := lw_g (lw_at lw_m5 33 rfl) rfl
theorem q1082 : (Jvm.Cond.code ({ cls := "PetitionDesk$Reader", name := "needs", desc := "(ZI)V" } : Jvm.MethodName) prog_5_method_8_code (3 : Nat) (Option.none : Option Jvm.ClassFile.FieldType)) ∈ lw_all := lw_g (lw_at lw_m5 34 rfl) rfl
theorem q1083 : (Jvm.Cond.methodLink "PetitionDesk$Reader" (92 : Nat) ({ cls := "PetitionDesk$Reader", name := "number", desc := "(II)I" } : Jvm.MethodName)) ∈ lw_all := lw_g (lw_at lw_m5 35 rfl) rfl
theorem q1084 : (Jvm.Cond.privateMethod ({ cls := "PetitionDesk$Reader", name := "number", desc := "(II)I" } : Jvm.MethodName)) ∈ lw_tbl := lw_at lw_m5 36 rfl
theorem q1085 : (Jvm.Cond.instanceMethod ({ cls := "PetitionDesk$Reader", name := "number", desc := "(II)I" } : Jvm.MethodName)) ∈ lw_all := lw_g (lw_at lw_m5 37 rfl) rfl
theorem q1086 : (Jvm.Cond.code ({ cls := "PetitionDesk$Reader", name := "number", desc := "(II)I" } : Jvm.MethodName) prog_5_method_9_code (4 : Nat) (Option.some Jvm.ClassFile.FieldType.int)) ∈ lw_all := lw_g (lw_at lw_m5 38 rfl) rfl
theorem q1087 : (Jvm.Cond.methodLink "PetitionDesk$Reader" (69 : Nat) ({ cls := "PetitionDesk$Reader", name := "isDigit", desc := "(I)Z" } : Jvm.MethodName)) ∈ lw_all := lw_g (lw_at lw_m5 39 rfl) rfl
theorem q1088 : (Jvm.Cond.privateMethod ({ cls := "PetitionDesk$Reader", name := "isDigit", desc := "(I)Z" } : Jvm.MethodName)) ∈ lw_tbl := lw_at lw_m5 40 rfl
theorem q1089 : (Jvm.Cond.instanceMethod ({ cls := "PetitionDesk$Reader", name := "isDigit", desc := "(I)Z" } : Jvm.MethodName)) ∈ lw_all := lw_g (lw_at lw_m5 41 rfl) rfl
theorem q1090 : (Jvm.Cond.code ({ cls := "PetitionDesk$Reader", name := "isDigit", desc := "(I)Z" } : Jvm.MethodName) prog_5_method_4_code (2 : Nat) (Option.some Jvm.ClassFile.FieldType.boolean)) ∈ lw_all := lw_g (lw_at lw_m5 42 rfl) rfl
theorem q1091 : (Jvm.Cond.constant "PetitionDesk$Reader" (79 : Nat) (100000 : Int32)) ∈ lw_all := lw_g (lw_at lw_m5 43 rfl) rfl
theorem q1092 : (Jvm.Cond.methodLink "PetitionDesk$Reader" (80 : Nat) ({ cls := "java/lang/Math", name := "min", desc := "(II)I" } : Jvm.MethodName)) ∈ lw_all := lw_g (lw_at lw_m5 44 rfl) rfl
theorem q1093 : (Jvm.Cond.methodLink "PetitionDesk$Reader" (165 : Nat) ({ cls := "PetitionDesk$Petition", name := "voterOf", desc := "(Ljava/lang/String;I)LPetitionDesk$Voter;" } : Jvm.MethodName)) ∈ lw_all := lw_g (lw_at lw_m5 45 rfl) rfl
theorem q1103 : (Jvm.Cond.classLink "PetitionDesk$Reader" (169 : Nat) "PetitionDesk$Voter") ∈ lw_all := lw_g (lw_at lw_m5 55 rfl) rfl
theorem q1105 : (Jvm.Cond.methodLinkNest "PetitionDesk$Reader" (171 : Nat) ({ cls := "PetitionDesk$Voter", name := "<init>", desc := "(Ljava/lang/String;II)V" } : Jvm.MethodName) "PetitionDesk") ∈ lw_tbl := lw_at lw_m5 57 rfl
theorem q1118 : (Jvm.Cond.fieldLinkNest "PetitionDesk$Reader" (286 : Nat) "PetitionDesk$Voter" "since" "I" "PetitionDesk") ∈ lw_tbl := lw_at lw_m5 70 rfl
theorem q1127 : (Jvm.Cond.interfaceEntry "PetitionDesk$Reader" (127 : Nat)) ∈ lw_tbl := lw_at lw_m5 79 rfl
theorem q1128 : (Jvm.Cond.methodLink "PetitionDesk$Reader" (127 : Nat) ({ cls := "java/util/List", name := "add", desc := "(Ljava/lang/Object;)Z" } : Jvm.MethodName)) ∈ lw_all := lw_g (lw_at lw_m5 80 rfl) rfl
theorem q1159 : (Jvm.Cond.selects "PetitionDesk$Reader" ({ cls := "java/lang/Object", name := "getClass", desc := "()Ljava/lang/Class;" } : Jvm.MethodName) ({ cls := "java/lang/Object", name := "getClass", desc := "()Ljava/lang/Class;" } : Jvm.MethodName)) ∈ lw_all := lw_g (lw_at lw_m5 111 rfl) rfl
theorem q1182 : (Jvm.Cond.classLink "PetitionDesk$Reader" (124 : Nat) "PetitionDesk$Sheet") ∈ lw_all := lw_g (lw_at lw_m5 134 rfl) rfl
theorem q1184 : (Jvm.Cond.methodLinkNest "PetitionDesk$Reader" (126 : Nat) ({ cls := "PetitionDesk$Sheet", name := "<init>", desc := "()V" } : Jvm.MethodName) "PetitionDesk") ∈ lw_tbl := lw_at lw_m5 136 rfl
theorem q1193 : (Jvm.Cond.fieldLinkNest "PetitionDesk$Reader" (185 : Nat) "PetitionDesk$Sheet" "lines" "Ljava/util/List;" "PetitionDesk") ∈ lw_tbl := lw_at lw_m5 145 rfl
theorem q1207 : (Jvm.Cond.methodLink "PetitionDesk$Reader" (130 : Nat) ({ cls := "PetitionDesk$Reader", name := "signs", desc := "(I)V" } : Jvm.MethodName)) ∈ lw_all := lw_g (lw_at lw_m5 159 rfl) rfl
theorem q1208 : (Jvm.Cond.privateMethod ({ cls := "PetitionDesk$Reader", name := "signs", desc := "(I)V" } : Jvm.MethodName)) ∈ lw_tbl := lw_at lw_m5 160 rfl
theorem q1209 : (Jvm.Cond.instanceMethod ({ cls := "PetitionDesk$Reader", name := "signs", desc := "(I)V" } : Jvm.MethodName)) ∈ lw_all := lw_g (lw_at lw_m5 161 rfl) rfl
theorem q1210 : (Jvm.Cond.code ({ cls := "PetitionDesk$Reader", name := "signs", desc := "(I)V" } : Jvm.MethodName) prog_5_method_14_code (5 : Nat) (Option.none : Option Jvm.ClassFile.FieldType)) ∈ lw_all := lw_g (lw_at lw_m5 162 rfl) rfl
theorem q1211 : (Jvm.Cond.interfaceEntry "PetitionDesk$Reader" (174 : Nat)) ∈ lw_tbl := lw_at lw_m5 163 rfl
theorem q1212 : (Jvm.Cond.methodLink "PetitionDesk$Reader" (174 : Nat) ({ cls := "java/util/List", name := "isEmpty", desc := "()Z" } : Jvm.MethodName)) ∈ lw_all := lw_g (lw_at lw_m5 164 rfl) rfl
theorem q1213 : (Jvm.Cond.methodLink "PetitionDesk$Reader" (178 : Nat) ({ cls := "PetitionDesk$Petition", name := "lines", desc := "()I" } : Jvm.MethodName)) ∈ lw_all := lw_g (lw_at lw_m5 165 rfl) rfl
theorem q1214 : (Jvm.Cond.interfaceEntry "PetitionDesk$Reader" (181 : Nat)) ∈ lw_tbl := lw_at lw_m5 166 rfl
theorem q1215 : (Jvm.Cond.methodLink "PetitionDesk$Reader" (181 : Nat) ({ cls := "java/util/List", name := "get", desc := "(I)Ljava/lang/Object;" } : Jvm.MethodName)) ∈ lw_all := lw_g (lw_at lw_m5 167 rfl) rfl
theorem q1216 : (Jvm.Cond.classLink "PetitionDesk$Reader" (187 : Nat) "PetitionDesk$Line") ∈ lw_all := lw_g (lw_at lw_m5 168 rfl) rfl
theorem q1218 : (Jvm.Cond.methodLink "PetitionDesk$Reader" (189 : Nat) ({ cls := "PetitionDesk$Line", name := "<init>", desc := "(Ljava/lang/String;IILPetitionDesk$Voter;)V" } : Jvm.MethodName)) ∈ lw_all := lw_g (lw_at lw_m5 170 rfl) rfl
theorem q1223 : (Jvm.Cond.fieldLinkNest "PetitionDesk$Reader" (266 : Nat) "PetitionDesk$Line" "name" "Ljava/lang/String;" "PetitionDesk") ∈ lw_tbl := lw_at lw_m5 175 rfl
theorem q1225 : (Jvm.Cond.fieldLinkNest "PetitionDesk$Reader" (269 : Nat) "PetitionDesk$Line" "street" "I" "PetitionDesk") ∈ lw_tbl := lw_at lw_m5 177 rfl
theorem q1229 : (Jvm.Cond.fieldLinkNest "PetitionDesk$Reader" (271 : Nat) "PetitionDesk$Line" "day" "I" "PetitionDesk") ∈ lw_tbl := lw_at lw_m5 181 rfl
theorem q1233 : (Jvm.Cond.fieldLinkNest "PetitionDesk$Reader" (283 : Nat) "PetitionDesk$Line" "voter" "LPetitionDesk$Voter;" "PetitionDesk") ∈ lw_tbl := lw_at lw_m5 185 rfl
theorem q1236 : (Jvm.Cond.fieldLinkNest "PetitionDesk$Reader" (290 : Nat) "PetitionDesk$Line" "number" "I" "PetitionDesk") ∈ lw_tbl := lw_at lw_m5 188 rfl
theorem q1238 : (Jvm.Cond.fieldLinkNest "PetitionDesk$Reader" (288 : Nat) "PetitionDesk$Line" "sheet" "I" "PetitionDesk") ∈ lw_tbl := lw_at lw_m5 190 rfl
theorem q1241 : (Jvm.Cond.fieldLinkNest "PetitionDesk$Reader" (281 : Nat) "PetitionDesk$Line" "ahead" "I" "PetitionDesk") ∈ lw_tbl := lw_at lw_m5 193 rfl
theorem q1262 : (Jvm.Cond.methodLink "PetitionDesk$Reader" (135 : Nat) ({ cls := "PetitionDesk$Reader", name := "once", desc := "(IIII)I" } : Jvm.MethodName)) ∈ lw_all := lw_g (lw_at lw_m5 214 rfl) rfl
theorem q1263 : (Jvm.Cond.privateMethod ({ cls := "PetitionDesk$Reader", name := "once", desc := "(IIII)I" } : Jvm.MethodName)) ∈ lw_tbl := lw_at lw_m5 215 rfl
theorem q1264 : (Jvm.Cond.instanceMethod ({ cls := "PetitionDesk$Reader", name := "once", desc := "(IIII)I" } : Jvm.MethodName)) ∈ lw_all := lw_g (lw_at lw_m5 216 rfl) rfl
theorem q1265 : (Jvm.Cond.code ({ cls := "PetitionDesk$Reader", name := "once", desc := "(IIII)I" } : Jvm.MethodName) prog_5_method_11_code (5 : Nat) (Option.some Jvm.ClassFile.FieldType.int)) ∈ lw_all := lw_g (lw_at lw_m5 217 rfl) rfl
theorem q1266 : (Jvm.Cond.methodLink "PetitionDesk$Reader" (152 : Nat) ({ cls := "PetitionDesk$Reader", name := "either", desc := "()LPetitionDesk$Rule;" } : Jvm.MethodName)) ∈ lw_all := lw_g (lw_at lw_m5 218 rfl) rfl
theorem q1267 : (Jvm.Cond.privateMethod ({ cls := "PetitionDesk$Reader", name := "either", desc := "()LPetitionDesk$Rule;" } : Jvm.MethodName)) ∈ lw_tbl := lw_at lw_m5 219 rfl
theorem q1268 : (Jvm.Cond.instanceMethod ({ cls := "PetitionDesk$Reader", name := "either", desc := "()LPetitionDesk$Rule;" } : Jvm.MethodName)) ∈ lw_all := lw_g (lw_at lw_m5 220 rfl) rfl
theorem q1269 : (Jvm.Cond.code ({ cls := "PetitionDesk$Reader", name := "either", desc := "()LPetitionDesk$Rule;" } : Jvm.MethodName) prog_5_method_15_code (2 : Nat) (Option.some (Jvm.ClassFile.FieldType.object "PetitionDesk$Rule"))) ∈ lw_all := lw_g (lw_at lw_m5 221 rfl) rfl
theorem q1270 : (Jvm.Cond.methodLink "PetitionDesk$Reader" (192 : Nat) ({ cls := "PetitionDesk$Reader", name := "both", desc := "()LPetitionDesk$Rule;" } : Jvm.MethodName)) ∈ lw_all := lw_g (lw_at lw_m5 222 rfl) rfl
theorem q1271 : (Jvm.Cond.privateMethod ({ cls := "PetitionDesk$Reader", name := "both", desc := "()LPetitionDesk$Rule;" } : Jvm.MethodName)) ∈ lw_tbl := lw_at lw_m5 223 rfl
theorem q1272 : (Jvm.Cond.instanceMethod ({ cls := "PetitionDesk$Reader", name := "both", desc := "()LPetitionDesk$Rule;" } : Jvm.MethodName)) ∈ lw_all := lw_g (lw_at lw_m5 224 rfl) rfl
theorem q1273 : (Jvm.Cond.code ({ cls := "PetitionDesk$Reader", name := "both", desc := "()LPetitionDesk$Rule;" } : Jvm.MethodName) prog_5_method_16_code (2 : Nat) (Option.some (Jvm.ClassFile.FieldType.object "PetitionDesk$Rule"))) ∈ lw_all := lw_g (lw_at lw_m5 225 rfl) rfl
theorem q1274 : (Jvm.Cond.methodLink "PetitionDesk$Reader" (203 : Nat) ({ cls := "PetitionDesk$Reader", name := "part", desc := "()LPetitionDesk$Rule;" } : Jvm.MethodName)) ∈ lw_all := lw_g (lw_at lw_m5 226 rfl) rfl
theorem q1275 : (Jvm.Cond.privateMethod ({ cls := "PetitionDesk$Reader", name := "part", desc := "()LPetitionDesk$Rule;" } : Jvm.MethodName)) ∈ lw_tbl := lw_at lw_m5 227 rfl
theorem q1276 : (Jvm.Cond.instanceMethod ({ cls := "PetitionDesk$Reader", name := "part", desc := "()LPetitionDesk$Rule;" } : Jvm.MethodName)) ∈ lw_all := lw_g (lw_at lw_m5 228 rfl) rfl
theorem q1277 : (Jvm.Cond.code ({ cls := "PetitionDesk$Reader", name := "part", desc := "()LPetitionDesk$Rule;" } : Jvm.MethodName) prog_5_method_18_code (4 : Nat) (Option.some (Jvm.ClassFile.FieldType.object "PetitionDesk$Rule"))) ∈ lw_all := lw_g (lw_at lw_m5 229 rfl) rfl
theorem q1278 : (Jvm.Cond.stringRef "PetitionDesk$Reader" (213 : Nat) "not") ∈ lw_tbl := lw_at lw_m5 230 rfl
theorem q1279 : (Jvm.Cond.methodLink "PetitionDesk$Reader" (215 : Nat) ({ cls := "PetitionDesk$Reader", name := "opens", desc := "()V" } : Jvm.MethodName)) ∈ lw_all := lw_g (lw_at lw_m5 231 rfl) rfl
theorem q1280 : (Jvm.Cond.privateMethod ({ cls := "PetitionDesk$Reader", name := "opens", desc := "()V" } : Jvm.MethodName)) ∈ lw_tbl := lw_at lw_m5 232 rfl
theorem q1281 : (Jvm.Cond.instanceMethod ({ cls := "PetitionDesk$Reader", name := "opens", desc := "()V" } : Jvm.MethodName)) ∈ lw_all := lw_g (lw_at lw_m5 233 rfl) rfl
theorem q1282 : (Jvm.Cond.code ({ cls := "PetitionDesk$Reader", name := "opens", desc := "()V" } : Jvm.MethodName) prog_5_method_17_code (1 : Nat) (Option.none : Option Jvm.ClassFile.FieldType)) ∈ lw_all := lw_g (lw_at lw_m5 234 rfl) rfl
theorem q1283 : (Jvm.Cond.methodLinkNest "PetitionDesk$Reader" (218 : Nat) ({ cls := "PetitionDesk", name := "not", desc := "(LPetitionDesk$Rule;)LPetitionDesk$Rule;" } : Jvm.MethodName) "PetitionDesk") ∈ lw_tbl := lw_at lw_m5 235 rfl
theorem q1290 : (Jvm.Cond.methodLink "PetitionDesk$Reader" (156 : Nat) ({ cls := "PetitionDesk$Reader", name := "passes", desc := "(I)Z" } : Jvm.MethodName)) ∈ lw_all := lw_g (lw_at lw_m6 2 rfl) rfl
theorem q1291 : (Jvm.Cond.privateMethod ({ cls := "PetitionDesk$Reader", name := "passes", desc := "(I)Z" } : Jvm.MethodName)) ∈ lw_tbl := lw_at lw_m6 3 rfl
theorem q1292 : (Jvm.Cond.instanceMethod ({ cls := "PetitionDesk$Reader", name := "passes", desc := "(I)Z" } : Jvm.MethodName)) ∈ lw_all := lw_g (lw_at lw_m6 4 rfl) rfl
theorem q1293 : (Jvm.Cond.code ({ cls := "PetitionDesk$Reader", name := "passes", desc := "(I)Z" } : Jvm.MethodName) prog_5_method_7_code (2 : Nat) (Option.some Jvm.ClassFile.FieldType.boolean)) ∈ lw_all := lw_g (lw_at lw_m6 5 rfl) rfl
theorem q1294 : (Jvm.Cond.methodLink "PetitionDesk$Reader" (221 : Nat) ({ cls := "PetitionDesk$Reader", name := "reading", desc := "()LPetitionDesk$Reading;" } : Jvm.MethodName)) ∈ lw_all := lw_g (lw_at lw_m6 6 rfl) rfl
theorem q1295 : (Jvm.Cond.privateMethod ({ cls := "PetitionDesk$Reader", name := "reading", desc := "()LPetitionDesk$Reading;" } : Jvm.MethodName)) ∈ lw_tbl := lw_at lw_m6 7 rfl
theorem q1296 : (Jvm.Cond.instanceMethod ({ cls := "PetitionDesk$Reader", name := "reading", desc := "()LPetitionDesk$Reading;" } : Jvm.MethodName)) ∈ lw_all := lw_g (lw_at lw_m6 8 rfl) rfl
theorem q1297 : (Jvm.Cond.code ({ cls := "PetitionDesk$Reader", name := "reading", desc := "()LPetitionDesk$Reading;" } : Jvm.MethodName) prog_5_method_19_code (2 : Nat) (Option.some (Jvm.ClassFile.FieldType.object "PetitionDesk$Reading"))) ∈ lw_all := lw_g (lw_at lw_m6 9 rfl) rfl
theorem q1298 : (Jvm.Cond.stringRef "PetitionDesk$Reader" (231 : Nat) "day") ∈ lw_tbl := lw_at lw_m6 10 rfl
theorem q1299 : (Jvm.Cond.methodLink "PetitionDesk$Reader" (197 : Nat) ({ cls := "PetitionDesk$Reader", name := "passes", desc := "(Ljava/lang/String;)Z" } : Jvm.MethodName)) ∈ lw_all := lw_g (lw_at lw_m6 11 rfl) rfl
theorem q1300 : (Jvm.Cond.privateMethod ({ cls := "PetitionDesk$Reader", name := "passes", desc := "(Ljava/lang/String;)Z" } : Jvm.MethodName)) ∈ lw_tbl := lw_at lw_m6 12 rfl
theorem q1301 : (Jvm.Cond.instanceMethod ({ cls := "PetitionDesk$Reader", name := "passes", desc := "(Ljava/lang/String;)Z" } : Jvm.MethodName)) ∈ lw_all := lw_g (lw_at lw_m6 13 rfl) rfl
theorem q1302 : (Jvm.Cond.code ({ cls := "PetitionDesk$Reader", name := "passes", desc := "(Ljava/lang/String;)Z" } : Jvm.MethodName) prog_5_method_6_code (2 : Nat) (Option.some Jvm.ClassFile.FieldType.boolean)) ∈ lw_all := lw_g (lw_at lw_m6 14 rfl) rfl
theorem q1303 : (Jvm.Cond.static ({ cls := "PetitionDesk$Reader", name := "lambda$reading$3", desc := "(LPetitionDesk$Line;)I" } : Jvm.MethodName)) ∈ lw_all := lw_g (lw_at lw_m6 15 rfl) rfl
theorem q1304 : (Jvm.Cond.code ({ cls := "PetitionDesk$Reader", name := "lambda$reading$3", desc := "(LPetitionDesk$Line;)I" } : Jvm.MethodName) prog_5_method_27_code (1 : Nat) (Option.some Jvm.ClassFile.FieldType.int)) ∈ lw_all := lw_g (lw_at lw_m6 16 rfl) rfl
theorem q1305 : (Jvm.Cond.stringRef "PetitionDesk$Reader" (236 : Nat) "street") ∈ lw_tbl := lw_at lw_m6 17 rfl
theorem q1306 : (Jvm.Cond.static ({ cls := "PetitionDesk$Reader", name := "lambda$reading$4", desc := "(LPetitionDesk$Line;)I" } : Jvm.MethodName)) ∈ lw_all := lw_g (lw_at lw_m6 18 rfl) rfl
theorem q1307 : (Jvm.Cond.code ({ cls := "PetitionDesk$Reader", name := "lambda$reading$4", desc := "(LPetitionDesk$Line;)I" } : Jvm.MethodName) prog_5_method_26_code (1 : Nat) (Option.some Jvm.ClassFile.FieldType.int)) ∈ lw_all := lw_g (lw_at lw_m6 19 rfl) rfl
theorem q1308 : (Jvm.Cond.stringRef "PetitionDesk$Reader" (239 : Nat) "line") ∈ lw_tbl := lw_at lw_m6 20 rfl
theorem q1309 : (Jvm.Cond.static ({ cls := "PetitionDesk$Reader", name := "lambda$reading$5", desc := "(LPetitionDesk$Line;)I" } : Jvm.MethodName)) ∈ lw_all := lw_g (lw_at lw_m6 21 rfl) rfl
theorem q1310 : (Jvm.Cond.code ({ cls := "PetitionDesk$Reader", name := "lambda$reading$5", desc := "(LPetitionDesk$Line;)I" } : Jvm.MethodName) prog_5_method_25_code (1 : Nat) (Option.some Jvm.ClassFile.FieldType.int)) ∈ lw_all := lw_g (lw_at lw_m6 22 rfl) rfl
theorem q1311 : (Jvm.Cond.static ({ cls := "PetitionDesk$Reader", name := "lambda$reading$6", desc := "(LPetitionDesk$Line;)I" } : Jvm.MethodName)) ∈ lw_all := lw_g (lw_at lw_m6 23 rfl) rfl
theorem q1312 : (Jvm.Cond.code ({ cls := "PetitionDesk$Reader", name := "lambda$reading$6", desc := "(LPetitionDesk$Line;)I" } : Jvm.MethodName) prog_5_method_24_code (1 : Nat) (Option.some Jvm.ClassFile.FieldType.int)) ∈ lw_all := lw_g (lw_at lw_m6 24 rfl) rfl
theorem q1313 : (Jvm.Cond.stringRef "PetitionDesk$Reader" (243 : Nat) "since") ∈ lw_tbl := lw_at lw_m6 25 rfl
theorem q1314 : (Jvm.Cond.static ({ cls := "PetitionDesk$Reader", name := "lambda$reading$7", desc := "(LPetitionDesk$Line;)I" } : Jvm.MethodName)) ∈ lw_all := lw_g (lw_at lw_m6 26 rfl) rfl
theorem q1315 : (Jvm.Cond.code ({ cls := "PetitionDesk$Reader", name := "lambda$reading$7", desc := "(LPetitionDesk$Line;)I" } : Jvm.MethodName) prog_5_method_23_code (1 : Nat) (Option.some Jvm.ClassFile.FieldType.int)) ∈ lw_all := lw_g (lw_at lw_m6 27 rfl) rfl
theorem q1316 : (Jvm.Cond.stringRef "PetitionDesk$Reader" (246 : Nat) "ahead") ∈ lw_tbl := lw_at lw_m6 28 rfl
theorem q1317 : (Jvm.Cond.static ({ cls := "PetitionDesk$Reader", name := "lambda$reading$8", desc := "(LPetitionDesk$Line;)I" } : Jvm.MethodName)) ∈ lw_all := lw_g (lw_at lw_m6 29 rfl) rfl
theorem q1318 : (Jvm.Cond.code ({ cls := "PetitionDesk$Reader", name := "lambda$reading$8", desc := "(LPetitionDesk$Line;)I" } : Jvm.MethodName) prog_5_method_22_code (1 : Nat) (Option.some Jvm.ClassFile.FieldType.int)) ∈ lw_all := lw_g (lw_at lw_m6 30 rfl) rfl
theorem q1319 : (Jvm.Cond.static ({ cls := "PetitionDesk$Reader", name := "lambda$reading$9", desc := "(ILPetitionDesk$Line;)I" } : Jvm.MethodName)) ∈ lw_all := lw_g (lw_at lw_m6 31 rfl) rfl
theorem q1320 : (Jvm.Cond.code ({ cls := "PetitionDesk$Reader", name := "lambda$reading$9", desc := "(ILPetitionDesk$Line;)I" } : Jvm.MethodName) prog_5_method_21_code (2 : Nat) (Option.some Jvm.ClassFile.FieldType.int)) ∈ lw_all := lw_g (lw_at lw_m6 32 rfl) rfl
theorem q1321 : (Jvm.Cond.static ({ cls := "PetitionDesk$Reader", name := "lambda$part$0", desc := "(LPetitionDesk$Reading;LPetitionDesk$Reading;LPetitionDesk$Line;)Z" } : Jvm.MethodName)) ∈ lw_all := lw_g (lw_at lw_m6 33 rfl) rfl
theorem q1322 : (Jvm.Cond.code ({ cls := "PetitionDesk$Reader", name := "lambda$part$0", desc := "(LPetitionDesk$Reading;LPetitionDesk$Reading;LPetitionDesk$Line;)Z" } : Jvm.MethodName) prog_5_method_30_code (3 : Nat) (Option.some Jvm.ClassFile.FieldType.boolean)) ∈ lw_all := lw_g (lw_at lw_m6 34 rfl) rfl
theorem q1323 : (Jvm.Cond.interfaceEntry "PetitionDesk$Reader" (292 : Nat)) ∈ lw_tbl := lw_at lw_m6 35 rfl
theorem q1324 : (Jvm.Cond.methodLink "PetitionDesk$Reader" (292 : Nat) ({ cls := "PetitionDesk$Reading", name := "of", desc := "(LPetitionDesk$Line;)I" } : Jvm.MethodName)) ∈ lw_all := lw_g (lw_at lw_m6 36 rfl) rfl
theorem q1327 : (Jvm.Cond.static ({ cls := "PetitionDesk$Reader", name := "lambda$part$1", desc := "(LPetitionDesk$Reading;LPetitionDesk$Reading;LPetitionDesk$Line;)Z" } : Jvm.MethodName)) ∈ lw_all := lw_g (lw_at lw_m6 39 rfl) rfl
theorem q1328 : (Jvm.Cond.code ({ cls := "PetitionDesk$Reader", name := "lambda$part$1", desc := "(LPetitionDesk$Reading;LPetitionDesk$Reading;LPetitionDesk$Line;)Z" } : Jvm.MethodName) prog_5_method_29_code (3 : Nat) (Option.some Jvm.ClassFile.FieldType.boolean)) ∈ lw_all := lw_g (lw_at lw_m6 40 rfl) rfl
theorem q1329 : (Jvm.Cond.static ({ cls := "PetitionDesk$Reader", name := "lambda$part$2", desc := "(LPetitionDesk$Reading;LPetitionDesk$Reading;LPetitionDesk$Line;)Z" } : Jvm.MethodName)) ∈ lw_all := lw_g (lw_at lw_m6 41 rfl) rfl
theorem q1330 : (Jvm.Cond.code ({ cls := "PetitionDesk$Reader", name := "lambda$part$2", desc := "(LPetitionDesk$Reading;LPetitionDesk$Reading;LPetitionDesk$Line;)Z" } : Jvm.MethodName) prog_5_method_28_code (3 : Nat) (Option.some Jvm.ClassFile.FieldType.boolean)) ∈ lw_all := lw_g (lw_at lw_m6 42 rfl) rfl
theorem q1331 : (Jvm.Cond.stringRef "PetitionDesk$Reader" (206 : Nat) "and") ∈ lw_tbl := lw_at lw_m6 43 rfl
theorem q1332 : (Jvm.Cond.methodLinkNest "PetitionDesk$Reader" (208 : Nat) ({ cls := "PetitionDesk", name := "both", desc := "(LPetitionDesk$Rule;LPetitionDesk$Rule;)LPetitionDesk$Rule;" } : Jvm.MethodName) "PetitionDesk") ∈ lw_tbl := lw_at lw_m6 44 rfl
theorem q1337 : (Jvm.Cond.stringRef "PetitionDesk$Reader" (195 : Nat) "or") ∈ lw_tbl := lw_at lw_m6 49 rfl
theorem q1338 : (Jvm.Cond.methodLinkNest "PetitionDesk$Reader" (200 : Nat) ({ cls := "PetitionDesk", name := "either", desc := "(LPetitionDesk$Rule;LPetitionDesk$Rule;)LPetitionDesk$Rule;" } : Jvm.MethodName) "PetitionDesk") ∈ lw_tbl := lw_at lw_m6 50 rfl
theorem q1343 : (Jvm.Cond.interfaceEntry "PetitionDesk$Reader" (254 : Nat)) ∈ lw_tbl := lw_at lw_m6 55 rfl
theorem q1344 : (Jvm.Cond.methodLink "PetitionDesk$Reader" (254 : Nat) ({ cls := "java/util/List", name := "iterator", desc := "()Ljava/util/Iterator;" } : Jvm.MethodName)) ∈ lw_all := lw_g (lw_at lw_m6 56 rfl) rfl
theorem q1345 : (Jvm.Cond.interfaceEntry "PetitionDesk$Reader" (258 : Nat)) ∈ lw_tbl := lw_at lw_m6 57 rfl
theorem q1346 : (Jvm.Cond.methodLink "PetitionDesk$Reader" (258 : Nat) ({ cls := "java/util/Iterator", name := "hasNext", desc := "()Z" } : Jvm.MethodName)) ∈ lw_all := lw_g (lw_at lw_m6 58 rfl) rfl
theorem q1347 : (Jvm.Cond.interfaceEntry "PetitionDesk$Reader" (263 : Nat)) ∈ lw_tbl := lw_at lw_m6 59 rfl
theorem q1348 : (Jvm.Cond.methodLink "PetitionDesk$Reader" (263 : Nat) ({ cls := "java/util/Iterator", name := "next", desc := "()Ljava/lang/Object;" } : Jvm.MethodName)) ∈ lw_all := lw_g (lw_at lw_m6 60 rfl) rfl
theorem q1349 : (Jvm.Cond.interfaceEntry "PetitionDesk$Reader" (273 : Nat)) ∈ lw_tbl := lw_at lw_m6 61 rfl
theorem q1350 : (Jvm.Cond.methodLink "PetitionDesk$Reader" (273 : Nat) ({ cls := "java/util/List", name := "set", desc := "(ILjava/lang/Object;)Ljava/lang/Object;" } : Jvm.MethodName)) ∈ lw_all := lw_g (lw_at lw_m6 62 rfl) rfl
theorem q1358 : (Jvm.Cond.methodLink "PetitionDesk$Reader" (277 : Nat) ({ cls := "PetitionDesk$Petition", name := "ends", desc := "()LPetitionDesk$Petition;" } : Jvm.MethodName)) ∈ lw_all := lw_g (lw_at lw_m6 70 rfl) rfl
theorem q2097 : (Jvm.Cond.castable "PetitionDesk$Reader" "java/lang/Object") ∈ lw_tbl := lw_at lw_m9 89 rfl
theorem in_X5 : ∀ w ∈ wsX50, w ∈ lw_all := lw_in wsX50 [668, 670, 672, 674, 676, 678] (by decide +kernel) (by decide +kernel)
