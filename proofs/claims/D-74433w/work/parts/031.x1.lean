/-! PetitionDesk -/
set_option maxRecDepth 100000
def RX1 : String := "PetitionDesk"
def TX1 : u_T := fun k => match k with
  | 0 => ("PetitionDesk", "ways", "[[J", true)
  | 1 => ("PetitionDesk", "tape", "[B", true)
  | 2 => ("PetitionDesk", "refused", "[I", true)
  | 3 => ("PetitionDesk", "kept", "Ljava/util/List;", true)
  | 4 => ("PetitionDesk", "now", "LPetitionDesk$Petition;", false)
  | 5 => ("PetitionDesk", "taped", "I", false)
  | _ => ("PetitionDesk", "faultAt", "I", false)
def tyX1 : Nat → FieldType := fun k => match k with
  | 0 => .array (.array .long)
  | 1 => .array .byte
  | 2 => .array .int
  | 3 => .object "java/util/List"
  | 4 => .object "PetitionDesk$Petition"
  | 5 => .int
  | _ => .int
abbrev wsX10 : List Cond := u_ws RX1 TX1 7
theorem nmX1 : ∀ a, a < 7 → ∀ b, b < 7 → a ≠ b → (TX1 a).2.1 ≠ (TX1 b).2.1 := by decide +kernel
theorem tyX1_ok : ∀ k, k < 7 → parseFieldDescriptor (TX1 k).2.2.1 = some (tyX1 k) := by decide +kernel
abbrev cX1_init : ByteArray := prog_1_method_8_code
def yX1_init : MethodName := ⟨RX1, "<init>", "()V"⟩
def dkwX1_init_5 : List UInt8 := [182, 0, 50, 181, 0, 54, 42, 2, 181, 0, 58, 177]
abbrev dktX1_init_5 : List UInt8 := dkwX1_init_5 ++ []
def dkwX1_init_4 : List UInt8 := [188, 10, 181, 0, 36, 42, 187, 0, 40, 89, 183, 0, 42, 181, 0, 43, 42, 187, 0, 47, 89, 183, 0, 49]
abbrev dktX1_init_4 : List UInt8 := dkwX1_init_4 ++ dktX1_init_5
def dkwX1_init_3 : List UInt8 := [132, 2, 1, 167, 255, 217, 132, 1, 1, 167, 255, 194, 42, 17, 2, 88, 188, 8, 181, 0, 32, 42, 6]
abbrev dktX1_init_3 : List UInt8 := dkwX1_init_3 ++ dktX1_init_4
def dkwX1_init_2 : List UInt8 := [180, 0, 29, 27, 4, 100, 50, 28, 4, 100, 47, 42, 180, 0, 29, 27, 4, 100, 50, 28, 47, 97, 80]
abbrev dktX1_init_2 : List UInt8 := dkwX1_init_2 ++ dktX1_init_3
def dkwX1_init_1 : List UInt8 := [42, 180, 0, 29, 27, 50, 3, 10, 80, 4, 61, 28, 27, 163, 0, 40, 42, 180, 0, 29, 27, 50, 28, 42]
abbrev dktX1_init_1 : List UInt8 := dkwX1_init_1 ++ dktX1_init_2
def dkwX1_init_0 : List UInt8 := [42, 183, 0, 21, 42, 16, 41, 16, 41, 197, 0, 27, 2, 181, 0, 29, 3, 60, 27, 16, 40, 163, 0, 62]
abbrev dktX1_init_0 : List UInt8 := dkwX1_init_0 ++ dktX1_init_1
theorem dksX1_init_0 : cX1_init.data.toList.drop 0 = dktX1_init_0 := by decide +kernel
theorem dksX1_init_1 : cX1_init.data.toList.drop 24 = dktX1_init_1 := dk_seg dksX1_init_0 24 rfl rfl
theorem dksX1_init_2 : cX1_init.data.toList.drop 48 = dktX1_init_2 := dk_seg dksX1_init_1 24 rfl rfl
theorem dksX1_init_3 : cX1_init.data.toList.drop 71 = dktX1_init_3 := dk_seg dksX1_init_2 23 rfl rfl
theorem dksX1_init_4 : cX1_init.data.toList.drop 94 = dktX1_init_4 := dk_seg dksX1_init_3 23 rfl rfl
theorem dksX1_init_5 : cX1_init.data.toList.drop 118 = dktX1_init_5 := dk_seg dksX1_init_4 24 rfl rfl
theorem dX1_init_0 : decode cX1_init 0 = .ok (.aload_n 0, 1) := dk_42 (dk_at dksX1_init_0 0 rfl rfl)
theorem dX1_init_1 : decode cX1_init 1 = .ok (.invokespecial 21, 3) := dk_183 0 21 (dk_at dksX1_init_0 1 rfl rfl)
theorem dX1_init_4 : decode cX1_init 4 = .ok (.aload_n 0, 1) := dk_42 (dk_at dksX1_init_0 4 rfl rfl)
theorem dX1_init_5 : decode cX1_init 5 = .ok (.bipush 41, 2) := dk_16 41 (dk_at dksX1_init_0 5 rfl rfl)
theorem dX1_init_7 : decode cX1_init 7 = .ok (.bipush 41, 2) := dk_16 41 (dk_at dksX1_init_0 7 rfl rfl)
theorem dX1_init_9 : decode cX1_init 9 = .ok (.multianewarray 27 2, 4) := by decide +kernel
theorem dX1_init_13 : decode cX1_init 13 = .ok (.putfield 29, 3) := dk_181 0 29 (dk_at dksX1_init_0 13 rfl rfl)
theorem dX1_init_16 : decode cX1_init 16 = .ok (.iconst 0, 1) := dk_3 (dk_at dksX1_init_0 16 rfl rfl)
theorem dX1_init_17 : decode cX1_init 17 = .ok (.istore_n 1, 1) := dk_60 (dk_at dksX1_init_0 17 rfl rfl)
theorem dX1_init_18 : decode cX1_init 18 = .ok (.iload_n 1, 1) := dk_27 (dk_at dksX1_init_0 18 rfl rfl)
theorem dX1_init_19 : decode cX1_init 19 = .ok (.bipush 40, 2) := dk_16 40 (dk_at dksX1_init_0 19 rfl rfl)
theorem dX1_init_21 : decode cX1_init 21 = .ok (.if_icmp .gt 62, 3) := dk_163 0 62 (dk_at dksX1_init_0 21 rfl rfl)
theorem dX1_init_24 : decode cX1_init 24 = .ok (.aload_n 0, 1) := dk_42 (dk_at dksX1_init_1 0 rfl rfl)
theorem dX1_init_25 : decode cX1_init 25 = .ok (.getfield 29, 3) := dk_180 0 29 (dk_at dksX1_init_1 1 rfl rfl)
theorem dX1_init_28 : decode cX1_init 28 = .ok (.iload_n 1, 1) := dk_27 (dk_at dksX1_init_1 4 rfl rfl)
theorem dX1_init_29 : decode cX1_init 29 = .ok (.aaload, 1) := dk_50 (dk_at dksX1_init_1 5 rfl rfl)
theorem dX1_init_30 : decode cX1_init 30 = .ok (.iconst 0, 1) := dk_3 (dk_at dksX1_init_1 6 rfl rfl)
theorem dX1_init_31 : decode cX1_init 31 = .ok (.lconst 1, 1) := dk_10 (dk_at dksX1_init_1 7 rfl rfl)
theorem dX1_init_32 : decode cX1_init 32 = .ok (.lastore, 1) := dk_80 (dk_at dksX1_init_1 8 rfl rfl)
theorem dX1_init_33 : decode cX1_init 33 = .ok (.iconst 1, 1) := dk_4 (dk_at dksX1_init_1 9 rfl rfl)
theorem dX1_init_34 : decode cX1_init 34 = .ok (.istore_n 2, 1) := dk_61 (dk_at dksX1_init_1 10 rfl rfl)
theorem dX1_init_35 : decode cX1_init 35 = .ok (.iload_n 2, 1) := dk_28 (dk_at dksX1_init_1 11 rfl rfl)
theorem dX1_init_36 : decode cX1_init 36 = .ok (.iload_n 1, 1) := dk_27 (dk_at dksX1_init_1 12 rfl rfl)
theorem dX1_init_37 : decode cX1_init 37 = .ok (.if_icmp .gt 40, 3) := dk_163 0 40 (dk_at dksX1_init_1 13 rfl rfl)
theorem dX1_init_40 : decode cX1_init 40 = .ok (.aload_n 0, 1) := dk_42 (dk_at dksX1_init_1 16 rfl rfl)
theorem dX1_init_41 : decode cX1_init 41 = .ok (.getfield 29, 3) := dk_180 0 29 (dk_at dksX1_init_1 17 rfl rfl)
theorem dX1_init_44 : decode cX1_init 44 = .ok (.iload_n 1, 1) := dk_27 (dk_at dksX1_init_1 20 rfl rfl)
theorem dX1_init_45 : decode cX1_init 45 = .ok (.aaload, 1) := dk_50 (dk_at dksX1_init_1 21 rfl rfl)
theorem dX1_init_46 : decode cX1_init 46 = .ok (.iload_n 2, 1) := dk_28 (dk_at dksX1_init_1 22 rfl rfl)
theorem dX1_init_47 : decode cX1_init 47 = .ok (.aload_n 0, 1) := dk_42 (dk_at dksX1_init_1 23 rfl rfl)
theorem dX1_init_48 : decode cX1_init 48 = .ok (.getfield 29, 3) := dk_180 0 29 (dk_at dksX1_init_2 0 rfl rfl)
theorem dX1_init_51 : decode cX1_init 51 = .ok (.iload_n 1, 1) := dk_27 (dk_at dksX1_init_2 3 rfl rfl)
theorem dX1_init_52 : decode cX1_init 52 = .ok (.iconst 1, 1) := dk_4 (dk_at dksX1_init_2 4 rfl rfl)
theorem dX1_init_53 : decode cX1_init 53 = .ok (.isub, 1) := dk_100 (dk_at dksX1_init_2 5 rfl rfl)
theorem dX1_init_54 : decode cX1_init 54 = .ok (.aaload, 1) := dk_50 (dk_at dksX1_init_2 6 rfl rfl)
theorem dX1_init_55 : decode cX1_init 55 = .ok (.iload_n 2, 1) := dk_28 (dk_at dksX1_init_2 7 rfl rfl)
theorem dX1_init_56 : decode cX1_init 56 = .ok (.iconst 1, 1) := dk_4 (dk_at dksX1_init_2 8 rfl rfl)
theorem dX1_init_57 : decode cX1_init 57 = .ok (.isub, 1) := dk_100 (dk_at dksX1_init_2 9 rfl rfl)
theorem dX1_init_58 : decode cX1_init 58 = .ok (.laload, 1) := dk_47 (dk_at dksX1_init_2 10 rfl rfl)
theorem dX1_init_59 : decode cX1_init 59 = .ok (.aload_n 0, 1) := dk_42 (dk_at dksX1_init_2 11 rfl rfl)
theorem dX1_init_60 : decode cX1_init 60 = .ok (.getfield 29, 3) := dk_180 0 29 (dk_at dksX1_init_2 12 rfl rfl)
theorem dX1_init_63 : decode cX1_init 63 = .ok (.iload_n 1, 1) := dk_27 (dk_at dksX1_init_2 15 rfl rfl)
theorem dX1_init_64 : decode cX1_init 64 = .ok (.iconst 1, 1) := dk_4 (dk_at dksX1_init_2 16 rfl rfl)
theorem dX1_init_65 : decode cX1_init 65 = .ok (.isub, 1) := dk_100 (dk_at dksX1_init_2 17 rfl rfl)
theorem dX1_init_66 : decode cX1_init 66 = .ok (.aaload, 1) := dk_50 (dk_at dksX1_init_2 18 rfl rfl)
theorem dX1_init_67 : decode cX1_init 67 = .ok (.iload_n 2, 1) := dk_28 (dk_at dksX1_init_2 19 rfl rfl)
theorem dX1_init_68 : decode cX1_init 68 = .ok (.laload, 1) := dk_47 (dk_at dksX1_init_2 20 rfl rfl)
theorem dX1_init_69 : decode cX1_init 69 = .ok (.ladd, 1) := dk_97 (dk_at dksX1_init_2 21 rfl rfl)
theorem dX1_init_70 : decode cX1_init 70 = .ok (.lastore, 1) := dk_80 (dk_at dksX1_init_2 22 rfl rfl)
theorem dX1_init_71 : decode cX1_init 71 = .ok (.iinc 2 1, 3) := dk_132 2 1 (dk_at dksX1_init_3 0 rfl rfl)
theorem dX1_init_74 : decode cX1_init 74 = .ok (.goto (-39), 3) := dk_167 255 217 (dk_at dksX1_init_3 3 rfl rfl)
theorem dX1_init_77 : decode cX1_init 77 = .ok (.iinc 1 1, 3) := dk_132 1 1 (dk_at dksX1_init_3 6 rfl rfl)
theorem dX1_init_80 : decode cX1_init 80 = .ok (.goto (-62), 3) := dk_167 255 194 (dk_at dksX1_init_3 9 rfl rfl)
theorem dX1_init_83 : decode cX1_init 83 = .ok (.aload_n 0, 1) := dk_42 (dk_at dksX1_init_3 12 rfl rfl)
theorem dX1_init_84 : decode cX1_init 84 = .ok (.sipush 600, 3) := dk_17 2 88 (dk_at dksX1_init_3 13 rfl rfl)
theorem dX1_init_87 : decode cX1_init 87 = .ok (.newarray .byte, 2) := dk_188_8 (dk_at dksX1_init_3 16 rfl rfl)
theorem dX1_init_89 : decode cX1_init 89 = .ok (.putfield 32, 3) := dk_181 0 32 (dk_at dksX1_init_3 18 rfl rfl)
theorem dX1_init_92 : decode cX1_init 92 = .ok (.aload_n 0, 1) := dk_42 (dk_at dksX1_init_3 21 rfl rfl)
theorem dX1_init_93 : decode cX1_init 93 = .ok (.iconst 3, 1) := dk_6 (dk_at dksX1_init_3 22 rfl rfl)
theorem dX1_init_94 : decode cX1_init 94 = .ok (.newarray .int, 2) := dk_188_10 (dk_at dksX1_init_4 0 rfl rfl)
theorem dX1_init_96 : decode cX1_init 96 = .ok (.putfield 36, 3) := dk_181 0 36 (dk_at dksX1_init_4 2 rfl rfl)
theorem dX1_init_99 : decode cX1_init 99 = .ok (.aload_n 0, 1) := dk_42 (dk_at dksX1_init_4 5 rfl rfl)
theorem dX1_init_100 : decode cX1_init 100 = .ok (.new 40, 3) := dk_187 0 40 (dk_at dksX1_init_4 6 rfl rfl)
theorem dX1_init_103 : decode cX1_init 103 = .ok (.dup, 1) := dk_89 (dk_at dksX1_init_4 9 rfl rfl)
theorem dX1_init_104 : decode cX1_init 104 = .ok (.invokespecial 42, 3) := dk_183 0 42 (dk_at dksX1_init_4 10 rfl rfl)
theorem dX1_init_107 : decode cX1_init 107 = .ok (.putfield 43, 3) := dk_181 0 43 (dk_at dksX1_init_4 13 rfl rfl)
theorem dX1_init_110 : decode cX1_init 110 = .ok (.aload_n 0, 1) := dk_42 (dk_at dksX1_init_4 16 rfl rfl)
theorem dX1_init_111 : decode cX1_init 111 = .ok (.new 47, 3) := dk_187 0 47 (dk_at dksX1_init_4 17 rfl rfl)
theorem dX1_init_114 : decode cX1_init 114 = .ok (.dup, 1) := dk_89 (dk_at dksX1_init_4 20 rfl rfl)
theorem dX1_init_115 : decode cX1_init 115 = .ok (.invokespecial 49, 3) := dk_183 0 49 (dk_at dksX1_init_4 21 rfl rfl)
theorem dX1_init_118 : decode cX1_init 118 = .ok (.invokevirtual 50, 3) := dk_182 0 50 (dk_at dksX1_init_5 0 rfl rfl)
theorem dX1_init_121 : decode cX1_init 121 = .ok (.putfield 54, 3) := dk_181 0 54 (dk_at dksX1_init_5 3 rfl rfl)
theorem dX1_init_124 : decode cX1_init 124 = .ok (.aload_n 0, 1) := dk_42 (dk_at dksX1_init_5 6 rfl rfl)
theorem dX1_init_125 : decode cX1_init 125 = .ok (.iconst (-1), 1) := dk_2 (dk_at dksX1_init_5 7 rfl rfl)
theorem dX1_init_126 : decode cX1_init 126 = .ok (.putfield 58, 3) := dk_181 0 58 (dk_at dksX1_init_5 8 rfl rfl)
theorem dX1_init_129 : decode cX1_init 129 = .ok (.return_, 1) := dk_177 (dk_at dksX1_init_5 11 rfl rfl)
abbrev cX1_isIn : ByteArray := prog_1_method_1_code
def yX1_isIn : MethodName := ⟨RX1, "isIn", "(JJJ)Z"⟩
def dkwX1_isIn_0 : List UInt8 := [30, 32, 148, 155, 0, 14, 30, 22, 4, 148, 157, 0, 7, 4, 167, 0, 4, 3, 172]
abbrev dktX1_isIn_0 : List UInt8 := dkwX1_isIn_0 ++ []
theorem dksX1_isIn_0 : cX1_isIn.data.toList.drop 0 = dktX1_isIn_0 := by decide +kernel
theorem dX1_isIn_0 : decode cX1_isIn 0 = .ok (.lload_n 0, 1) := dk_30 (dk_at dksX1_isIn_0 0 rfl rfl)
theorem dX1_isIn_1 : decode cX1_isIn 1 = .ok (.lload_n 2, 1) := dk_32 (dk_at dksX1_isIn_0 1 rfl rfl)
theorem dX1_isIn_2 : decode cX1_isIn 2 = .ok (.lcmp, 1) := dk_148 (dk_at dksX1_isIn_0 2 rfl rfl)
theorem dX1_isIn_3 : decode cX1_isIn 3 = .ok (.ifCond .lt 14, 3) := dk_155 0 14 (dk_at dksX1_isIn_0 3 rfl rfl)
theorem dX1_isIn_6 : decode cX1_isIn 6 = .ok (.lload_n 0, 1) := dk_30 (dk_at dksX1_isIn_0 6 rfl rfl)
theorem dX1_isIn_7 : decode cX1_isIn 7 = .ok (.lload 4, 2) := dk_22 4 (dk_at dksX1_isIn_0 7 rfl rfl)
theorem dX1_isIn_9 : decode cX1_isIn 9 = .ok (.lcmp, 1) := dk_148 (dk_at dksX1_isIn_0 9 rfl rfl)
theorem dX1_isIn_10 : decode cX1_isIn 10 = .ok (.ifCond .gt 7, 3) := dk_157 0 7 (dk_at dksX1_isIn_0 10 rfl rfl)
theorem dX1_isIn_13 : decode cX1_isIn 13 = .ok (.iconst 1, 1) := dk_4 (dk_at dksX1_isIn_0 13 rfl rfl)
theorem dX1_isIn_14 : decode cX1_isIn 14 = .ok (.goto 4, 3) := dk_167 0 4 (dk_at dksX1_isIn_0 14 rfl rfl)
theorem dX1_isIn_17 : decode cX1_isIn 17 = .ok (.iconst 0, 1) := dk_3 (dk_at dksX1_isIn_0 17 rfl rfl)
theorem dX1_isIn_18 : decode cX1_isIn 18 = .ok (.ireturn, 1) := dk_172 (dk_at dksX1_isIn_0 18 rfl rfl)
abbrev cX1_feed : ByteArray := prog_1_method_13_code
def yX1_feed : MethodName := ⟨RX1, "feed", "(IIIII)I"⟩
def dkwX1_feed_2 : List UInt8 := [172]
abbrev dktX1_feed_2 : List UInt8 := dkwX1_feed_2 ++ []
def dkwX1_feed_1 : List UInt8 := [182, 0, 91, 42, 29, 182, 0, 91, 42, 21, 4, 182, 0, 91, 42, 21, 5, 182, 0, 91, 42, 180, 0, 88]
abbrev dktX1_feed_1 : List UInt8 := dkwX1_feed_1 ++ dktX1_feed_2
def dkwX1_feed_0 : List UInt8 := [42, 180, 0, 88, 16, 20, 96, 17, 2, 88, 164, 0, 5, 2, 172, 42, 27, 182, 0, 91, 42, 28]
abbrev dktX1_feed_0 : List UInt8 := dkwX1_feed_0 ++ dktX1_feed_1
theorem dksX1_feed_0 : cX1_feed.data.toList.drop 0 = dktX1_feed_0 := by decide +kernel
theorem dksX1_feed_1 : cX1_feed.data.toList.drop 22 = dktX1_feed_1 := dk_seg dksX1_feed_0 22 rfl rfl
theorem dksX1_feed_2 : cX1_feed.data.toList.drop 46 = dktX1_feed_2 := dk_seg dksX1_feed_1 24 rfl rfl
theorem dX1_feed_0 : decode cX1_feed 0 = .ok (.aload_n 0, 1) := dk_42 (dk_at dksX1_feed_0 0 rfl rfl)
theorem dX1_feed_1 : decode cX1_feed 1 = .ok (.getfield 88, 3) := dk_180 0 88 (dk_at dksX1_feed_0 1 rfl rfl)
theorem dX1_feed_4 : decode cX1_feed 4 = .ok (.bipush 20, 2) := dk_16 20 (dk_at dksX1_feed_0 4 rfl rfl)
theorem dX1_feed_6 : decode cX1_feed 6 = .ok (.iadd, 1) := dk_96 (dk_at dksX1_feed_0 6 rfl rfl)
theorem dX1_feed_7 : decode cX1_feed 7 = .ok (.sipush 600, 3) := dk_17 2 88 (dk_at dksX1_feed_0 7 rfl rfl)
theorem dX1_feed_10 : decode cX1_feed 10 = .ok (.if_icmp .le 5, 3) := dk_164 0 5 (dk_at dksX1_feed_0 10 rfl rfl)
theorem dX1_feed_13 : decode cX1_feed 13 = .ok (.iconst (-1), 1) := dk_2 (dk_at dksX1_feed_0 13 rfl rfl)
theorem dX1_feed_14 : decode cX1_feed 14 = .ok (.ireturn, 1) := dk_172 (dk_at dksX1_feed_0 14 rfl rfl)
theorem dX1_feed_15 : decode cX1_feed 15 = .ok (.aload_n 0, 1) := dk_42 (dk_at dksX1_feed_0 15 rfl rfl)
theorem dX1_feed_16 : decode cX1_feed 16 = .ok (.iload_n 1, 1) := dk_27 (dk_at dksX1_feed_0 16 rfl rfl)
theorem dX1_feed_17 : decode cX1_feed 17 = .ok (.invokevirtual 91, 3) := dk_182 0 91 (dk_at dksX1_feed_0 17 rfl rfl)
theorem dX1_feed_20 : decode cX1_feed 20 = .ok (.aload_n 0, 1) := dk_42 (dk_at dksX1_feed_0 20 rfl rfl)
theorem dX1_feed_21 : decode cX1_feed 21 = .ok (.iload_n 2, 1) := dk_28 (dk_at dksX1_feed_0 21 rfl rfl)
theorem dX1_feed_22 : decode cX1_feed 22 = .ok (.invokevirtual 91, 3) := dk_182 0 91 (dk_at dksX1_feed_1 0 rfl rfl)
theorem dX1_feed_25 : decode cX1_feed 25 = .ok (.aload_n 0, 1) := dk_42 (dk_at dksX1_feed_1 3 rfl rfl)
theorem dX1_feed_26 : decode cX1_feed 26 = .ok (.iload_n 3, 1) := dk_29 (dk_at dksX1_feed_1 4 rfl rfl)
theorem dX1_feed_27 : decode cX1_feed 27 = .ok (.invokevirtual 91, 3) := dk_182 0 91 (dk_at dksX1_feed_1 5 rfl rfl)
theorem dX1_feed_30 : decode cX1_feed 30 = .ok (.aload_n 0, 1) := dk_42 (dk_at dksX1_feed_1 8 rfl rfl)
theorem dX1_feed_31 : decode cX1_feed 31 = .ok (.iload 4, 2) := dk_21 4 (dk_at dksX1_feed_1 9 rfl rfl)
theorem dX1_feed_33 : decode cX1_feed 33 = .ok (.invokevirtual 91, 3) := dk_182 0 91 (dk_at dksX1_feed_1 11 rfl rfl)
theorem dX1_feed_36 : decode cX1_feed 36 = .ok (.aload_n 0, 1) := dk_42 (dk_at dksX1_feed_1 14 rfl rfl)
theorem dX1_feed_37 : decode cX1_feed 37 = .ok (.iload 5, 2) := dk_21 5 (dk_at dksX1_feed_1 15 rfl rfl)
theorem dX1_feed_39 : decode cX1_feed 39 = .ok (.invokevirtual 91, 3) := dk_182 0 91 (dk_at dksX1_feed_1 17 rfl rfl)
theorem dX1_feed_42 : decode cX1_feed 42 = .ok (.aload_n 0, 1) := dk_42 (dk_at dksX1_feed_1 20 rfl rfl)
theorem dX1_feed_43 : decode cX1_feed 43 = .ok (.getfield 88, 3) := dk_180 0 88 (dk_at dksX1_feed_1 21 rfl rfl)
theorem dX1_feed_46 : decode cX1_feed 46 = .ok (.ireturn, 1) := dk_172 (dk_at dksX1_feed_2 0 rfl rfl)
abbrev cX1_put : ByteArray := prog_1_method_14_code
def yX1_put : MethodName := ⟨RX1, "put", "(I)V"⟩
def dkwX1_put_1 : List UInt8 := [180, 0, 88, 4, 96, 181, 0, 88, 132, 2, 248, 167, 255, 226, 177]
abbrev dktX1_put_1 : List UInt8 := dkwX1_put_1 ++ []
def dkwX1_put_0 : List UInt8 := [16, 24, 61, 28, 155, 0, 32, 42, 180, 0, 32, 42, 180, 0, 88, 27, 28, 122, 145, 84, 42, 89]
abbrev dktX1_put_0 : List UInt8 := dkwX1_put_0 ++ dktX1_put_1
theorem dksX1_put_0 : cX1_put.data.toList.drop 0 = dktX1_put_0 := by decide +kernel
theorem dksX1_put_1 : cX1_put.data.toList.drop 22 = dktX1_put_1 := dk_seg dksX1_put_0 22 rfl rfl
theorem dX1_put_0 : decode cX1_put 0 = .ok (.bipush 24, 2) := dk_16 24 (dk_at dksX1_put_0 0 rfl rfl)
theorem dX1_put_2 : decode cX1_put 2 = .ok (.istore_n 2, 1) := dk_61 (dk_at dksX1_put_0 2 rfl rfl)
theorem dX1_put_3 : decode cX1_put 3 = .ok (.iload_n 2, 1) := dk_28 (dk_at dksX1_put_0 3 rfl rfl)
theorem dX1_put_4 : decode cX1_put 4 = .ok (.ifCond .lt 32, 3) := dk_155 0 32 (dk_at dksX1_put_0 4 rfl rfl)
theorem dX1_put_7 : decode cX1_put 7 = .ok (.aload_n 0, 1) := dk_42 (dk_at dksX1_put_0 7 rfl rfl)
theorem dX1_put_8 : decode cX1_put 8 = .ok (.getfield 32, 3) := dk_180 0 32 (dk_at dksX1_put_0 8 rfl rfl)
theorem dX1_put_11 : decode cX1_put 11 = .ok (.aload_n 0, 1) := dk_42 (dk_at dksX1_put_0 11 rfl rfl)
theorem dX1_put_12 : decode cX1_put 12 = .ok (.getfield 88, 3) := dk_180 0 88 (dk_at dksX1_put_0 12 rfl rfl)
theorem dX1_put_15 : decode cX1_put 15 = .ok (.iload_n 1, 1) := dk_27 (dk_at dksX1_put_0 15 rfl rfl)
theorem dX1_put_16 : decode cX1_put 16 = .ok (.iload_n 2, 1) := dk_28 (dk_at dksX1_put_0 16 rfl rfl)
theorem dX1_put_17 : decode cX1_put 17 = .ok (.ishr, 1) := dk_122 (dk_at dksX1_put_0 17 rfl rfl)
theorem dX1_put_18 : decode cX1_put 18 = .ok (.i2b, 1) := dk_145 (dk_at dksX1_put_0 18 rfl rfl)
theorem dX1_put_19 : decode cX1_put 19 = .ok (.bastore, 1) := dk_84 (dk_at dksX1_put_0 19 rfl rfl)
theorem dX1_put_20 : decode cX1_put 20 = .ok (.aload_n 0, 1) := dk_42 (dk_at dksX1_put_0 20 rfl rfl)
theorem dX1_put_21 : decode cX1_put 21 = .ok (.dup, 1) := dk_89 (dk_at dksX1_put_0 21 rfl rfl)
theorem dX1_put_22 : decode cX1_put 22 = .ok (.getfield 88, 3) := dk_180 0 88 (dk_at dksX1_put_1 0 rfl rfl)
theorem dX1_put_25 : decode cX1_put 25 = .ok (.iconst 1, 1) := dk_4 (dk_at dksX1_put_1 3 rfl rfl)
theorem dX1_put_26 : decode cX1_put 26 = .ok (.iadd, 1) := dk_96 (dk_at dksX1_put_1 4 rfl rfl)
theorem dX1_put_27 : decode cX1_put 27 = .ok (.putfield 88, 3) := dk_181 0 88 (dk_at dksX1_put_1 5 rfl rfl)
theorem dX1_put_30 : decode cX1_put 30 = .ok (.iinc 2 (-8), 3) := dk_132 2 248 (dk_at dksX1_put_1 8 rfl rfl)
theorem dX1_put_33 : decode cX1_put 33 = .ok (.goto (-30), 3) := dk_167 255 226 (dk_at dksX1_put_1 11 rfl rfl)
theorem dX1_put_36 : decode cX1_put 36 = .ok (.return_, 1) := dk_177 (dk_at dksX1_put_1 14 rfl rfl)
abbrev cX1_fault : ByteArray := prog_1_method_16_code
def yX1_fault : MethodName := ⟨RX1, "fault", "()I"⟩
theorem dX1_fault_0 : decode cX1_fault 0 = .ok (.aload_n 0, 1) := by decide +kernel
theorem dX1_fault_1 : decode cX1_fault 1 = .ok (.getfield 58, 3) := by decide +kernel
theorem dX1_fault_4 : decode cX1_fault 4 = .ok (.ireturn, 1) := by decide +kernel
abbrev cX1_undo : ByteArray := prog_1_method_27_code
def yX1_undo : MethodName := ⟨RX1, "undo", "()I"⟩
def dkwX1_undo_2 : List UInt8 := [185, 0, 71, 1, 0, 172]
abbrev dktX1_undo_2 : List UInt8 := dkwX1_undo_2 ++ []
def dkwX1_undo_1 : List UInt8 := [185, 0, 71, 1, 0, 4, 100, 185, 0, 77, 2, 0, 192, 0, 47, 181, 0, 54, 42, 180, 0, 43]
abbrev dktX1_undo_1 : List UInt8 := dkwX1_undo_1 ++ dktX1_undo_2
def dkwX1_undo_0 : List UInt8 := [42, 180, 0, 43, 185, 0, 205, 1, 0, 153, 0, 5, 2, 172, 42, 42, 180, 0, 43, 42, 180, 0, 43]
abbrev dktX1_undo_0 : List UInt8 := dkwX1_undo_0 ++ dktX1_undo_1
theorem dksX1_undo_0 : cX1_undo.data.toList.drop 0 = dktX1_undo_0 := by decide +kernel
theorem dksX1_undo_1 : cX1_undo.data.toList.drop 23 = dktX1_undo_1 := dk_seg dksX1_undo_0 23 rfl rfl
theorem dksX1_undo_2 : cX1_undo.data.toList.drop 45 = dktX1_undo_2 := dk_seg dksX1_undo_1 22 rfl rfl
theorem dX1_undo_0 : decode cX1_undo 0 = .ok (.aload_n 0, 1) := dk_42 (dk_at dksX1_undo_0 0 rfl rfl)
theorem dX1_undo_1 : decode cX1_undo 1 = .ok (.getfield 43, 3) := dk_180 0 43 (dk_at dksX1_undo_0 1 rfl rfl)
theorem dX1_undo_4 : decode cX1_undo 4 = .ok (.invokeinterface 205 1, 5) := by decide +kernel
theorem dX1_undo_9 : decode cX1_undo 9 = .ok (.ifCond .eq 5, 3) := dk_153 0 5 (dk_at dksX1_undo_0 9 rfl rfl)
theorem dX1_undo_12 : decode cX1_undo 12 = .ok (.iconst (-1), 1) := dk_2 (dk_at dksX1_undo_0 12 rfl rfl)
theorem dX1_undo_13 : decode cX1_undo 13 = .ok (.ireturn, 1) := dk_172 (dk_at dksX1_undo_0 13 rfl rfl)
theorem dX1_undo_14 : decode cX1_undo 14 = .ok (.aload_n 0, 1) := dk_42 (dk_at dksX1_undo_0 14 rfl rfl)
theorem dX1_undo_15 : decode cX1_undo 15 = .ok (.aload_n 0, 1) := dk_42 (dk_at dksX1_undo_0 15 rfl rfl)
theorem dX1_undo_16 : decode cX1_undo 16 = .ok (.getfield 43, 3) := dk_180 0 43 (dk_at dksX1_undo_0 16 rfl rfl)
theorem dX1_undo_19 : decode cX1_undo 19 = .ok (.aload_n 0, 1) := dk_42 (dk_at dksX1_undo_0 19 rfl rfl)
theorem dX1_undo_20 : decode cX1_undo 20 = .ok (.getfield 43, 3) := dk_180 0 43 (dk_at dksX1_undo_0 20 rfl rfl)
theorem dX1_undo_23 : decode cX1_undo 23 = .ok (.invokeinterface 71 1, 5) := by decide +kernel
theorem dX1_undo_28 : decode cX1_undo 28 = .ok (.iconst 1, 1) := dk_4 (dk_at dksX1_undo_1 5 rfl rfl)
theorem dX1_undo_29 : decode cX1_undo 29 = .ok (.isub, 1) := dk_100 (dk_at dksX1_undo_1 6 rfl rfl)
theorem dX1_undo_30 : decode cX1_undo 30 = .ok (.invokeinterface 77 2, 5) := by decide +kernel
theorem dX1_undo_35 : decode cX1_undo 35 = .ok (.checkcast 47, 3) := dk_192 0 47 (dk_at dksX1_undo_1 12 rfl rfl)
theorem dX1_undo_38 : decode cX1_undo 38 = .ok (.putfield 54, 3) := dk_181 0 54 (dk_at dksX1_undo_1 15 rfl rfl)
theorem dX1_undo_41 : decode cX1_undo 41 = .ok (.aload_n 0, 1) := dk_42 (dk_at dksX1_undo_1 18 rfl rfl)
theorem dX1_undo_42 : decode cX1_undo 42 = .ok (.getfield 43, 3) := dk_180 0 43 (dk_at dksX1_undo_1 19 rfl rfl)
theorem dX1_undo_45 : decode cX1_undo 45 = .ok (.invokeinterface 71 1, 5) := by decide +kernel
theorem dX1_undo_50 : decode cX1_undo 50 = .ok (.ireturn, 1) := dk_172 (dk_at dksX1_undo_2 5 rfl rfl)
abbrev cX1_passes : ByteArray := prog_1_method_35_code
def yX1_passes : MethodName := ⟨RX1, "passes", "()I"⟩
def dkwX1_passes_0 : List UInt8 := [42, 180, 0, 54, 3, 182, 1, 23, 42, 180, 0, 54, 180, 0, 211, 161, 0, 7, 4, 167, 0, 4, 3, 172]
abbrev dktX1_passes_0 : List UInt8 := dkwX1_passes_0 ++ []
theorem dksX1_passes_0 : cX1_passes.data.toList.drop 0 = dktX1_passes_0 := by decide +kernel
theorem dX1_passes_0 : decode cX1_passes 0 = .ok (.aload_n 0, 1) := dk_42 (dk_at dksX1_passes_0 0 rfl rfl)
theorem dX1_passes_1 : decode cX1_passes 1 = .ok (.getfield 54, 3) := dk_180 0 54 (dk_at dksX1_passes_0 1 rfl rfl)
theorem dX1_passes_4 : decode cX1_passes 4 = .ok (.iconst 0, 1) := dk_3 (dk_at dksX1_passes_0 4 rfl rfl)
theorem dX1_passes_5 : decode cX1_passes 5 = .ok (.invokevirtual 279, 3) := dk_182 1 23 (dk_at dksX1_passes_0 5 rfl rfl)
theorem dX1_passes_8 : decode cX1_passes 8 = .ok (.aload_n 0, 1) := dk_42 (dk_at dksX1_passes_0 8 rfl rfl)
theorem dX1_passes_9 : decode cX1_passes 9 = .ok (.getfield 54, 3) := dk_180 0 54 (dk_at dksX1_passes_0 9 rfl rfl)
theorem dX1_passes_12 : decode cX1_passes 12 = .ok (.getfield 211, 3) := dk_180 0 211 (dk_at dksX1_passes_0 12 rfl rfl)
theorem dX1_passes_15 : decode cX1_passes 15 = .ok (.if_icmp .lt 7, 3) := dk_161 0 7 (dk_at dksX1_passes_0 15 rfl rfl)
theorem dX1_passes_18 : decode cX1_passes 18 = .ok (.iconst 1, 1) := dk_4 (dk_at dksX1_passes_0 18 rfl rfl)
theorem dX1_passes_19 : decode cX1_passes 19 = .ok (.goto 4, 3) := dk_167 0 4 (dk_at dksX1_passes_0 19 rfl rfl)
theorem dX1_passes_22 : decode cX1_passes 22 = .ok (.iconst 0, 1) := dk_3 (dk_at dksX1_passes_0 22 rfl rfl)
theorem dX1_passes_23 : decode cX1_passes 23 = .ok (.ireturn, 1) := dk_172 (dk_at dksX1_passes_0 23 rfl rfl)
abbrev cX1_fewest : ByteArray := prog_1_method_47_code
def yX1_fewest : MethodName := ⟨RX1, "fewest", "()I"⟩
def dkwX1_fewest_1 : List UInt8 := [180, 0, 54, 180, 0, 211, 161, 0, 5, 28, 172, 132, 2, 1, 167, 255, 229, 2, 172]
abbrev dktX1_fewest_1 : List UInt8 := dkwX1_fewest_1 ++ []
def dkwX1_fewest_0 : List UInt8 := [42, 180, 0, 54, 182, 0, 122, 60, 4, 61, 28, 27, 163, 0, 28, 42, 27, 28, 28, 182, 1, 60, 42]
abbrev dktX1_fewest_0 : List UInt8 := dkwX1_fewest_0 ++ dktX1_fewest_1
theorem dksX1_fewest_0 : cX1_fewest.data.toList.drop 0 = dktX1_fewest_0 := by decide +kernel
theorem dksX1_fewest_1 : cX1_fewest.data.toList.drop 23 = dktX1_fewest_1 := dk_seg dksX1_fewest_0 23 rfl rfl
theorem dX1_fewest_0 : decode cX1_fewest 0 = .ok (.aload_n 0, 1) := dk_42 (dk_at dksX1_fewest_0 0 rfl rfl)
theorem dX1_fewest_1 : decode cX1_fewest 1 = .ok (.getfield 54, 3) := dk_180 0 54 (dk_at dksX1_fewest_0 1 rfl rfl)
theorem dX1_fewest_4 : decode cX1_fewest 4 = .ok (.invokevirtual 122, 3) := dk_182 0 122 (dk_at dksX1_fewest_0 4 rfl rfl)
theorem dX1_fewest_7 : decode cX1_fewest 7 = .ok (.istore_n 1, 1) := dk_60 (dk_at dksX1_fewest_0 7 rfl rfl)
theorem dX1_fewest_8 : decode cX1_fewest 8 = .ok (.iconst 1, 1) := dk_4 (dk_at dksX1_fewest_0 8 rfl rfl)
theorem dX1_fewest_9 : decode cX1_fewest 9 = .ok (.istore_n 2, 1) := dk_61 (dk_at dksX1_fewest_0 9 rfl rfl)
theorem dX1_fewest_10 : decode cX1_fewest 10 = .ok (.iload_n 2, 1) := dk_28 (dk_at dksX1_fewest_0 10 rfl rfl)
theorem dX1_fewest_11 : decode cX1_fewest 11 = .ok (.iload_n 1, 1) := dk_27 (dk_at dksX1_fewest_0 11 rfl rfl)
theorem dX1_fewest_12 : decode cX1_fewest 12 = .ok (.if_icmp .gt 28, 3) := dk_163 0 28 (dk_at dksX1_fewest_0 12 rfl rfl)
theorem dX1_fewest_15 : decode cX1_fewest 15 = .ok (.aload_n 0, 1) := dk_42 (dk_at dksX1_fewest_0 15 rfl rfl)
theorem dX1_fewest_16 : decode cX1_fewest 16 = .ok (.iload_n 1, 1) := dk_27 (dk_at dksX1_fewest_0 16 rfl rfl)
theorem dX1_fewest_17 : decode cX1_fewest 17 = .ok (.iload_n 2, 1) := dk_28 (dk_at dksX1_fewest_0 17 rfl rfl)
theorem dX1_fewest_18 : decode cX1_fewest 18 = .ok (.iload_n 2, 1) := dk_28 (dk_at dksX1_fewest_0 18 rfl rfl)
theorem dX1_fewest_19 : decode cX1_fewest 19 = .ok (.invokevirtual 316, 3) := dk_182 1 60 (dk_at dksX1_fewest_0 19 rfl rfl)
theorem dX1_fewest_22 : decode cX1_fewest 22 = .ok (.aload_n 0, 1) := dk_42 (dk_at dksX1_fewest_0 22 rfl rfl)
theorem dX1_fewest_23 : decode cX1_fewest 23 = .ok (.getfield 54, 3) := dk_180 0 54 (dk_at dksX1_fewest_1 0 rfl rfl)
theorem dX1_fewest_26 : decode cX1_fewest 26 = .ok (.getfield 211, 3) := dk_180 0 211 (dk_at dksX1_fewest_1 3 rfl rfl)
theorem dX1_fewest_29 : decode cX1_fewest 29 = .ok (.if_icmp .lt 5, 3) := dk_161 0 5 (dk_at dksX1_fewest_1 6 rfl rfl)
theorem dX1_fewest_32 : decode cX1_fewest 32 = .ok (.iload_n 2, 1) := dk_28 (dk_at dksX1_fewest_1 9 rfl rfl)
theorem dX1_fewest_33 : decode cX1_fewest 33 = .ok (.ireturn, 1) := dk_172 (dk_at dksX1_fewest_1 10 rfl rfl)
theorem dX1_fewest_34 : decode cX1_fewest 34 = .ok (.iinc 2 1, 3) := dk_132 2 1 (dk_at dksX1_fewest_1 11 rfl rfl)
theorem dX1_fewest_37 : decode cX1_fewest 37 = .ok (.goto (-27), 3) := dk_167 255 229 (dk_at dksX1_fewest_1 14 rfl rfl)
theorem dX1_fewest_40 : decode cX1_fewest 40 = .ok (.iconst (-1), 1) := dk_2 (dk_at dksX1_fewest_1 17 rfl rfl)
theorem dX1_fewest_41 : decode cX1_fewest 41 = .ok (.ireturn, 1) := dk_172 (dk_at dksX1_fewest_1 18 rfl rfl)
abbrev cX1_low : ByteArray := prog_1_method_40_code
def yX1_low : MethodName := ⟨RX1, "low", "(III)I"⟩
def dkwX1_low_1 : List UInt8 := [132, 4, 1, 167, 255, 234, 21, 4, 172]
abbrev dktX1_low_1 : List UInt8 := dkwX1_low_1 ++ []
def dkwX1_low_0 : List UInt8 := [3, 54, 4, 42, 42, 27, 28, 21, 4, 29, 28, 182, 1, 43, 27, 28, 182, 1, 47, 154, 0, 9]
abbrev dktX1_low_0 : List UInt8 := dkwX1_low_0 ++ dktX1_low_1
theorem dksX1_low_0 : cX1_low.data.toList.drop 0 = dktX1_low_0 := by decide +kernel
theorem dksX1_low_1 : cX1_low.data.toList.drop 22 = dktX1_low_1 := dk_seg dksX1_low_0 22 rfl rfl
theorem dX1_low_0 : decode cX1_low 0 = .ok (.iconst 0, 1) := dk_3 (dk_at dksX1_low_0 0 rfl rfl)
theorem dX1_low_1 : decode cX1_low 1 = .ok (.istore 4, 2) := dk_54 4 (dk_at dksX1_low_0 1 rfl rfl)
theorem dX1_low_3 : decode cX1_low 3 = .ok (.aload_n 0, 1) := dk_42 (dk_at dksX1_low_0 3 rfl rfl)
theorem dX1_low_4 : decode cX1_low 4 = .ok (.aload_n 0, 1) := dk_42 (dk_at dksX1_low_0 4 rfl rfl)
theorem dX1_low_5 : decode cX1_low 5 = .ok (.iload_n 1, 1) := dk_27 (dk_at dksX1_low_0 5 rfl rfl)
theorem dX1_low_6 : decode cX1_low 6 = .ok (.iload_n 2, 1) := dk_28 (dk_at dksX1_low_0 6 rfl rfl)
theorem dX1_low_7 : decode cX1_low 7 = .ok (.iload 4, 2) := dk_21 4 (dk_at dksX1_low_0 7 rfl rfl)
theorem dX1_low_9 : decode cX1_low 9 = .ok (.iload_n 3, 1) := dk_29 (dk_at dksX1_low_0 9 rfl rfl)
theorem dX1_low_10 : decode cX1_low 10 = .ok (.iload_n 2, 1) := dk_28 (dk_at dksX1_low_0 10 rfl rfl)
theorem dX1_low_11 : decode cX1_low 11 = .ok (.invokevirtual 299, 3) := dk_182 1 43 (dk_at dksX1_low_0 11 rfl rfl)
theorem dX1_low_14 : decode cX1_low 14 = .ok (.iload_n 1, 1) := dk_27 (dk_at dksX1_low_0 14 rfl rfl)
theorem dX1_low_15 : decode cX1_low 15 = .ok (.iload_n 2, 1) := dk_28 (dk_at dksX1_low_0 15 rfl rfl)
theorem dX1_low_16 : decode cX1_low 16 = .ok (.invokevirtual 303, 3) := dk_182 1 47 (dk_at dksX1_low_0 16 rfl rfl)
theorem dX1_low_19 : decode cX1_low 19 = .ok (.ifCond .ne 9, 3) := dk_154 0 9 (dk_at dksX1_low_0 19 rfl rfl)
theorem dX1_low_22 : decode cX1_low 22 = .ok (.iinc 4 1, 3) := dk_132 4 1 (dk_at dksX1_low_1 0 rfl rfl)
theorem dX1_low_25 : decode cX1_low 25 = .ok (.goto (-22), 3) := dk_167 255 234 (dk_at dksX1_low_1 3 rfl rfl)
theorem dX1_low_28 : decode cX1_low 28 = .ok (.iload 4, 2) := dk_21 4 (dk_at dksX1_low_1 6 rfl rfl)
theorem dX1_low_30 : decode cX1_low 30 = .ok (.ireturn, 1) := dk_172 (dk_at dksX1_low_1 8 rfl rfl)
abbrev cX1_waysOf : ByteArray := prog_1_method_38_code
def yX1_waysOf : MethodName := ⟨RX1, "waysOf", "(IIIII)J"⟩
def dkwX1_waysOf_2 : List UInt8 := [50, 28, 21, 8, 100, 47, 105, 97, 55, 6, 132, 8, 1, 167, 255, 210, 22, 6, 173]
abbrev dktX1_waysOf_2 : List UInt8 := dkwX1_waysOf_2 ++ []
def dkwX1_waysOf_1 : List UInt8 := [184, 1, 38, 163, 0, 37, 22, 6, 42, 180, 0, 29, 29, 50, 21, 8, 47, 42, 180, 0, 29, 27, 29, 100]
abbrev dktX1_waysOf_1 : List UInt8 := dkwX1_waysOf_1 ++ dktX1_waysOf_2
def dkwX1_waysOf_0 : List UInt8 := [9, 55, 6, 21, 4, 28, 27, 29, 100, 100, 184, 1, 34, 54, 8, 21, 8, 21, 5, 28, 29, 184, 1, 38]
abbrev dktX1_waysOf_0 : List UInt8 := dkwX1_waysOf_0 ++ dktX1_waysOf_1
theorem dksX1_waysOf_0 : cX1_waysOf.data.toList.drop 0 = dktX1_waysOf_0 := by decide +kernel
theorem dksX1_waysOf_1 : cX1_waysOf.data.toList.drop 24 = dktX1_waysOf_1 := dk_seg dksX1_waysOf_0 24 rfl rfl
theorem dksX1_waysOf_2 : cX1_waysOf.data.toList.drop 48 = dktX1_waysOf_2 := dk_seg dksX1_waysOf_1 24 rfl rfl
theorem dX1_waysOf_0 : decode cX1_waysOf 0 = .ok (.lconst 0, 1) := dk_9 (dk_at dksX1_waysOf_0 0 rfl rfl)
theorem dX1_waysOf_1 : decode cX1_waysOf 1 = .ok (.lstore 6, 2) := dk_55 6 (dk_at dksX1_waysOf_0 1 rfl rfl)
theorem dX1_waysOf_3 : decode cX1_waysOf 3 = .ok (.iload 4, 2) := dk_21 4 (dk_at dksX1_waysOf_0 3 rfl rfl)
theorem dX1_waysOf_5 : decode cX1_waysOf 5 = .ok (.iload_n 2, 1) := dk_28 (dk_at dksX1_waysOf_0 5 rfl rfl)
theorem dX1_waysOf_6 : decode cX1_waysOf 6 = .ok (.iload_n 1, 1) := dk_27 (dk_at dksX1_waysOf_0 6 rfl rfl)
theorem dX1_waysOf_7 : decode cX1_waysOf 7 = .ok (.iload_n 3, 1) := dk_29 (dk_at dksX1_waysOf_0 7 rfl rfl)
theorem dX1_waysOf_8 : decode cX1_waysOf 8 = .ok (.isub, 1) := dk_100 (dk_at dksX1_waysOf_0 8 rfl rfl)
theorem dX1_waysOf_9 : decode cX1_waysOf 9 = .ok (.isub, 1) := dk_100 (dk_at dksX1_waysOf_0 9 rfl rfl)
theorem dX1_waysOf_10 : decode cX1_waysOf 10 = .ok (.invokestatic 290, 3) := dk_184 1 34 (dk_at dksX1_waysOf_0 10 rfl rfl)
theorem dX1_waysOf_13 : decode cX1_waysOf 13 = .ok (.istore 8, 2) := dk_54 8 (dk_at dksX1_waysOf_0 13 rfl rfl)
theorem dX1_waysOf_15 : decode cX1_waysOf 15 = .ok (.iload 8, 2) := dk_21 8 (dk_at dksX1_waysOf_0 15 rfl rfl)
theorem dX1_waysOf_17 : decode cX1_waysOf 17 = .ok (.iload 5, 2) := dk_21 5 (dk_at dksX1_waysOf_0 17 rfl rfl)
theorem dX1_waysOf_19 : decode cX1_waysOf 19 = .ok (.iload_n 2, 1) := dk_28 (dk_at dksX1_waysOf_0 19 rfl rfl)
theorem dX1_waysOf_20 : decode cX1_waysOf 20 = .ok (.iload_n 3, 1) := dk_29 (dk_at dksX1_waysOf_0 20 rfl rfl)
theorem dX1_waysOf_21 : decode cX1_waysOf 21 = .ok (.invokestatic 294, 3) := dk_184 1 38 (dk_at dksX1_waysOf_0 21 rfl rfl)
theorem dX1_waysOf_24 : decode cX1_waysOf 24 = .ok (.invokestatic 294, 3) := dk_184 1 38 (dk_at dksX1_waysOf_1 0 rfl rfl)
theorem dX1_waysOf_27 : decode cX1_waysOf 27 = .ok (.if_icmp .gt 37, 3) := dk_163 0 37 (dk_at dksX1_waysOf_1 3 rfl rfl)
theorem dX1_waysOf_30 : decode cX1_waysOf 30 = .ok (.lload 6, 2) := dk_22 6 (dk_at dksX1_waysOf_1 6 rfl rfl)
theorem dX1_waysOf_32 : decode cX1_waysOf 32 = .ok (.aload_n 0, 1) := dk_42 (dk_at dksX1_waysOf_1 8 rfl rfl)
theorem dX1_waysOf_33 : decode cX1_waysOf 33 = .ok (.getfield 29, 3) := dk_180 0 29 (dk_at dksX1_waysOf_1 9 rfl rfl)
theorem dX1_waysOf_36 : decode cX1_waysOf 36 = .ok (.iload_n 3, 1) := dk_29 (dk_at dksX1_waysOf_1 12 rfl rfl)
theorem dX1_waysOf_37 : decode cX1_waysOf 37 = .ok (.aaload, 1) := dk_50 (dk_at dksX1_waysOf_1 13 rfl rfl)
theorem dX1_waysOf_38 : decode cX1_waysOf 38 = .ok (.iload 8, 2) := dk_21 8 (dk_at dksX1_waysOf_1 14 rfl rfl)
theorem dX1_waysOf_40 : decode cX1_waysOf 40 = .ok (.laload, 1) := dk_47 (dk_at dksX1_waysOf_1 16 rfl rfl)
theorem dX1_waysOf_41 : decode cX1_waysOf 41 = .ok (.aload_n 0, 1) := dk_42 (dk_at dksX1_waysOf_1 17 rfl rfl)
theorem dX1_waysOf_42 : decode cX1_waysOf 42 = .ok (.getfield 29, 3) := dk_180 0 29 (dk_at dksX1_waysOf_1 18 rfl rfl)
theorem dX1_waysOf_45 : decode cX1_waysOf 45 = .ok (.iload_n 1, 1) := dk_27 (dk_at dksX1_waysOf_1 21 rfl rfl)
theorem dX1_waysOf_46 : decode cX1_waysOf 46 = .ok (.iload_n 3, 1) := dk_29 (dk_at dksX1_waysOf_1 22 rfl rfl)
theorem dX1_waysOf_47 : decode cX1_waysOf 47 = .ok (.isub, 1) := dk_100 (dk_at dksX1_waysOf_1 23 rfl rfl)
theorem dX1_waysOf_48 : decode cX1_waysOf 48 = .ok (.aaload, 1) := dk_50 (dk_at dksX1_waysOf_2 0 rfl rfl)
theorem dX1_waysOf_49 : decode cX1_waysOf 49 = .ok (.iload_n 2, 1) := dk_28 (dk_at dksX1_waysOf_2 1 rfl rfl)
theorem dX1_waysOf_50 : decode cX1_waysOf 50 = .ok (.iload 8, 2) := dk_21 8 (dk_at dksX1_waysOf_2 2 rfl rfl)
theorem dX1_waysOf_52 : decode cX1_waysOf 52 = .ok (.isub, 1) := dk_100 (dk_at dksX1_waysOf_2 4 rfl rfl)
theorem dX1_waysOf_53 : decode cX1_waysOf 53 = .ok (.laload, 1) := dk_47 (dk_at dksX1_waysOf_2 5 rfl rfl)
theorem dX1_waysOf_54 : decode cX1_waysOf 54 = .ok (.lmul, 1) := dk_105 (dk_at dksX1_waysOf_2 6 rfl rfl)
theorem dX1_waysOf_55 : decode cX1_waysOf 55 = .ok (.ladd, 1) := dk_97 (dk_at dksX1_waysOf_2 7 rfl rfl)
theorem dX1_waysOf_56 : decode cX1_waysOf 56 = .ok (.lstore 6, 2) := dk_55 6 (dk_at dksX1_waysOf_2 8 rfl rfl)
theorem dX1_waysOf_58 : decode cX1_waysOf 58 = .ok (.iinc 8 1, 3) := dk_132 8 1 (dk_at dksX1_waysOf_2 10 rfl rfl)
theorem dX1_waysOf_61 : decode cX1_waysOf 61 = .ok (.goto (-46), 3) := dk_167 255 210 (dk_at dksX1_waysOf_2 13 rfl rfl)
theorem dX1_waysOf_64 : decode cX1_waysOf 64 = .ok (.lload 6, 2) := dk_22 6 (dk_at dksX1_waysOf_2 16 rfl rfl)
theorem dX1_waysOf_66 : decode cX1_waysOf 66 = .ok (.lreturn, 1) := dk_173 (dk_at dksX1_waysOf_2 18 rfl rfl)
abbrev cX1_isLikely : ByteArray := prog_1_method_39_code
def yX1_isLikely : MethodName := ⟨RX1, "isLikely", "(JII)Z"⟩
def dkwX1_isLikely_1 : List UInt8 := [158, 0, 7, 4, 167, 0, 4, 3, 172]
abbrev dktX1_isLikely_1 : List UInt8 := dkwX1_isLikely_1 ++ []
def dkwX1_isLikely_0 : List UInt8 := [20, 1, 41, 31, 105, 42, 180, 0, 54, 180, 0, 222, 133, 42, 180, 0, 29, 29, 50, 21, 4, 47, 105, 148]
abbrev dktX1_isLikely_0 : List UInt8 := dkwX1_isLikely_0 ++ dktX1_isLikely_1
theorem dksX1_isLikely_0 : cX1_isLikely.data.toList.drop 0 = dktX1_isLikely_0 := by decide +kernel
theorem dksX1_isLikely_1 : cX1_isLikely.data.toList.drop 24 = dktX1_isLikely_1 := dk_seg dksX1_isLikely_0 24 rfl rfl
theorem dX1_isLikely_0 : decode cX1_isLikely 0 = .ok (.ldc2_w 297, 3) := dk_20 1 41 (dk_at dksX1_isLikely_0 0 rfl rfl)
theorem dX1_isLikely_3 : decode cX1_isLikely 3 = .ok (.lload_n 1, 1) := dk_31 (dk_at dksX1_isLikely_0 3 rfl rfl)
theorem dX1_isLikely_4 : decode cX1_isLikely 4 = .ok (.lmul, 1) := dk_105 (dk_at dksX1_isLikely_0 4 rfl rfl)
theorem dX1_isLikely_5 : decode cX1_isLikely 5 = .ok (.aload_n 0, 1) := dk_42 (dk_at dksX1_isLikely_0 5 rfl rfl)
theorem dX1_isLikely_6 : decode cX1_isLikely 6 = .ok (.getfield 54, 3) := dk_180 0 54 (dk_at dksX1_isLikely_0 6 rfl rfl)
theorem dX1_isLikely_9 : decode cX1_isLikely 9 = .ok (.getfield 222, 3) := dk_180 0 222 (dk_at dksX1_isLikely_0 9 rfl rfl)
theorem dX1_isLikely_12 : decode cX1_isLikely 12 = .ok (.i2l, 1) := dk_133 (dk_at dksX1_isLikely_0 12 rfl rfl)
theorem dX1_isLikely_13 : decode cX1_isLikely 13 = .ok (.aload_n 0, 1) := dk_42 (dk_at dksX1_isLikely_0 13 rfl rfl)
theorem dX1_isLikely_14 : decode cX1_isLikely 14 = .ok (.getfield 29, 3) := dk_180 0 29 (dk_at dksX1_isLikely_0 14 rfl rfl)
theorem dX1_isLikely_17 : decode cX1_isLikely 17 = .ok (.iload_n 3, 1) := dk_29 (dk_at dksX1_isLikely_0 17 rfl rfl)
theorem dX1_isLikely_18 : decode cX1_isLikely 18 = .ok (.aaload, 1) := dk_50 (dk_at dksX1_isLikely_0 18 rfl rfl)
theorem dX1_isLikely_19 : decode cX1_isLikely 19 = .ok (.iload 4, 2) := dk_21 4 (dk_at dksX1_isLikely_0 19 rfl rfl)
theorem dX1_isLikely_21 : decode cX1_isLikely 21 = .ok (.laload, 1) := dk_47 (dk_at dksX1_isLikely_0 21 rfl rfl)
theorem dX1_isLikely_22 : decode cX1_isLikely 22 = .ok (.lmul, 1) := dk_105 (dk_at dksX1_isLikely_0 22 rfl rfl)
theorem dX1_isLikely_23 : decode cX1_isLikely 23 = .ok (.lcmp, 1) := dk_148 (dk_at dksX1_isLikely_0 23 rfl rfl)
theorem dX1_isLikely_24 : decode cX1_isLikely 24 = .ok (.ifCond .le 7, 3) := dk_158 0 7 (dk_at dksX1_isLikely_1 0 rfl rfl)
theorem dX1_isLikely_27 : decode cX1_isLikely 27 = .ok (.iconst 1, 1) := dk_4 (dk_at dksX1_isLikely_1 3 rfl rfl)
theorem dX1_isLikely_28 : decode cX1_isLikely 28 = .ok (.goto 4, 3) := dk_167 0 4 (dk_at dksX1_isLikely_1 4 rfl rfl)
theorem dX1_isLikely_31 : decode cX1_isLikely 31 = .ok (.iconst 0, 1) := dk_3 (dk_at dksX1_isLikely_1 7 rfl rfl)
theorem dX1_isLikely_32 : decode cX1_isLikely 32 = .ok (.ireturn, 1) := dk_172 (dk_at dksX1_isLikely_1 8 rfl rfl)
abbrev cX1_print : ByteArray := prog_1_method_51_code
def yX1_print : MethodName := ⟨RX1, "print", "()J"⟩
def dkwX1_print_2 : List UInt8 := [20, 1, 93, 31, 105, 25, 4, 180, 0, 202, 133, 97, 64, 167, 255, 210, 31, 173]
abbrev dktX1_print_2 : List UInt8 := dkwX1_print_2 ++ []
def dkwX1_print_1 : List UInt8 := [185, 0, 242, 1, 0, 192, 0, 162, 58, 4, 20, 1, 93, 31, 105, 25, 4, 180, 1, 11, 133, 97, 64]
abbrev dktX1_print_1 : List UInt8 := dkwX1_print_1 ++ dktX1_print_2
def dkwX1_print_0 : List UInt8 := [9, 64, 42, 180, 0, 54, 182, 0, 233, 78, 45, 185, 0, 237, 1, 0, 153, 0, 43, 45]
abbrev dktX1_print_0 : List UInt8 := dkwX1_print_0 ++ dktX1_print_1
theorem dksX1_print_0 : cX1_print.data.toList.drop 0 = dktX1_print_0 := by decide +kernel
theorem dksX1_print_1 : cX1_print.data.toList.drop 20 = dktX1_print_1 := dk_seg dksX1_print_0 20 rfl rfl
theorem dksX1_print_2 : cX1_print.data.toList.drop 43 = dktX1_print_2 := dk_seg dksX1_print_1 23 rfl rfl
theorem dX1_print_0 : decode cX1_print 0 = .ok (.lconst 0, 1) := dk_9 (dk_at dksX1_print_0 0 rfl rfl)
theorem dX1_print_1 : decode cX1_print 1 = .ok (.lstore_n 1, 1) := dk_64 (dk_at dksX1_print_0 1 rfl rfl)
theorem dX1_print_2 : decode cX1_print 2 = .ok (.aload_n 0, 1) := dk_42 (dk_at dksX1_print_0 2 rfl rfl)
theorem dX1_print_3 : decode cX1_print 3 = .ok (.getfield 54, 3) := dk_180 0 54 (dk_at dksX1_print_0 3 rfl rfl)
theorem dX1_print_6 : decode cX1_print 6 = .ok (.invokevirtual 233, 3) := dk_182 0 233 (dk_at dksX1_print_0 6 rfl rfl)
theorem dX1_print_9 : decode cX1_print 9 = .ok (.astore_n 3, 1) := dk_78 (dk_at dksX1_print_0 9 rfl rfl)
theorem dX1_print_10 : decode cX1_print 10 = .ok (.aload_n 3, 1) := dk_45 (dk_at dksX1_print_0 10 rfl rfl)
theorem dX1_print_11 : decode cX1_print 11 = .ok (.invokeinterface 237 1, 5) := by decide +kernel
theorem dX1_print_16 : decode cX1_print 16 = .ok (.ifCond .eq 43, 3) := dk_153 0 43 (dk_at dksX1_print_0 16 rfl rfl)
theorem dX1_print_19 : decode cX1_print 19 = .ok (.aload_n 3, 1) := dk_45 (dk_at dksX1_print_0 19 rfl rfl)
theorem dX1_print_20 : decode cX1_print 20 = .ok (.invokeinterface 242 1, 5) := by decide +kernel
theorem dX1_print_25 : decode cX1_print 25 = .ok (.checkcast 162, 3) := dk_192 0 162 (dk_at dksX1_print_1 5 rfl rfl)
theorem dX1_print_28 : decode cX1_print 28 = .ok (.astore 4, 2) := dk_58 4 (dk_at dksX1_print_1 8 rfl rfl)
theorem dX1_print_30 : decode cX1_print 30 = .ok (.ldc2_w 349, 3) := dk_20 1 93 (dk_at dksX1_print_1 10 rfl rfl)
theorem dX1_print_33 : decode cX1_print 33 = .ok (.lload_n 1, 1) := dk_31 (dk_at dksX1_print_1 13 rfl rfl)
theorem dX1_print_34 : decode cX1_print 34 = .ok (.lmul, 1) := dk_105 (dk_at dksX1_print_1 14 rfl rfl)
theorem dX1_print_35 : decode cX1_print 35 = .ok (.aload 4, 2) := dk_25 4 (dk_at dksX1_print_1 15 rfl rfl)
theorem dX1_print_37 : decode cX1_print 37 = .ok (.getfield 267, 3) := dk_180 1 11 (dk_at dksX1_print_1 17 rfl rfl)
theorem dX1_print_40 : decode cX1_print 40 = .ok (.i2l, 1) := dk_133 (dk_at dksX1_print_1 20 rfl rfl)
theorem dX1_print_41 : decode cX1_print 41 = .ok (.ladd, 1) := dk_97 (dk_at dksX1_print_1 21 rfl rfl)
theorem dX1_print_42 : decode cX1_print 42 = .ok (.lstore_n 1, 1) := dk_64 (dk_at dksX1_print_1 22 rfl rfl)
theorem dX1_print_43 : decode cX1_print 43 = .ok (.ldc2_w 349, 3) := dk_20 1 93 (dk_at dksX1_print_2 0 rfl rfl)
theorem dX1_print_46 : decode cX1_print 46 = .ok (.lload_n 1, 1) := dk_31 (dk_at dksX1_print_2 3 rfl rfl)
theorem dX1_print_47 : decode cX1_print 47 = .ok (.lmul, 1) := dk_105 (dk_at dksX1_print_2 4 rfl rfl)
theorem dX1_print_48 : decode cX1_print 48 = .ok (.aload 4, 2) := dk_25 4 (dk_at dksX1_print_2 5 rfl rfl)
theorem dX1_print_50 : decode cX1_print 50 = .ok (.getfield 202, 3) := dk_180 0 202 (dk_at dksX1_print_2 7 rfl rfl)
theorem dX1_print_53 : decode cX1_print 53 = .ok (.i2l, 1) := dk_133 (dk_at dksX1_print_2 10 rfl rfl)
theorem dX1_print_54 : decode cX1_print 54 = .ok (.ladd, 1) := dk_97 (dk_at dksX1_print_2 11 rfl rfl)
theorem dX1_print_55 : decode cX1_print 55 = .ok (.lstore_n 1, 1) := dk_64 (dk_at dksX1_print_2 12 rfl rfl)
theorem dX1_print_56 : decode cX1_print 56 = .ok (.goto (-46), 3) := dk_167 255 210 (dk_at dksX1_print_2 13 rfl rfl)
theorem dX1_print_59 : decode cX1_print 59 = .ok (.lload_n 1, 1) := dk_31 (dk_at dksX1_print_2 16 rfl rfl)
theorem dX1_print_60 : decode cX1_print 60 = .ok (.lreturn, 1) := dk_173 (dk_at dksX1_print_2 17 rfl rfl)
abbrev cX1_status : ByteArray := prog_1_method_52_code
def yX1_status : MethodName := ⟨RX1, "status", "(I)I"⟩
def dkwX1_status_0 : List UInt8 := [27, 133, 9, 20, 1, 67, 184, 0, 95, 153, 0, 12, 42, 180, 0, 36, 27, 46, 167, 0, 4, 2, 172]
abbrev dktX1_status_0 : List UInt8 := dkwX1_status_0 ++ []
theorem dksX1_status_0 : cX1_status.data.toList.drop 0 = dktX1_status_0 := by decide +kernel
theorem dX1_status_0 : decode cX1_status 0 = .ok (.iload_n 1, 1) := dk_27 (dk_at dksX1_status_0 0 rfl rfl)
theorem dX1_status_1 : decode cX1_status 1 = .ok (.i2l, 1) := dk_133 (dk_at dksX1_status_0 1 rfl rfl)
theorem dX1_status_2 : decode cX1_status 2 = .ok (.lconst 0, 1) := dk_9 (dk_at dksX1_status_0 2 rfl rfl)
theorem dX1_status_3 : decode cX1_status 3 = .ok (.ldc2_w 323, 3) := dk_20 1 67 (dk_at dksX1_status_0 3 rfl rfl)
theorem dX1_status_6 : decode cX1_status 6 = .ok (.invokestatic 95, 3) := dk_184 0 95 (dk_at dksX1_status_0 6 rfl rfl)
theorem dX1_status_9 : decode cX1_status 9 = .ok (.ifCond .eq 12, 3) := dk_153 0 12 (dk_at dksX1_status_0 9 rfl rfl)
theorem dX1_status_12 : decode cX1_status 12 = .ok (.aload_n 0, 1) := dk_42 (dk_at dksX1_status_0 12 rfl rfl)
theorem dX1_status_13 : decode cX1_status 13 = .ok (.getfield 36, 3) := dk_180 0 36 (dk_at dksX1_status_0 13 rfl rfl)
theorem dX1_status_16 : decode cX1_status 16 = .ok (.iload_n 1, 1) := dk_27 (dk_at dksX1_status_0 16 rfl rfl)
theorem dX1_status_17 : decode cX1_status 17 = .ok (.iaload, 1) := dk_46 (dk_at dksX1_status_0 17 rfl rfl)
theorem dX1_status_18 : decode cX1_status 18 = .ok (.goto 4, 3) := dk_167 0 4 (dk_at dksX1_status_0 18 rfl rfl)
theorem dX1_status_21 : decode cX1_status 21 = .ok (.iconst (-1), 1) := dk_2 (dk_at dksX1_status_0 21 rfl rfl)
theorem dX1_status_22 : decode cX1_status 22 = .ok (.ireturn, 1) := dk_172 (dk_at dksX1_status_0 22 rfl rfl)
abbrev cX1_text : ByteArray := prog_1_method_15_code
def yX1_text : MethodName := ⟨RX1, "text", "(I)I"⟩
def dkwX1_text_3 : List UInt8 := [182, 0, 122, 172]
abbrev dktX1_text_3 : List UInt8 := dkwX1_text_3 ++ []
def dkwX1_text_2 : List UInt8 := [180, 0, 113, 181, 0, 58, 45, 180, 0, 116, 16, 10, 100, 172, 42, 182, 0, 119, 42, 44, 181, 0, 54, 44]
abbrev dktX1_text_2 : List UInt8 := dkwX1_text_2 ++ dktX1_text_3
def dkwX1_text_1 : List UInt8 := [181, 0, 58, 187, 0, 103, 89, 42, 27, 183, 0, 105, 182, 0, 108, 77, 167, 0, 20, 78, 42, 45]
abbrev dktX1_text_1 : List UInt8 := dkwX1_text_1 ++ dktX1_text_2
def dkwX1_text_0 : List UInt8 := [42, 27, 133, 9, 42, 180, 0, 88, 133, 184, 0, 95, 182, 0, 99, 42, 3, 181, 0, 88, 42, 2]
abbrev dktX1_text_0 : List UInt8 := dkwX1_text_0 ++ dktX1_text_1
theorem dksX1_text_0 : cX1_text.data.toList.drop 0 = dktX1_text_0 := by decide +kernel
theorem dksX1_text_1 : cX1_text.data.toList.drop 22 = dktX1_text_1 := dk_seg dksX1_text_0 22 rfl rfl
theorem dksX1_text_2 : cX1_text.data.toList.drop 44 = dktX1_text_2 := dk_seg dksX1_text_1 22 rfl rfl
theorem dksX1_text_3 : cX1_text.data.toList.drop 68 = dktX1_text_3 := dk_seg dksX1_text_2 24 rfl rfl
theorem dX1_text_0 : decode cX1_text 0 = .ok (.aload_n 0, 1) := dk_42 (dk_at dksX1_text_0 0 rfl rfl)
theorem dX1_text_1 : decode cX1_text 1 = .ok (.iload_n 1, 1) := dk_27 (dk_at dksX1_text_0 1 rfl rfl)
theorem dX1_text_2 : decode cX1_text 2 = .ok (.i2l, 1) := dk_133 (dk_at dksX1_text_0 2 rfl rfl)
theorem dX1_text_3 : decode cX1_text 3 = .ok (.lconst 0, 1) := dk_9 (dk_at dksX1_text_0 3 rfl rfl)
theorem dX1_text_4 : decode cX1_text 4 = .ok (.aload_n 0, 1) := dk_42 (dk_at dksX1_text_0 4 rfl rfl)
theorem dX1_text_5 : decode cX1_text 5 = .ok (.getfield 88, 3) := dk_180 0 88 (dk_at dksX1_text_0 5 rfl rfl)
theorem dX1_text_8 : decode cX1_text 8 = .ok (.i2l, 1) := dk_133 (dk_at dksX1_text_0 8 rfl rfl)
theorem dX1_text_9 : decode cX1_text 9 = .ok (.invokestatic 95, 3) := dk_184 0 95 (dk_at dksX1_text_0 9 rfl rfl)
theorem dX1_text_12 : decode cX1_text 12 = .ok (.invokevirtual 99, 3) := dk_182 0 99 (dk_at dksX1_text_0 12 rfl rfl)
theorem dX1_text_15 : decode cX1_text 15 = .ok (.aload_n 0, 1) := dk_42 (dk_at dksX1_text_0 15 rfl rfl)
theorem dX1_text_16 : decode cX1_text 16 = .ok (.iconst 0, 1) := dk_3 (dk_at dksX1_text_0 16 rfl rfl)
theorem dX1_text_17 : decode cX1_text 17 = .ok (.putfield 88, 3) := dk_181 0 88 (dk_at dksX1_text_0 17 rfl rfl)
theorem dX1_text_20 : decode cX1_text 20 = .ok (.aload_n 0, 1) := dk_42 (dk_at dksX1_text_0 20 rfl rfl)
theorem dX1_text_21 : decode cX1_text 21 = .ok (.iconst (-1), 1) := dk_2 (dk_at dksX1_text_0 21 rfl rfl)
theorem dX1_text_22 : decode cX1_text 22 = .ok (.putfield 58, 3) := dk_181 0 58 (dk_at dksX1_text_1 0 rfl rfl)
theorem dX1_text_25 : decode cX1_text 25 = .ok (.new 103, 3) := dk_187 0 103 (dk_at dksX1_text_1 3 rfl rfl)
theorem dX1_text_28 : decode cX1_text 28 = .ok (.dup, 1) := dk_89 (dk_at dksX1_text_1 6 rfl rfl)
theorem dX1_text_29 : decode cX1_text 29 = .ok (.aload_n 0, 1) := dk_42 (dk_at dksX1_text_1 7 rfl rfl)
theorem dX1_text_30 : decode cX1_text 30 = .ok (.iload_n 1, 1) := dk_27 (dk_at dksX1_text_1 8 rfl rfl)
theorem dX1_text_31 : decode cX1_text 31 = .ok (.invokespecial 105, 3) := dk_183 0 105 (dk_at dksX1_text_1 9 rfl rfl)
theorem dX1_text_34 : decode cX1_text 34 = .ok (.invokevirtual 108, 3) := dk_182 0 108 (dk_at dksX1_text_1 12 rfl rfl)
theorem dX1_text_37 : decode cX1_text 37 = .ok (.astore_n 2, 1) := dk_77 (dk_at dksX1_text_1 15 rfl rfl)
theorem dX1_text_38 : decode cX1_text 38 = .ok (.goto 20, 3) := dk_167 0 20 (dk_at dksX1_text_1 16 rfl rfl)
theorem dX1_text_41 : decode cX1_text 41 = .ok (.astore_n 3, 1) := dk_78 (dk_at dksX1_text_1 19 rfl rfl)
theorem dX1_text_42 : decode cX1_text 42 = .ok (.aload_n 0, 1) := dk_42 (dk_at dksX1_text_1 20 rfl rfl)
theorem dX1_text_43 : decode cX1_text 43 = .ok (.aload_n 3, 1) := dk_45 (dk_at dksX1_text_1 21 rfl rfl)
theorem dX1_text_44 : decode cX1_text 44 = .ok (.getfield 113, 3) := dk_180 0 113 (dk_at dksX1_text_2 0 rfl rfl)
theorem dX1_text_47 : decode cX1_text 47 = .ok (.putfield 58, 3) := dk_181 0 58 (dk_at dksX1_text_2 3 rfl rfl)
theorem dX1_text_50 : decode cX1_text 50 = .ok (.aload_n 3, 1) := dk_45 (dk_at dksX1_text_2 6 rfl rfl)
theorem dX1_text_51 : decode cX1_text 51 = .ok (.getfield 116, 3) := dk_180 0 116 (dk_at dksX1_text_2 7 rfl rfl)
theorem dX1_text_54 : decode cX1_text 54 = .ok (.bipush 10, 2) := dk_16 10 (dk_at dksX1_text_2 10 rfl rfl)
theorem dX1_text_56 : decode cX1_text 56 = .ok (.isub, 1) := dk_100 (dk_at dksX1_text_2 12 rfl rfl)
theorem dX1_text_57 : decode cX1_text 57 = .ok (.ireturn, 1) := dk_172 (dk_at dksX1_text_2 13 rfl rfl)
theorem dX1_text_58 : decode cX1_text 58 = .ok (.aload_n 0, 1) := dk_42 (dk_at dksX1_text_2 14 rfl rfl)
theorem dX1_text_59 : decode cX1_text 59 = .ok (.invokevirtual 119, 3) := dk_182 0 119 (dk_at dksX1_text_2 15 rfl rfl)
theorem dX1_text_62 : decode cX1_text 62 = .ok (.aload_n 0, 1) := dk_42 (dk_at dksX1_text_2 18 rfl rfl)
theorem dX1_text_63 : decode cX1_text 63 = .ok (.aload_n 2, 1) := dk_44 (dk_at dksX1_text_2 19 rfl rfl)
theorem dX1_text_64 : decode cX1_text 64 = .ok (.putfield 54, 3) := dk_181 0 54 (dk_at dksX1_text_2 20 rfl rfl)
theorem dX1_text_67 : decode cX1_text 67 = .ok (.aload_n 2, 1) := dk_44 (dk_at dksX1_text_2 23 rfl rfl)
theorem dX1_text_68 : decode cX1_text 68 = .ok (.invokevirtual 122, 3) := dk_182 0 122 (dk_at dksX1_text_3 0 rfl rfl)
theorem dX1_text_71 : decode cX1_text 71 = .ok (.ireturn, 1) := dk_172 (dk_at dksX1_text_3 3 rfl rfl)
abbrev cX1_need : ByteArray := prog_1_method_9_code
def yX1_need : MethodName := ⟨RX1, "need", "(Z)V"⟩
def dkwX1_need_0 : List UInt8 := [27, 153, 0, 4, 177, 42, 180, 0, 36, 4, 92, 46, 4, 96, 79, 187, 0, 62, 89, 183, 0, 64, 191]
abbrev dktX1_need_0 : List UInt8 := dkwX1_need_0 ++ []
theorem dksX1_need_0 : cX1_need.data.toList.drop 0 = dktX1_need_0 := by decide +kernel
theorem dX1_need_0 : decode cX1_need 0 = .ok (.iload_n 1, 1) := dk_27 (dk_at dksX1_need_0 0 rfl rfl)
theorem dX1_need_1 : decode cX1_need 1 = .ok (.ifCond .eq 4, 3) := dk_153 0 4 (dk_at dksX1_need_0 1 rfl rfl)
theorem dX1_need_4 : decode cX1_need 4 = .ok (.return_, 1) := dk_177 (dk_at dksX1_need_0 4 rfl rfl)
theorem dX1_need_5 : decode cX1_need 5 = .ok (.aload_n 0, 1) := dk_42 (dk_at dksX1_need_0 5 rfl rfl)
theorem dX1_need_6 : decode cX1_need 6 = .ok (.getfield 36, 3) := dk_180 0 36 (dk_at dksX1_need_0 6 rfl rfl)
theorem dX1_need_9 : decode cX1_need 9 = .ok (.iconst 1, 1) := dk_4 (dk_at dksX1_need_0 9 rfl rfl)
theorem dX1_need_10 : decode cX1_need 10 = .ok (.dup2, 1) := dk_92 (dk_at dksX1_need_0 10 rfl rfl)
theorem dX1_need_11 : decode cX1_need 11 = .ok (.iaload, 1) := dk_46 (dk_at dksX1_need_0 11 rfl rfl)
theorem dX1_need_12 : decode cX1_need 12 = .ok (.iconst 1, 1) := dk_4 (dk_at dksX1_need_0 12 rfl rfl)
theorem dX1_need_13 : decode cX1_need 13 = .ok (.iadd, 1) := dk_96 (dk_at dksX1_need_0 13 rfl rfl)
theorem dX1_need_14 : decode cX1_need 14 = .ok (.iastore, 1) := dk_79 (dk_at dksX1_need_0 14 rfl rfl)
theorem dX1_need_15 : decode cX1_need 15 = .ok (.new 62, 3) := dk_187 0 62 (dk_at dksX1_need_0 15 rfl rfl)
theorem dX1_need_18 : decode cX1_need 18 = .ok (.dup, 1) := dk_89 (dk_at dksX1_need_0 18 rfl rfl)
theorem dX1_need_19 : decode cX1_need 19 = .ok (.invokespecial 64, 3) := dk_183 0 64 (dk_at dksX1_need_0 19 rfl rfl)
theorem dX1_need_22 : decode cX1_need 22 = .ok (.athrow, 1) := dk_191 (dk_at dksX1_need_0 22 rfl rfl)
abbrev cX1_not : ByteArray := prog_1_method_6_code
def yX1_not : MethodName := ⟨RX1, "not", "(LPetitionDesk$Rule;)LPetitionDesk$Rule;"⟩
theorem dX1_not_0 : decode cX1_not 0 = .ok (.aload_n 0, 1) := by decide +kernel
theorem dX1_not_1 : decode cX1_not 1 = .ok (.invokedynamic 18, 5) := by decide +kernel
theorem dX1_not_6 : decode cX1_not 6 = .ok (.areturn, 1) := by decide +kernel
abbrev cX1_lambda_not_2 : ByteArray := prog_1_method_53_code
def yX1_lambda_not_2 : MethodName := ⟨RX1, "lambda$not$2", "(LPetitionDesk$Rule;LPetitionDesk$Line;)Z"⟩
def dkwX1_lambda_not_2_0 : List UInt8 := [42, 43, 185, 1, 95, 2, 0, 154, 0, 7, 4, 167, 0, 4, 3, 172]
abbrev dktX1_lambda_not_2_0 : List UInt8 := dkwX1_lambda_not_2_0 ++ []
theorem dksX1_lambda_not_2_0 : cX1_lambda_not_2.data.toList.drop 0 = dktX1_lambda_not_2_0 := by decide +kernel
theorem dX1_lambda_not_2_0 : decode cX1_lambda_not_2 0 = .ok (.aload_n 0, 1) := dk_42 (dk_at dksX1_lambda_not_2_0 0 rfl rfl)
theorem dX1_lambda_not_2_1 : decode cX1_lambda_not_2 1 = .ok (.aload_n 1, 1) := dk_43 (dk_at dksX1_lambda_not_2_0 1 rfl rfl)
theorem dX1_lambda_not_2_2 : decode cX1_lambda_not_2 2 = .ok (.invokeinterface 351 2, 5) := by decide +kernel
theorem dX1_lambda_not_2_7 : decode cX1_lambda_not_2 7 = .ok (.ifCond .ne 7, 3) := dk_154 0 7 (dk_at dksX1_lambda_not_2_0 7 rfl rfl)
theorem dX1_lambda_not_2_10 : decode cX1_lambda_not_2 10 = .ok (.iconst 1, 1) := dk_4 (dk_at dksX1_lambda_not_2_0 10 rfl rfl)
theorem dX1_lambda_not_2_11 : decode cX1_lambda_not_2 11 = .ok (.goto 4, 3) := dk_167 0 4 (dk_at dksX1_lambda_not_2_0 11 rfl rfl)
theorem dX1_lambda_not_2_14 : decode cX1_lambda_not_2 14 = .ok (.iconst 0, 1) := dk_3 (dk_at dksX1_lambda_not_2_0 14 rfl rfl)
theorem dX1_lambda_not_2_15 : decode cX1_lambda_not_2 15 = .ok (.ireturn, 1) := dk_172 (dk_at dksX1_lambda_not_2_0 15 rfl rfl)
abbrev cX1_both : ByteArray := prog_1_method_5_code
def yX1_both : MethodName := ⟨RX1, "both", "(LPetitionDesk$Rule;LPetitionDesk$Rule;)LPetitionDesk$Rule;"⟩
def dkwX1_both_0 : List UInt8 := [42, 43, 186, 0, 17, 0, 0, 176]
abbrev dktX1_both_0 : List UInt8 := dkwX1_both_0 ++ []
theorem dksX1_both_0 : cX1_both.data.toList.drop 0 = dktX1_both_0 := by decide +kernel
theorem dX1_both_0 : decode cX1_both 0 = .ok (.aload_n 0, 1) := dk_42 (dk_at dksX1_both_0 0 rfl rfl)
theorem dX1_both_1 : decode cX1_both 1 = .ok (.aload_n 1, 1) := dk_43 (dk_at dksX1_both_0 1 rfl rfl)
theorem dX1_both_2 : decode cX1_both 2 = .ok (.invokedynamic 17, 5) := by decide +kernel
theorem dX1_both_7 : decode cX1_both 7 = .ok (.areturn, 1) := dk_176 (dk_at dksX1_both_0 7 rfl rfl)
abbrev cX1_lambda_both_1 : ByteArray := prog_1_method_54_code
def yX1_lambda_both_1 : MethodName := ⟨RX1, "lambda$both$1", "(LPetitionDesk$Rule;LPetitionDesk$Rule;LPetitionDesk$Line;)Z"⟩
def dkwX1_lambda_both_1_1 : List UInt8 := [3, 172]
abbrev dktX1_lambda_both_1_1 : List UInt8 := dkwX1_lambda_both_1_1 ++ []
def dkwX1_lambda_both_1_0 : List UInt8 := [42, 44, 185, 1, 95, 2, 0, 153, 0, 17, 43, 44, 185, 1, 95, 2, 0, 153, 0, 7, 4, 167, 0, 4]
abbrev dktX1_lambda_both_1_0 : List UInt8 := dkwX1_lambda_both_1_0 ++ dktX1_lambda_both_1_1
theorem dksX1_lambda_both_1_0 : cX1_lambda_both_1.data.toList.drop 0 = dktX1_lambda_both_1_0 := by decide +kernel
theorem dksX1_lambda_both_1_1 : cX1_lambda_both_1.data.toList.drop 24 = dktX1_lambda_both_1_1 := dk_seg dksX1_lambda_both_1_0 24 rfl rfl
theorem dX1_lambda_both_1_0 : decode cX1_lambda_both_1 0 = .ok (.aload_n 0, 1) := dk_42 (dk_at dksX1_lambda_both_1_0 0 rfl rfl)
theorem dX1_lambda_both_1_1 : decode cX1_lambda_both_1 1 = .ok (.aload_n 2, 1) := dk_44 (dk_at dksX1_lambda_both_1_0 1 rfl rfl)
theorem dX1_lambda_both_1_2 : decode cX1_lambda_both_1 2 = .ok (.invokeinterface 351 2, 5) := by decide +kernel
theorem dX1_lambda_both_1_7 : decode cX1_lambda_both_1 7 = .ok (.ifCond .eq 17, 3) := dk_153 0 17 (dk_at dksX1_lambda_both_1_0 7 rfl rfl)
theorem dX1_lambda_both_1_10 : decode cX1_lambda_both_1 10 = .ok (.aload_n 1, 1) := dk_43 (dk_at dksX1_lambda_both_1_0 10 rfl rfl)
theorem dX1_lambda_both_1_11 : decode cX1_lambda_both_1 11 = .ok (.aload_n 2, 1) := dk_44 (dk_at dksX1_lambda_both_1_0 11 rfl rfl)
theorem dX1_lambda_both_1_12 : decode cX1_lambda_both_1 12 = .ok (.invokeinterface 351 2, 5) := by decide +kernel
theorem dX1_lambda_both_1_17 : decode cX1_lambda_both_1 17 = .ok (.ifCond .eq 7, 3) := dk_153 0 7 (dk_at dksX1_lambda_both_1_0 17 rfl rfl)
theorem dX1_lambda_both_1_20 : decode cX1_lambda_both_1 20 = .ok (.iconst 1, 1) := dk_4 (dk_at dksX1_lambda_both_1_0 20 rfl rfl)
theorem dX1_lambda_both_1_21 : decode cX1_lambda_both_1 21 = .ok (.goto 4, 3) := dk_167 0 4 (dk_at dksX1_lambda_both_1_0 21 rfl rfl)
theorem dX1_lambda_both_1_24 : decode cX1_lambda_both_1 24 = .ok (.iconst 0, 1) := dk_3 (dk_at dksX1_lambda_both_1_1 0 rfl rfl)
theorem dX1_lambda_both_1_25 : decode cX1_lambda_both_1 25 = .ok (.ireturn, 1) := dk_172 (dk_at dksX1_lambda_both_1_1 1 rfl rfl)
abbrev cX1_either : ByteArray := prog_1_method_4_code
def yX1_either : MethodName := ⟨RX1, "either", "(LPetitionDesk$Rule;LPetitionDesk$Rule;)LPetitionDesk$Rule;"⟩
def dkwX1_either_0 : List UInt8 := [42, 43, 186, 0, 13, 0, 0, 176]
abbrev dktX1_either_0 : List UInt8 := dkwX1_either_0 ++ []
theorem dksX1_either_0 : cX1_either.data.toList.drop 0 = dktX1_either_0 := by decide +kernel
theorem dX1_either_0 : decode cX1_either 0 = .ok (.aload_n 0, 1) := dk_42 (dk_at dksX1_either_0 0 rfl rfl)
theorem dX1_either_1 : decode cX1_either 1 = .ok (.aload_n 1, 1) := dk_43 (dk_at dksX1_either_0 1 rfl rfl)
theorem dX1_either_2 : decode cX1_either 2 = .ok (.invokedynamic 13, 5) := by decide +kernel
theorem dX1_either_7 : decode cX1_either 7 = .ok (.areturn, 1) := dk_176 (dk_at dksX1_either_0 7 rfl rfl)
abbrev cX1_lambda_either_0 : ByteArray := prog_1_method_55_code
def yX1_lambda_either_0 : MethodName := ⟨RX1, "lambda$either$0", "(LPetitionDesk$Rule;LPetitionDesk$Rule;LPetitionDesk$Line;)Z"⟩
def dkwX1_lambda_either_0_1 : List UInt8 := [3, 172]
abbrev dktX1_lambda_either_0_1 : List UInt8 := dkwX1_lambda_either_0_1 ++ []
def dkwX1_lambda_either_0_0 : List UInt8 := [42, 44, 185, 1, 95, 2, 0, 154, 0, 13, 43, 44, 185, 1, 95, 2, 0, 153, 0, 7, 4, 167, 0, 4]
abbrev dktX1_lambda_either_0_0 : List UInt8 := dkwX1_lambda_either_0_0 ++ dktX1_lambda_either_0_1
theorem dksX1_lambda_either_0_0 : cX1_lambda_either_0.data.toList.drop 0 = dktX1_lambda_either_0_0 := by decide +kernel
theorem dksX1_lambda_either_0_1 : cX1_lambda_either_0.data.toList.drop 24 = dktX1_lambda_either_0_1 := dk_seg dksX1_lambda_either_0_0 24 rfl rfl
theorem dX1_lambda_either_0_0 : decode cX1_lambda_either_0 0 = .ok (.aload_n 0, 1) := dk_42 (dk_at dksX1_lambda_either_0_0 0 rfl rfl)
theorem dX1_lambda_either_0_1 : decode cX1_lambda_either_0 1 = .ok (.aload_n 2, 1) := dk_44 (dk_at dksX1_lambda_either_0_0 1 rfl rfl)
theorem dX1_lambda_either_0_2 : decode cX1_lambda_either_0 2 = .ok (.invokeinterface 351 2, 5) := by decide +kernel
theorem dX1_lambda_either_0_7 : decode cX1_lambda_either_0 7 = .ok (.ifCond .ne 13, 3) := dk_154 0 13 (dk_at dksX1_lambda_either_0_0 7 rfl rfl)
theorem dX1_lambda_either_0_10 : decode cX1_lambda_either_0 10 = .ok (.aload_n 1, 1) := dk_43 (dk_at dksX1_lambda_either_0_0 10 rfl rfl)
theorem dX1_lambda_either_0_11 : decode cX1_lambda_either_0 11 = .ok (.aload_n 2, 1) := dk_44 (dk_at dksX1_lambda_either_0_0 11 rfl rfl)
theorem dX1_lambda_either_0_12 : decode cX1_lambda_either_0 12 = .ok (.invokeinterface 351 2, 5) := by decide +kernel
theorem dX1_lambda_either_0_17 : decode cX1_lambda_either_0 17 = .ok (.ifCond .eq 7, 3) := dk_153 0 7 (dk_at dksX1_lambda_either_0_0 17 rfl rfl)
theorem dX1_lambda_either_0_20 : decode cX1_lambda_either_0 20 = .ok (.iconst 1, 1) := dk_4 (dk_at dksX1_lambda_either_0_0 20 rfl rfl)
theorem dX1_lambda_either_0_21 : decode cX1_lambda_either_0 21 = .ok (.goto 4, 3) := dk_167 0 4 (dk_at dksX1_lambda_either_0_0 21 rfl rfl)
theorem dX1_lambda_either_0_24 : decode cX1_lambda_either_0 24 = .ok (.iconst 0, 1) := dk_3 (dk_at dksX1_lambda_either_0_1 0 rfl rfl)
theorem dX1_lambda_either_0_25 : decode cX1_lambda_either_0 25 = .ok (.ireturn, 1) := dk_172 (dk_at dksX1_lambda_either_0_1 1 rfl rfl)
abbrev cX1_keeps : ByteArray := prog_1_method_12_code
def yX1_keeps : MethodName := ⟨RX1, "keeps", "()V"⟩
def dkwX1_keeps_2 : List UInt8 := [181, 0, 54, 177]
abbrev dktX1_keeps_2 : List UInt8 := dkwX1_keeps_2 ++ []
def dkwX1_keeps_1 : List UInt8 := [87, 42, 180, 0, 43, 42, 180, 0, 54, 185, 0, 81, 2, 0, 87, 42, 42, 180, 0, 54, 182, 0, 85]
abbrev dktX1_keeps_1 : List UInt8 := dkwX1_keeps_1 ++ dktX1_keeps_2
def dkwX1_keeps_0 : List UInt8 := [42, 180, 0, 43, 185, 0, 71, 1, 0, 16, 8, 160, 0, 14, 42, 180, 0, 43, 3, 185, 0, 77, 2, 0]
abbrev dktX1_keeps_0 : List UInt8 := dkwX1_keeps_0 ++ dktX1_keeps_1
theorem dksX1_keeps_0 : cX1_keeps.data.toList.drop 0 = dktX1_keeps_0 := by decide +kernel
theorem dksX1_keeps_1 : cX1_keeps.data.toList.drop 24 = dktX1_keeps_1 := dk_seg dksX1_keeps_0 24 rfl rfl
theorem dksX1_keeps_2 : cX1_keeps.data.toList.drop 47 = dktX1_keeps_2 := dk_seg dksX1_keeps_1 23 rfl rfl
theorem dX1_keeps_0 : decode cX1_keeps 0 = .ok (.aload_n 0, 1) := dk_42 (dk_at dksX1_keeps_0 0 rfl rfl)
theorem dX1_keeps_1 : decode cX1_keeps 1 = .ok (.getfield 43, 3) := dk_180 0 43 (dk_at dksX1_keeps_0 1 rfl rfl)
theorem dX1_keeps_4 : decode cX1_keeps 4 = .ok (.invokeinterface 71 1, 5) := by decide +kernel
theorem dX1_keeps_9 : decode cX1_keeps 9 = .ok (.bipush 8, 2) := dk_16 8 (dk_at dksX1_keeps_0 9 rfl rfl)
theorem dX1_keeps_11 : decode cX1_keeps 11 = .ok (.if_icmp .ne 14, 3) := dk_160 0 14 (dk_at dksX1_keeps_0 11 rfl rfl)
theorem dX1_keeps_14 : decode cX1_keeps 14 = .ok (.aload_n 0, 1) := dk_42 (dk_at dksX1_keeps_0 14 rfl rfl)
theorem dX1_keeps_15 : decode cX1_keeps 15 = .ok (.getfield 43, 3) := dk_180 0 43 (dk_at dksX1_keeps_0 15 rfl rfl)
theorem dX1_keeps_18 : decode cX1_keeps 18 = .ok (.iconst 0, 1) := dk_3 (dk_at dksX1_keeps_0 18 rfl rfl)
theorem dX1_keeps_19 : decode cX1_keeps 19 = .ok (.invokeinterface 77 2, 5) := by decide +kernel
theorem dX1_keeps_24 : decode cX1_keeps 24 = .ok (.pop, 1) := dk_87 (dk_at dksX1_keeps_1 0 rfl rfl)
theorem dX1_keeps_25 : decode cX1_keeps 25 = .ok (.aload_n 0, 1) := dk_42 (dk_at dksX1_keeps_1 1 rfl rfl)
theorem dX1_keeps_26 : decode cX1_keeps 26 = .ok (.getfield 43, 3) := dk_180 0 43 (dk_at dksX1_keeps_1 2 rfl rfl)
theorem dX1_keeps_29 : decode cX1_keeps 29 = .ok (.aload_n 0, 1) := dk_42 (dk_at dksX1_keeps_1 5 rfl rfl)
theorem dX1_keeps_30 : decode cX1_keeps 30 = .ok (.getfield 54, 3) := dk_180 0 54 (dk_at dksX1_keeps_1 6 rfl rfl)
theorem dX1_keeps_33 : decode cX1_keeps 33 = .ok (.invokeinterface 81 2, 5) := by decide +kernel
theorem dX1_keeps_38 : decode cX1_keeps 38 = .ok (.pop, 1) := dk_87 (dk_at dksX1_keeps_1 14 rfl rfl)
theorem dX1_keeps_39 : decode cX1_keeps 39 = .ok (.aload_n 0, 1) := dk_42 (dk_at dksX1_keeps_1 15 rfl rfl)
theorem dX1_keeps_40 : decode cX1_keeps 40 = .ok (.aload_n 0, 1) := dk_42 (dk_at dksX1_keeps_1 16 rfl rfl)
theorem dX1_keeps_41 : decode cX1_keeps 41 = .ok (.getfield 54, 3) := dk_180 0 54 (dk_at dksX1_keeps_1 17 rfl rfl)
theorem dX1_keeps_44 : decode cX1_keeps 44 = .ok (.invokevirtual 85, 3) := dk_182 0 85 (dk_at dksX1_keeps_1 20 rfl rfl)
theorem dX1_keeps_47 : decode cX1_keeps 47 = .ok (.putfield 54, 3) := dk_181 0 54 (dk_at dksX1_keeps_2 0 rfl rfl)
theorem dX1_keeps_50 : decode cX1_keeps 50 = .ok (.return_, 1) := dk_177 (dk_at dksX1_keeps_2 3 rfl rfl)
abbrev cX1_sample : ByteArray := prog_1_method_18_code
def yX1_sample : MethodName := ⟨RX1, "sample", "(III)I"⟩
def dkwX1_sample_4 : List UInt8 := [80, 42, 27, 182, 0, 137, 172]
abbrev dktX1_sample_4 : List UInt8 := dkwX1_sample_4 ++ []
def dkwX1_sample_3 : List UInt8 := [112, 184, 0, 129, 121, 129, 55, 5, 132, 8, 1, 167, 255, 213, 42, 180, 0, 54, 180, 0, 133, 27, 22, 5]
abbrev dktX1_sample_3 : List UInt8 := dkwX1_sample_3 ++ dktX1_sample_4
def dkwX1_sample_2 : List UInt8 := [18, 128, 104, 17, 48, 57, 96, 54, 7, 22, 5, 10, 22, 5, 21, 7, 16, 8, 124, 21, 4, 21, 8, 100]
abbrev dktX1_sample_2 : List UInt8 := dkwX1_sample_2 ++ dktX1_sample_3
def dkwX1_sample_1 : List UInt8 := [182, 0, 99, 42, 182, 0, 119, 9, 55, 5, 29, 54, 7, 3, 54, 8, 21, 8, 28, 162, 0, 43, 21, 7]
abbrev dktX1_sample_1 : List UInt8 := dkwX1_sample_1 ++ dktX1_sample_2
def dkwX1_sample_0 : List UInt8 := [42, 27, 182, 0, 125, 42, 180, 0, 54, 182, 0, 122, 54, 4, 42, 28, 133, 10, 21, 4, 133, 184, 0, 95]
abbrev dktX1_sample_0 : List UInt8 := dkwX1_sample_0 ++ dktX1_sample_1
theorem dksX1_sample_0 : cX1_sample.data.toList.drop 0 = dktX1_sample_0 := by decide +kernel
theorem dksX1_sample_1 : cX1_sample.data.toList.drop 24 = dktX1_sample_1 := dk_seg dksX1_sample_0 24 rfl rfl
theorem dksX1_sample_2 : cX1_sample.data.toList.drop 48 = dktX1_sample_2 := dk_seg dksX1_sample_1 24 rfl rfl
theorem dksX1_sample_3 : cX1_sample.data.toList.drop 72 = dktX1_sample_3 := dk_seg dksX1_sample_2 24 rfl rfl
theorem dksX1_sample_4 : cX1_sample.data.toList.drop 96 = dktX1_sample_4 := dk_seg dksX1_sample_3 24 rfl rfl
theorem dX1_sample_0 : decode cX1_sample 0 = .ok (.aload_n 0, 1) := dk_42 (dk_at dksX1_sample_0 0 rfl rfl)
theorem dX1_sample_1 : decode cX1_sample 1 = .ok (.iload_n 1, 1) := dk_27 (dk_at dksX1_sample_0 1 rfl rfl)
theorem dX1_sample_2 : decode cX1_sample 2 = .ok (.invokevirtual 125, 3) := dk_182 0 125 (dk_at dksX1_sample_0 2 rfl rfl)
theorem dX1_sample_5 : decode cX1_sample 5 = .ok (.aload_n 0, 1) := dk_42 (dk_at dksX1_sample_0 5 rfl rfl)
theorem dX1_sample_6 : decode cX1_sample 6 = .ok (.getfield 54, 3) := dk_180 0 54 (dk_at dksX1_sample_0 6 rfl rfl)
theorem dX1_sample_9 : decode cX1_sample 9 = .ok (.invokevirtual 122, 3) := dk_182 0 122 (dk_at dksX1_sample_0 9 rfl rfl)
theorem dX1_sample_12 : decode cX1_sample 12 = .ok (.istore 4, 2) := dk_54 4 (dk_at dksX1_sample_0 12 rfl rfl)
theorem dX1_sample_14 : decode cX1_sample 14 = .ok (.aload_n 0, 1) := dk_42 (dk_at dksX1_sample_0 14 rfl rfl)
theorem dX1_sample_15 : decode cX1_sample 15 = .ok (.iload_n 2, 1) := dk_28 (dk_at dksX1_sample_0 15 rfl rfl)
theorem dX1_sample_16 : decode cX1_sample 16 = .ok (.i2l, 1) := dk_133 (dk_at dksX1_sample_0 16 rfl rfl)
theorem dX1_sample_17 : decode cX1_sample 17 = .ok (.lconst 1, 1) := dk_10 (dk_at dksX1_sample_0 17 rfl rfl)
theorem dX1_sample_18 : decode cX1_sample 18 = .ok (.iload 4, 2) := dk_21 4 (dk_at dksX1_sample_0 18 rfl rfl)
theorem dX1_sample_20 : decode cX1_sample 20 = .ok (.i2l, 1) := dk_133 (dk_at dksX1_sample_0 20 rfl rfl)
theorem dX1_sample_21 : decode cX1_sample 21 = .ok (.invokestatic 95, 3) := dk_184 0 95 (dk_at dksX1_sample_0 21 rfl rfl)
theorem dX1_sample_24 : decode cX1_sample 24 = .ok (.invokevirtual 99, 3) := dk_182 0 99 (dk_at dksX1_sample_1 0 rfl rfl)
theorem dX1_sample_27 : decode cX1_sample 27 = .ok (.aload_n 0, 1) := dk_42 (dk_at dksX1_sample_1 3 rfl rfl)
theorem dX1_sample_28 : decode cX1_sample 28 = .ok (.invokevirtual 119, 3) := dk_182 0 119 (dk_at dksX1_sample_1 4 rfl rfl)
theorem dX1_sample_31 : decode cX1_sample 31 = .ok (.lconst 0, 1) := dk_9 (dk_at dksX1_sample_1 7 rfl rfl)
theorem dX1_sample_32 : decode cX1_sample 32 = .ok (.lstore 5, 2) := dk_55 5 (dk_at dksX1_sample_1 8 rfl rfl)
theorem dX1_sample_34 : decode cX1_sample 34 = .ok (.iload_n 3, 1) := dk_29 (dk_at dksX1_sample_1 10 rfl rfl)
theorem dX1_sample_35 : decode cX1_sample 35 = .ok (.istore 7, 2) := dk_54 7 (dk_at dksX1_sample_1 11 rfl rfl)
theorem dX1_sample_37 : decode cX1_sample 37 = .ok (.iconst 0, 1) := dk_3 (dk_at dksX1_sample_1 13 rfl rfl)
theorem dX1_sample_38 : decode cX1_sample 38 = .ok (.istore 8, 2) := dk_54 8 (dk_at dksX1_sample_1 14 rfl rfl)
theorem dX1_sample_40 : decode cX1_sample 40 = .ok (.iload 8, 2) := dk_21 8 (dk_at dksX1_sample_1 16 rfl rfl)
theorem dX1_sample_42 : decode cX1_sample 42 = .ok (.iload_n 2, 1) := dk_28 (dk_at dksX1_sample_1 18 rfl rfl)
theorem dX1_sample_43 : decode cX1_sample 43 = .ok (.if_icmp .ge 43, 3) := dk_162 0 43 (dk_at dksX1_sample_1 19 rfl rfl)
theorem dX1_sample_46 : decode cX1_sample 46 = .ok (.iload 7, 2) := dk_21 7 (dk_at dksX1_sample_1 22 rfl rfl)
theorem dX1_sample_48 : decode cX1_sample 48 = .ok (.ldc 128, 2) := dk_18 128 (dk_at dksX1_sample_2 0 rfl rfl)
theorem dX1_sample_50 : decode cX1_sample 50 = .ok (.imul, 1) := dk_104 (dk_at dksX1_sample_2 2 rfl rfl)
theorem dX1_sample_51 : decode cX1_sample 51 = .ok (.sipush 12345, 3) := dk_17 48 57 (dk_at dksX1_sample_2 3 rfl rfl)
theorem dX1_sample_54 : decode cX1_sample 54 = .ok (.iadd, 1) := dk_96 (dk_at dksX1_sample_2 6 rfl rfl)
theorem dX1_sample_55 : decode cX1_sample 55 = .ok (.istore 7, 2) := dk_54 7 (dk_at dksX1_sample_2 7 rfl rfl)
theorem dX1_sample_57 : decode cX1_sample 57 = .ok (.lload 5, 2) := dk_22 5 (dk_at dksX1_sample_2 9 rfl rfl)
theorem dX1_sample_59 : decode cX1_sample 59 = .ok (.lconst 1, 1) := dk_10 (dk_at dksX1_sample_2 11 rfl rfl)
theorem dX1_sample_60 : decode cX1_sample 60 = .ok (.lload 5, 2) := dk_22 5 (dk_at dksX1_sample_2 12 rfl rfl)
theorem dX1_sample_62 : decode cX1_sample 62 = .ok (.iload 7, 2) := dk_21 7 (dk_at dksX1_sample_2 14 rfl rfl)
theorem dX1_sample_64 : decode cX1_sample 64 = .ok (.bipush 8, 2) := dk_16 8 (dk_at dksX1_sample_2 16 rfl rfl)
theorem dX1_sample_66 : decode cX1_sample 66 = .ok (.iushr, 1) := dk_124 (dk_at dksX1_sample_2 18 rfl rfl)
theorem dX1_sample_67 : decode cX1_sample 67 = .ok (.iload 4, 2) := dk_21 4 (dk_at dksX1_sample_2 19 rfl rfl)
theorem dX1_sample_69 : decode cX1_sample 69 = .ok (.iload 8, 2) := dk_21 8 (dk_at dksX1_sample_2 21 rfl rfl)
theorem dX1_sample_71 : decode cX1_sample 71 = .ok (.isub, 1) := dk_100 (dk_at dksX1_sample_2 23 rfl rfl)
theorem dX1_sample_72 : decode cX1_sample 72 = .ok (.irem, 1) := dk_112 (dk_at dksX1_sample_3 0 rfl rfl)
theorem dX1_sample_73 : decode cX1_sample 73 = .ok (.invokestatic 129, 3) := dk_184 0 129 (dk_at dksX1_sample_3 1 rfl rfl)
theorem dX1_sample_76 : decode cX1_sample 76 = .ok (.lshl, 1) := dk_121 (dk_at dksX1_sample_3 4 rfl rfl)
theorem dX1_sample_77 : decode cX1_sample 77 = .ok (.lor, 1) := dk_129 (dk_at dksX1_sample_3 5 rfl rfl)
theorem dX1_sample_78 : decode cX1_sample 78 = .ok (.lstore 5, 2) := dk_55 5 (dk_at dksX1_sample_3 6 rfl rfl)
theorem dX1_sample_80 : decode cX1_sample 80 = .ok (.iinc 8 1, 3) := dk_132 8 1 (dk_at dksX1_sample_3 8 rfl rfl)
theorem dX1_sample_83 : decode cX1_sample 83 = .ok (.goto (-43), 3) := dk_167 255 213 (dk_at dksX1_sample_3 11 rfl rfl)
theorem dX1_sample_86 : decode cX1_sample 86 = .ok (.aload_n 0, 1) := dk_42 (dk_at dksX1_sample_3 14 rfl rfl)
theorem dX1_sample_87 : decode cX1_sample 87 = .ok (.getfield 54, 3) := dk_180 0 54 (dk_at dksX1_sample_3 15 rfl rfl)
theorem dX1_sample_90 : decode cX1_sample 90 = .ok (.getfield 133, 3) := dk_180 0 133 (dk_at dksX1_sample_3 18 rfl rfl)
theorem dX1_sample_93 : decode cX1_sample 93 = .ok (.iload_n 1, 1) := dk_27 (dk_at dksX1_sample_3 21 rfl rfl)
theorem dX1_sample_94 : decode cX1_sample 94 = .ok (.lload 5, 2) := dk_22 5 (dk_at dksX1_sample_3 22 rfl rfl)
theorem dX1_sample_96 : decode cX1_sample 96 = .ok (.lastore, 1) := dk_80 (dk_at dksX1_sample_4 0 rfl rfl)
theorem dX1_sample_97 : decode cX1_sample 97 = .ok (.aload_n 0, 1) := dk_42 (dk_at dksX1_sample_4 1 rfl rfl)
theorem dX1_sample_98 : decode cX1_sample 98 = .ok (.iload_n 1, 1) := dk_27 (dk_at dksX1_sample_4 2 rfl rfl)
theorem dX1_sample_99 : decode cX1_sample 99 = .ok (.invokevirtual 137, 3) := dk_182 0 137 (dk_at dksX1_sample_4 3 rfl rfl)
theorem dX1_sample_102 : decode cX1_sample 102 = .ok (.ireturn, 1) := dk_172 (dk_at dksX1_sample_4 6 rfl rfl)
abbrev cX1_needSample : ByteArray := prog_1_method_17_code
def yX1_needSample : MethodName := ⟨RX1, "needSample", "(I)V"⟩
def dkwX1_needSample_0 : List UInt8 := [42, 27, 133, 9, 10, 184, 0, 95, 182, 0, 99, 177]
abbrev dktX1_needSample_0 : List UInt8 := dkwX1_needSample_0 ++ []
theorem dksX1_needSample_0 : cX1_needSample.data.toList.drop 0 = dktX1_needSample_0 := by decide +kernel
theorem dX1_needSample_0 : decode cX1_needSample 0 = .ok (.aload_n 0, 1) := dk_42 (dk_at dksX1_needSample_0 0 rfl rfl)
theorem dX1_needSample_1 : decode cX1_needSample 1 = .ok (.iload_n 1, 1) := dk_27 (dk_at dksX1_needSample_0 1 rfl rfl)
theorem dX1_needSample_2 : decode cX1_needSample 2 = .ok (.i2l, 1) := dk_133 (dk_at dksX1_needSample_0 2 rfl rfl)
theorem dX1_needSample_3 : decode cX1_needSample 3 = .ok (.lconst 0, 1) := dk_9 (dk_at dksX1_needSample_0 3 rfl rfl)
theorem dX1_needSample_4 : decode cX1_needSample 4 = .ok (.lconst 1, 1) := dk_10 (dk_at dksX1_needSample_0 4 rfl rfl)
theorem dX1_needSample_5 : decode cX1_needSample 5 = .ok (.invokestatic 95, 3) := dk_184 0 95 (dk_at dksX1_needSample_0 5 rfl rfl)
theorem dX1_needSample_8 : decode cX1_needSample 8 = .ok (.invokevirtual 99, 3) := dk_182 0 99 (dk_at dksX1_needSample_0 8 rfl rfl)
theorem dX1_needSample_11 : decode cX1_needSample 11 = .ok (.return_, 1) := dk_177 (dk_at dksX1_needSample_0 11 rfl rfl)
abbrev cX1_undrawn : ByteArray := prog_1_method_19_code
def yX1_undrawn : MethodName := ⟨RX1, "undrawn", "(JI)I"⟩
def dkwX1_undrawn_1 : List UInt8 := [184, 0, 141, 153, 0, 7, 3, 167, 0, 4, 4, 100, 54, 4, 132, 3, 1, 167, 255, 222, 29, 172]
abbrev dktX1_undrawn_1 : List UInt8 := dkwX1_undrawn_1 ++ []
def dkwX1_undrawn_0 : List UInt8 := [3, 62, 28, 54, 4, 21, 4, 157, 0, 11, 30, 29, 184, 0, 141, 153, 0, 27, 21, 4, 30, 29]
abbrev dktX1_undrawn_0 : List UInt8 := dkwX1_undrawn_0 ++ dktX1_undrawn_1
theorem dksX1_undrawn_0 : cX1_undrawn.data.toList.drop 0 = dktX1_undrawn_0 := by decide +kernel
theorem dksX1_undrawn_1 : cX1_undrawn.data.toList.drop 22 = dktX1_undrawn_1 := dk_seg dksX1_undrawn_0 22 rfl rfl
theorem dX1_undrawn_0 : decode cX1_undrawn 0 = .ok (.iconst 0, 1) := dk_3 (dk_at dksX1_undrawn_0 0 rfl rfl)
theorem dX1_undrawn_1 : decode cX1_undrawn 1 = .ok (.istore_n 3, 1) := dk_62 (dk_at dksX1_undrawn_0 1 rfl rfl)
theorem dX1_undrawn_2 : decode cX1_undrawn 2 = .ok (.iload_n 2, 1) := dk_28 (dk_at dksX1_undrawn_0 2 rfl rfl)
theorem dX1_undrawn_3 : decode cX1_undrawn 3 = .ok (.istore 4, 2) := dk_54 4 (dk_at dksX1_undrawn_0 3 rfl rfl)
theorem dX1_undrawn_5 : decode cX1_undrawn 5 = .ok (.iload 4, 2) := dk_21 4 (dk_at dksX1_undrawn_0 5 rfl rfl)
theorem dX1_undrawn_7 : decode cX1_undrawn 7 = .ok (.ifCond .gt 11, 3) := dk_157 0 11 (dk_at dksX1_undrawn_0 7 rfl rfl)
theorem dX1_undrawn_10 : decode cX1_undrawn 10 = .ok (.lload_n 0, 1) := dk_30 (dk_at dksX1_undrawn_0 10 rfl rfl)
theorem dX1_undrawn_11 : decode cX1_undrawn 11 = .ok (.iload_n 3, 1) := dk_29 (dk_at dksX1_undrawn_0 11 rfl rfl)
theorem dX1_undrawn_12 : decode cX1_undrawn 12 = .ok (.invokestatic 141, 3) := dk_184 0 141 (dk_at dksX1_undrawn_0 12 rfl rfl)
theorem dX1_undrawn_15 : decode cX1_undrawn 15 = .ok (.ifCond .eq 27, 3) := dk_153 0 27 (dk_at dksX1_undrawn_0 15 rfl rfl)
theorem dX1_undrawn_18 : decode cX1_undrawn 18 = .ok (.iload 4, 2) := dk_21 4 (dk_at dksX1_undrawn_0 18 rfl rfl)
theorem dX1_undrawn_20 : decode cX1_undrawn 20 = .ok (.lload_n 0, 1) := dk_30 (dk_at dksX1_undrawn_0 20 rfl rfl)
theorem dX1_undrawn_21 : decode cX1_undrawn 21 = .ok (.iload_n 3, 1) := dk_29 (dk_at dksX1_undrawn_0 21 rfl rfl)
theorem dX1_undrawn_22 : decode cX1_undrawn 22 = .ok (.invokestatic 141, 3) := dk_184 0 141 (dk_at dksX1_undrawn_1 0 rfl rfl)
theorem dX1_undrawn_25 : decode cX1_undrawn 25 = .ok (.ifCond .eq 7, 3) := dk_153 0 7 (dk_at dksX1_undrawn_1 3 rfl rfl)
theorem dX1_undrawn_28 : decode cX1_undrawn 28 = .ok (.iconst 0, 1) := dk_3 (dk_at dksX1_undrawn_1 6 rfl rfl)
theorem dX1_undrawn_29 : decode cX1_undrawn 29 = .ok (.goto 4, 3) := dk_167 0 4 (dk_at dksX1_undrawn_1 7 rfl rfl)
theorem dX1_undrawn_32 : decode cX1_undrawn 32 = .ok (.iconst 1, 1) := dk_4 (dk_at dksX1_undrawn_1 10 rfl rfl)
theorem dX1_undrawn_33 : decode cX1_undrawn 33 = .ok (.isub, 1) := dk_100 (dk_at dksX1_undrawn_1 11 rfl rfl)
theorem dX1_undrawn_34 : decode cX1_undrawn 34 = .ok (.istore 4, 2) := dk_54 4 (dk_at dksX1_undrawn_1 12 rfl rfl)
theorem dX1_undrawn_36 : decode cX1_undrawn 36 = .ok (.iinc 3 1, 3) := dk_132 3 1 (dk_at dksX1_undrawn_1 14 rfl rfl)
theorem dX1_undrawn_39 : decode cX1_undrawn 39 = .ok (.goto (-34), 3) := dk_167 255 222 (dk_at dksX1_undrawn_1 17 rfl rfl)
theorem dX1_undrawn_42 : decode cX1_undrawn 42 = .ok (.iload_n 3, 1) := dk_29 (dk_at dksX1_undrawn_1 20 rfl rfl)
theorem dX1_undrawn_43 : decode cX1_undrawn 43 = .ok (.ireturn, 1) := dk_172 (dk_at dksX1_undrawn_1 21 rfl rfl)
abbrev cX1_has : ByteArray := prog_1_method_2_code
def yX1_has : MethodName := ⟨RX1, "has", "(JI)Z"⟩
def dkwX1_has_0 : List UInt8 := [30, 28, 123, 10, 127, 10, 148, 154, 0, 7, 4, 167, 0, 4, 3, 172]
abbrev dktX1_has_0 : List UInt8 := dkwX1_has_0 ++ []
theorem dksX1_has_0 : cX1_has.data.toList.drop 0 = dktX1_has_0 := by decide +kernel
theorem dX1_has_0 : decode cX1_has 0 = .ok (.lload_n 0, 1) := dk_30 (dk_at dksX1_has_0 0 rfl rfl)
theorem dX1_has_1 : decode cX1_has 1 = .ok (.iload_n 2, 1) := dk_28 (dk_at dksX1_has_0 1 rfl rfl)
theorem dX1_has_2 : decode cX1_has 2 = .ok (.lshr, 1) := dk_123 (dk_at dksX1_has_0 2 rfl rfl)
theorem dX1_has_3 : decode cX1_has 3 = .ok (.lconst 1, 1) := dk_10 (dk_at dksX1_has_0 3 rfl rfl)
theorem dX1_has_4 : decode cX1_has 4 = .ok (.land, 1) := dk_127 (dk_at dksX1_has_0 4 rfl rfl)
theorem dX1_has_5 : decode cX1_has 5 = .ok (.lconst 1, 1) := dk_10 (dk_at dksX1_has_0 5 rfl rfl)
theorem dX1_has_6 : decode cX1_has 6 = .ok (.lcmp, 1) := dk_148 (dk_at dksX1_has_0 6 rfl rfl)
theorem dX1_has_7 : decode cX1_has 7 = .ok (.ifCond .ne 7, 3) := dk_154 0 7 (dk_at dksX1_has_0 7 rfl rfl)
theorem dX1_has_10 : decode cX1_has 10 = .ok (.iconst 1, 1) := dk_4 (dk_at dksX1_has_0 10 rfl rfl)
theorem dX1_has_11 : decode cX1_has 11 = .ok (.goto 4, 3) := dk_167 0 4 (dk_at dksX1_has_0 11 rfl rfl)
theorem dX1_has_14 : decode cX1_has 14 = .ok (.iconst 0, 1) := dk_3 (dk_at dksX1_has_0 14 rfl rfl)
theorem dX1_has_15 : decode cX1_has 15 = .ok (.ireturn, 1) := dk_172 (dk_at dksX1_has_0 15 rfl rfl)
abbrev cX1_goodOf : ByteArray := prog_1_method_36_code
def yX1_goodOf : MethodName := ⟨RX1, "goodOf", "(I)I"⟩
def dkwX1_goodOf_0 : List UInt8 := [42, 180, 0, 54, 42, 180, 0, 54, 180, 0, 133, 27, 47, 182, 1, 26, 184, 1, 30, 172]
abbrev dktX1_goodOf_0 : List UInt8 := dkwX1_goodOf_0 ++ []
theorem dksX1_goodOf_0 : cX1_goodOf.data.toList.drop 0 = dktX1_goodOf_0 := by decide +kernel
theorem dX1_goodOf_0 : decode cX1_goodOf 0 = .ok (.aload_n 0, 1) := dk_42 (dk_at dksX1_goodOf_0 0 rfl rfl)
theorem dX1_goodOf_1 : decode cX1_goodOf 1 = .ok (.getfield 54, 3) := dk_180 0 54 (dk_at dksX1_goodOf_0 1 rfl rfl)
theorem dX1_goodOf_4 : decode cX1_goodOf 4 = .ok (.aload_n 0, 1) := dk_42 (dk_at dksX1_goodOf_0 4 rfl rfl)
theorem dX1_goodOf_5 : decode cX1_goodOf 5 = .ok (.getfield 54, 3) := dk_180 0 54 (dk_at dksX1_goodOf_0 5 rfl rfl)
theorem dX1_goodOf_8 : decode cX1_goodOf 8 = .ok (.getfield 133, 3) := dk_180 0 133 (dk_at dksX1_goodOf_0 8 rfl rfl)
theorem dX1_goodOf_11 : decode cX1_goodOf 11 = .ok (.iload_n 1, 1) := dk_27 (dk_at dksX1_goodOf_0 11 rfl rfl)
theorem dX1_goodOf_12 : decode cX1_goodOf 12 = .ok (.laload, 1) := dk_47 (dk_at dksX1_goodOf_0 12 rfl rfl)
theorem dX1_goodOf_13 : decode cX1_goodOf 13 = .ok (.invokevirtual 282, 3) := dk_182 1 26 (dk_at dksX1_goodOf_0 13 rfl rfl)
theorem dX1_goodOf_16 : decode cX1_goodOf 16 = .ok (.invokestatic 286, 3) := dk_184 1 30 (dk_at dksX1_goodOf_0 16 rfl rfl)
theorem dX1_goodOf_19 : decode cX1_goodOf 19 = .ok (.ireturn, 1) := dk_172 (dk_at dksX1_goodOf_0 19 rfl rfl)
abbrev cX1_sum : ByteArray := prog_1_method_7_code
def yX1_sum : MethodName := ⟨RX1, "sum", "([I)I"⟩
def dkwX1_sum_1 : List UInt8 := [21, 5, 96, 60, 132, 4, 1, 167, 255, 236, 27, 172]
abbrev dktX1_sum_1 : List UInt8 := dkwX1_sum_1 ++ []
def dkwX1_sum_0 : List UInt8 := [3, 60, 42, 77, 44, 190, 62, 3, 54, 4, 21, 4, 29, 162, 0, 20, 44, 21, 4, 46, 54, 5, 27]
abbrev dktX1_sum_0 : List UInt8 := dkwX1_sum_0 ++ dktX1_sum_1
theorem dksX1_sum_0 : cX1_sum.data.toList.drop 0 = dktX1_sum_0 := by decide +kernel
theorem dksX1_sum_1 : cX1_sum.data.toList.drop 23 = dktX1_sum_1 := dk_seg dksX1_sum_0 23 rfl rfl
theorem dX1_sum_0 : decode cX1_sum 0 = .ok (.iconst 0, 1) := dk_3 (dk_at dksX1_sum_0 0 rfl rfl)
theorem dX1_sum_1 : decode cX1_sum 1 = .ok (.istore_n 1, 1) := dk_60 (dk_at dksX1_sum_0 1 rfl rfl)
theorem dX1_sum_2 : decode cX1_sum 2 = .ok (.aload_n 0, 1) := dk_42 (dk_at dksX1_sum_0 2 rfl rfl)
theorem dX1_sum_3 : decode cX1_sum 3 = .ok (.astore_n 2, 1) := dk_77 (dk_at dksX1_sum_0 3 rfl rfl)
theorem dX1_sum_4 : decode cX1_sum 4 = .ok (.aload_n 2, 1) := dk_44 (dk_at dksX1_sum_0 4 rfl rfl)
theorem dX1_sum_5 : decode cX1_sum 5 = .ok (.arraylength, 1) := dk_190 (dk_at dksX1_sum_0 5 rfl rfl)
theorem dX1_sum_6 : decode cX1_sum 6 = .ok (.istore_n 3, 1) := dk_62 (dk_at dksX1_sum_0 6 rfl rfl)
theorem dX1_sum_7 : decode cX1_sum 7 = .ok (.iconst 0, 1) := dk_3 (dk_at dksX1_sum_0 7 rfl rfl)
theorem dX1_sum_8 : decode cX1_sum 8 = .ok (.istore 4, 2) := dk_54 4 (dk_at dksX1_sum_0 8 rfl rfl)
theorem dX1_sum_10 : decode cX1_sum 10 = .ok (.iload 4, 2) := dk_21 4 (dk_at dksX1_sum_0 10 rfl rfl)
theorem dX1_sum_12 : decode cX1_sum 12 = .ok (.iload_n 3, 1) := dk_29 (dk_at dksX1_sum_0 12 rfl rfl)
theorem dX1_sum_13 : decode cX1_sum 13 = .ok (.if_icmp .ge 20, 3) := dk_162 0 20 (dk_at dksX1_sum_0 13 rfl rfl)
theorem dX1_sum_16 : decode cX1_sum 16 = .ok (.aload_n 2, 1) := dk_44 (dk_at dksX1_sum_0 16 rfl rfl)
theorem dX1_sum_17 : decode cX1_sum 17 = .ok (.iload 4, 2) := dk_21 4 (dk_at dksX1_sum_0 17 rfl rfl)
theorem dX1_sum_19 : decode cX1_sum 19 = .ok (.iaload, 1) := dk_46 (dk_at dksX1_sum_0 19 rfl rfl)
theorem dX1_sum_20 : decode cX1_sum 20 = .ok (.istore 5, 2) := dk_54 5 (dk_at dksX1_sum_0 20 rfl rfl)
theorem dX1_sum_22 : decode cX1_sum 22 = .ok (.iload_n 1, 1) := dk_27 (dk_at dksX1_sum_0 22 rfl rfl)
theorem dX1_sum_23 : decode cX1_sum 23 = .ok (.iload 5, 2) := dk_21 5 (dk_at dksX1_sum_1 0 rfl rfl)
theorem dX1_sum_25 : decode cX1_sum 25 = .ok (.iadd, 1) := dk_96 (dk_at dksX1_sum_1 2 rfl rfl)
theorem dX1_sum_26 : decode cX1_sum 26 = .ok (.istore_n 1, 1) := dk_60 (dk_at dksX1_sum_1 3 rfl rfl)
theorem dX1_sum_27 : decode cX1_sum 27 = .ok (.iinc 4 1, 3) := dk_132 4 1 (dk_at dksX1_sum_1 4 rfl rfl)
theorem dX1_sum_30 : decode cX1_sum 30 = .ok (.goto (-20), 3) := dk_167 255 236 (dk_at dksX1_sum_1 7 rfl rfl)
theorem dX1_sum_33 : decode cX1_sum 33 = .ok (.iload_n 1, 1) := dk_27 (dk_at dksX1_sum_1 10 rfl rfl)
theorem dX1_sum_34 : decode cX1_sum 34 = .ok (.ireturn, 1) := dk_172 (dk_at dksX1_sum_1 11 rfl rfl)
abbrev cX1_strike : ByteArray := prog_1_method_23_code
def yX1_strike : MethodName := ⟨RX1, "strike", "(IZ)I"⟩
def dkwX1_strike_2 : List UInt8 := [160, 0, 7, 3, 167, 0, 4, 4, 172]
abbrev dktX1_strike_2 : List UInt8 := dkwX1_strike_2 ++ []
def dkwX1_strike_1 : List UInt8 := [185, 0, 151, 2, 0, 192, 0, 154, 28, 181, 0, 169, 42, 180, 0, 54, 182, 0, 173, 87, 29, 28]
abbrev dktX1_strike_1 : List UInt8 := dkwX1_strike_1 ++ dktX1_strike_2
def dkwX1_strike_0 : List UInt8 := [42, 27, 182, 0, 156, 180, 0, 169, 62, 42, 182, 0, 119, 42, 180, 0, 54, 180, 0, 145, 27]
abbrev dktX1_strike_0 : List UInt8 := dkwX1_strike_0 ++ dktX1_strike_1
theorem dksX1_strike_0 : cX1_strike.data.toList.drop 0 = dktX1_strike_0 := by decide +kernel
theorem dksX1_strike_1 : cX1_strike.data.toList.drop 21 = dktX1_strike_1 := dk_seg dksX1_strike_0 21 rfl rfl
theorem dksX1_strike_2 : cX1_strike.data.toList.drop 43 = dktX1_strike_2 := dk_seg dksX1_strike_1 22 rfl rfl
theorem dX1_strike_0 : decode cX1_strike 0 = .ok (.aload_n 0, 1) := dk_42 (dk_at dksX1_strike_0 0 rfl rfl)
theorem dX1_strike_1 : decode cX1_strike 1 = .ok (.iload_n 1, 1) := dk_27 (dk_at dksX1_strike_0 1 rfl rfl)
theorem dX1_strike_2 : decode cX1_strike 2 = .ok (.invokevirtual 156, 3) := dk_182 0 156 (dk_at dksX1_strike_0 2 rfl rfl)
theorem dX1_strike_5 : decode cX1_strike 5 = .ok (.getfield 169, 3) := dk_180 0 169 (dk_at dksX1_strike_0 5 rfl rfl)
theorem dX1_strike_8 : decode cX1_strike 8 = .ok (.istore_n 3, 1) := dk_62 (dk_at dksX1_strike_0 8 rfl rfl)
theorem dX1_strike_9 : decode cX1_strike 9 = .ok (.aload_n 0, 1) := dk_42 (dk_at dksX1_strike_0 9 rfl rfl)
theorem dX1_strike_10 : decode cX1_strike 10 = .ok (.invokevirtual 119, 3) := dk_182 0 119 (dk_at dksX1_strike_0 10 rfl rfl)
theorem dX1_strike_13 : decode cX1_strike 13 = .ok (.aload_n 0, 1) := dk_42 (dk_at dksX1_strike_0 13 rfl rfl)
theorem dX1_strike_14 : decode cX1_strike 14 = .ok (.getfield 54, 3) := dk_180 0 54 (dk_at dksX1_strike_0 14 rfl rfl)
theorem dX1_strike_17 : decode cX1_strike 17 = .ok (.getfield 145, 3) := dk_180 0 145 (dk_at dksX1_strike_0 17 rfl rfl)
theorem dX1_strike_20 : decode cX1_strike 20 = .ok (.iload_n 1, 1) := dk_27 (dk_at dksX1_strike_0 20 rfl rfl)
theorem dX1_strike_21 : decode cX1_strike 21 = .ok (.invokeinterface 151 2, 5) := by decide +kernel
theorem dX1_strike_26 : decode cX1_strike 26 = .ok (.checkcast 154, 3) := dk_192 0 154 (dk_at dksX1_strike_1 5 rfl rfl)
theorem dX1_strike_29 : decode cX1_strike 29 = .ok (.iload_n 2, 1) := dk_28 (dk_at dksX1_strike_1 8 rfl rfl)
theorem dX1_strike_30 : decode cX1_strike 30 = .ok (.putfield 169, 3) := dk_181 0 169 (dk_at dksX1_strike_1 9 rfl rfl)
theorem dX1_strike_33 : decode cX1_strike 33 = .ok (.aload_n 0, 1) := dk_42 (dk_at dksX1_strike_1 12 rfl rfl)
theorem dX1_strike_34 : decode cX1_strike 34 = .ok (.getfield 54, 3) := dk_180 0 54 (dk_at dksX1_strike_1 13 rfl rfl)
theorem dX1_strike_37 : decode cX1_strike 37 = .ok (.invokevirtual 173, 3) := dk_182 0 173 (dk_at dksX1_strike_1 16 rfl rfl)
theorem dX1_strike_40 : decode cX1_strike 40 = .ok (.pop, 1) := dk_87 (dk_at dksX1_strike_1 19 rfl rfl)
theorem dX1_strike_41 : decode cX1_strike 41 = .ok (.iload_n 3, 1) := dk_29 (dk_at dksX1_strike_1 20 rfl rfl)
theorem dX1_strike_42 : decode cX1_strike 42 = .ok (.iload_n 2, 1) := dk_28 (dk_at dksX1_strike_1 21 rfl rfl)
theorem dX1_strike_43 : decode cX1_strike 43 = .ok (.if_icmp .ne 7, 3) := dk_160 0 7 (dk_at dksX1_strike_2 0 rfl rfl)
theorem dX1_strike_46 : decode cX1_strike 46 = .ok (.iconst 0, 1) := dk_3 (dk_at dksX1_strike_2 3 rfl rfl)
theorem dX1_strike_47 : decode cX1_strike 47 = .ok (.goto 4, 3) := dk_167 0 4 (dk_at dksX1_strike_2 4 rfl rfl)
theorem dX1_strike_50 : decode cX1_strike 50 = .ok (.iconst 1, 1) := dk_4 (dk_at dksX1_strike_2 7 rfl rfl)
theorem dX1_strike_51 : decode cX1_strike 51 = .ok (.ireturn, 1) := dk_172 (dk_at dksX1_strike_2 8 rfl rfl)
abbrev cX1_sheetOf : ByteArray := prog_1_method_20_code
def yX1_sheetOf : MethodName := ⟨RX1, "sheetOf", "(I)LPetitionDesk$Sheet;"⟩
def dkwX1_sheetOf_1 : List UInt8 := [182, 0, 148, 42, 180, 0, 54, 180, 0, 145, 27, 185, 0, 151, 2, 0, 192, 0, 154, 176]
abbrev dktX1_sheetOf_1 : List UInt8 := dkwX1_sheetOf_1 ++ []
def dkwX1_sheetOf_0 : List UInt8 := [42, 27, 133, 9, 42, 180, 0, 54, 180, 0, 145, 185, 0, 71, 1, 0, 4, 100, 133, 184, 0, 95]
abbrev dktX1_sheetOf_0 : List UInt8 := dkwX1_sheetOf_0 ++ dktX1_sheetOf_1
theorem dksX1_sheetOf_0 : cX1_sheetOf.data.toList.drop 0 = dktX1_sheetOf_0 := by decide +kernel
theorem dksX1_sheetOf_1 : cX1_sheetOf.data.toList.drop 22 = dktX1_sheetOf_1 := dk_seg dksX1_sheetOf_0 22 rfl rfl
theorem dX1_sheetOf_0 : decode cX1_sheetOf 0 = .ok (.aload_n 0, 1) := dk_42 (dk_at dksX1_sheetOf_0 0 rfl rfl)
theorem dX1_sheetOf_1 : decode cX1_sheetOf 1 = .ok (.iload_n 1, 1) := dk_27 (dk_at dksX1_sheetOf_0 1 rfl rfl)
theorem dX1_sheetOf_2 : decode cX1_sheetOf 2 = .ok (.i2l, 1) := dk_133 (dk_at dksX1_sheetOf_0 2 rfl rfl)
theorem dX1_sheetOf_3 : decode cX1_sheetOf 3 = .ok (.lconst 0, 1) := dk_9 (dk_at dksX1_sheetOf_0 3 rfl rfl)
theorem dX1_sheetOf_4 : decode cX1_sheetOf 4 = .ok (.aload_n 0, 1) := dk_42 (dk_at dksX1_sheetOf_0 4 rfl rfl)
theorem dX1_sheetOf_5 : decode cX1_sheetOf 5 = .ok (.getfield 54, 3) := dk_180 0 54 (dk_at dksX1_sheetOf_0 5 rfl rfl)
theorem dX1_sheetOf_8 : decode cX1_sheetOf 8 = .ok (.getfield 145, 3) := dk_180 0 145 (dk_at dksX1_sheetOf_0 8 rfl rfl)
theorem dX1_sheetOf_11 : decode cX1_sheetOf 11 = .ok (.invokeinterface 71 1, 5) := by decide +kernel
theorem dX1_sheetOf_16 : decode cX1_sheetOf 16 = .ok (.iconst 1, 1) := dk_4 (dk_at dksX1_sheetOf_0 16 rfl rfl)
theorem dX1_sheetOf_17 : decode cX1_sheetOf 17 = .ok (.isub, 1) := dk_100 (dk_at dksX1_sheetOf_0 17 rfl rfl)
theorem dX1_sheetOf_18 : decode cX1_sheetOf 18 = .ok (.i2l, 1) := dk_133 (dk_at dksX1_sheetOf_0 18 rfl rfl)
theorem dX1_sheetOf_19 : decode cX1_sheetOf 19 = .ok (.invokestatic 95, 3) := dk_184 0 95 (dk_at dksX1_sheetOf_0 19 rfl rfl)
theorem dX1_sheetOf_22 : decode cX1_sheetOf 22 = .ok (.invokevirtual 148, 3) := dk_182 0 148 (dk_at dksX1_sheetOf_1 0 rfl rfl)
theorem dX1_sheetOf_25 : decode cX1_sheetOf 25 = .ok (.aload_n 0, 1) := dk_42 (dk_at dksX1_sheetOf_1 3 rfl rfl)
theorem dX1_sheetOf_26 : decode cX1_sheetOf 26 = .ok (.getfield 54, 3) := dk_180 0 54 (dk_at dksX1_sheetOf_1 4 rfl rfl)
theorem dX1_sheetOf_29 : decode cX1_sheetOf 29 = .ok (.getfield 145, 3) := dk_180 0 145 (dk_at dksX1_sheetOf_1 7 rfl rfl)
theorem dX1_sheetOf_32 : decode cX1_sheetOf 32 = .ok (.iload_n 1, 1) := dk_27 (dk_at dksX1_sheetOf_1 10 rfl rfl)
theorem dX1_sheetOf_33 : decode cX1_sheetOf 33 = .ok (.invokeinterface 151 2, 5) := by decide +kernel
theorem dX1_sheetOf_38 : decode cX1_sheetOf 38 = .ok (.checkcast 154, 3) := dk_192 0 154 (dk_at dksX1_sheetOf_1 16 rfl rfl)
theorem dX1_sheetOf_41 : decode cX1_sheetOf 41 = .ok (.areturn, 1) := dk_176 (dk_at dksX1_sheetOf_1 19 rfl rfl)
abbrev cX1_needThere : ByteArray := prog_1_method_10_code
def yX1_needThere : MethodName := ⟨RX1, "needThere", "(Z)V"⟩
def dkwX1_needThere_0 : List UInt8 := [27, 153, 0, 4, 177, 42, 180, 0, 36, 3, 92, 46, 4, 96, 79, 187, 0, 65, 89, 183, 0, 67, 191]
abbrev dktX1_needThere_0 : List UInt8 := dkwX1_needThere_0 ++ []
theorem dksX1_needThere_0 : cX1_needThere.data.toList.drop 0 = dktX1_needThere_0 := by decide +kernel
theorem dX1_needThere_0 : decode cX1_needThere 0 = .ok (.iload_n 1, 1) := dk_27 (dk_at dksX1_needThere_0 0 rfl rfl)
theorem dX1_needThere_1 : decode cX1_needThere 1 = .ok (.ifCond .eq 4, 3) := dk_153 0 4 (dk_at dksX1_needThere_0 1 rfl rfl)
theorem dX1_needThere_4 : decode cX1_needThere 4 = .ok (.return_, 1) := dk_177 (dk_at dksX1_needThere_0 4 rfl rfl)
theorem dX1_needThere_5 : decode cX1_needThere 5 = .ok (.aload_n 0, 1) := dk_42 (dk_at dksX1_needThere_0 5 rfl rfl)
theorem dX1_needThere_6 : decode cX1_needThere 6 = .ok (.getfield 36, 3) := dk_180 0 36 (dk_at dksX1_needThere_0 6 rfl rfl)
theorem dX1_needThere_9 : decode cX1_needThere 9 = .ok (.iconst 0, 1) := dk_3 (dk_at dksX1_needThere_0 9 rfl rfl)
theorem dX1_needThere_10 : decode cX1_needThere 10 = .ok (.dup2, 1) := dk_92 (dk_at dksX1_needThere_0 10 rfl rfl)
theorem dX1_needThere_11 : decode cX1_needThere 11 = .ok (.iaload, 1) := dk_46 (dk_at dksX1_needThere_0 11 rfl rfl)
theorem dX1_needThere_12 : decode cX1_needThere 12 = .ok (.iconst 1, 1) := dk_4 (dk_at dksX1_needThere_0 12 rfl rfl)
theorem dX1_needThere_13 : decode cX1_needThere 13 = .ok (.iadd, 1) := dk_96 (dk_at dksX1_needThere_0 13 rfl rfl)
theorem dX1_needThere_14 : decode cX1_needThere 14 = .ok (.iastore, 1) := dk_79 (dk_at dksX1_needThere_0 14 rfl rfl)
theorem dX1_needThere_15 : decode cX1_needThere 15 = .ok (.new 65, 3) := dk_187 0 65 (dk_at dksX1_needThere_0 15 rfl rfl)
theorem dX1_needThere_18 : decode cX1_needThere 18 = .ok (.dup, 1) := dk_89 (dk_at dksX1_needThere_0 18 rfl rfl)
theorem dX1_needThere_19 : decode cX1_needThere 19 = .ok (.invokespecial 67, 3) := dk_183 0 67 (dk_at dksX1_needThere_0 19 rfl rfl)
theorem dX1_needThere_22 : decode cX1_needThere 22 = .ok (.athrow, 1) := dk_191 (dk_at dksX1_needThere_0 22 rfl rfl)
abbrev cX1_sign : ByteArray := prog_1_method_25_code
def yX1_sign : MethodName := ⟨RX1, "sign", "(III)I"⟩
def dkwX1_sign_5 : List UInt8 := [192, 0, 154, 180, 0, 160, 185, 0, 71, 1, 0, 4, 100, 172]
abbrev dktX1_sign_5 : List UInt8 := dkwX1_sign_5 ++ []
def dkwX1_sign_4 : List UInt8 := [185, 0, 81, 2, 0, 87, 42, 182, 0, 195, 42, 180, 0, 54, 180, 0, 145, 27, 185, 0, 151, 2, 0]
abbrev dktX1_sign_4 : List UInt8 := dkwX1_sign_4 ++ dktX1_sign_5
def dkwX1_sign_3 : List UInt8 := [187, 0, 162, 89, 25, 4, 180, 0, 185, 25, 4, 180, 0, 189, 29, 25, 4, 183, 0, 192]
abbrev dktX1_sign_3 : List UInt8 := dkwX1_sign_3 ++ dktX1_sign_4
def dkwX1_sign_2 : List UInt8 := [42, 182, 0, 119, 42, 180, 0, 54, 180, 0, 145, 27, 185, 0, 151, 2, 0, 192, 0, 154, 180, 0, 160]
abbrev dktX1_sign_2 : List UInt8 := dkwX1_sign_2 ++ dktX1_sign_3
def dkwX1_sign_1 : List UInt8 := [182, 0, 99, 42, 42, 180, 0, 54, 182, 0, 122, 16, 40, 162, 0, 7, 4, 167, 0, 4, 3, 182, 0, 182]
abbrev dktX1_sign_1 : List UInt8 := dkwX1_sign_1 ++ dktX1_sign_2
def dkwX1_sign_0 : List UInt8 := [42, 27, 182, 0, 156, 87, 42, 28, 182, 0, 176, 58, 4, 42, 29, 133, 9, 20, 0, 180, 184, 0, 95]
abbrev dktX1_sign_0 : List UInt8 := dkwX1_sign_0 ++ dktX1_sign_1
theorem dksX1_sign_0 : cX1_sign.data.toList.drop 0 = dktX1_sign_0 := by decide +kernel
theorem dksX1_sign_1 : cX1_sign.data.toList.drop 23 = dktX1_sign_1 := dk_seg dksX1_sign_0 23 rfl rfl
theorem dksX1_sign_2 : cX1_sign.data.toList.drop 47 = dktX1_sign_2 := dk_seg dksX1_sign_1 24 rfl rfl
theorem dksX1_sign_3 : cX1_sign.data.toList.drop 70 = dktX1_sign_3 := dk_seg dksX1_sign_2 23 rfl rfl
theorem dksX1_sign_4 : cX1_sign.data.toList.drop 90 = dktX1_sign_4 := dk_seg dksX1_sign_3 20 rfl rfl
theorem dksX1_sign_5 : cX1_sign.data.toList.drop 113 = dktX1_sign_5 := dk_seg dksX1_sign_4 23 rfl rfl
theorem dX1_sign_0 : decode cX1_sign 0 = .ok (.aload_n 0, 1) := dk_42 (dk_at dksX1_sign_0 0 rfl rfl)
theorem dX1_sign_1 : decode cX1_sign 1 = .ok (.iload_n 1, 1) := dk_27 (dk_at dksX1_sign_0 1 rfl rfl)
theorem dX1_sign_2 : decode cX1_sign 2 = .ok (.invokevirtual 156, 3) := dk_182 0 156 (dk_at dksX1_sign_0 2 rfl rfl)
theorem dX1_sign_5 : decode cX1_sign 5 = .ok (.pop, 1) := dk_87 (dk_at dksX1_sign_0 5 rfl rfl)
theorem dX1_sign_6 : decode cX1_sign 6 = .ok (.aload_n 0, 1) := dk_42 (dk_at dksX1_sign_0 6 rfl rfl)
theorem dX1_sign_7 : decode cX1_sign 7 = .ok (.iload_n 2, 1) := dk_28 (dk_at dksX1_sign_0 7 rfl rfl)
theorem dX1_sign_8 : decode cX1_sign 8 = .ok (.invokevirtual 176, 3) := dk_182 0 176 (dk_at dksX1_sign_0 8 rfl rfl)
theorem dX1_sign_11 : decode cX1_sign 11 = .ok (.astore 4, 2) := dk_58 4 (dk_at dksX1_sign_0 11 rfl rfl)
theorem dX1_sign_13 : decode cX1_sign 13 = .ok (.aload_n 0, 1) := dk_42 (dk_at dksX1_sign_0 13 rfl rfl)
theorem dX1_sign_14 : decode cX1_sign 14 = .ok (.iload_n 3, 1) := dk_29 (dk_at dksX1_sign_0 14 rfl rfl)
theorem dX1_sign_15 : decode cX1_sign 15 = .ok (.i2l, 1) := dk_133 (dk_at dksX1_sign_0 15 rfl rfl)
theorem dX1_sign_16 : decode cX1_sign 16 = .ok (.lconst 0, 1) := dk_9 (dk_at dksX1_sign_0 16 rfl rfl)
theorem dX1_sign_17 : decode cX1_sign 17 = .ok (.ldc2_w 180, 3) := dk_20 0 180 (dk_at dksX1_sign_0 17 rfl rfl)
theorem dX1_sign_20 : decode cX1_sign 20 = .ok (.invokestatic 95, 3) := dk_184 0 95 (dk_at dksX1_sign_0 20 rfl rfl)
theorem dX1_sign_23 : decode cX1_sign 23 = .ok (.invokevirtual 99, 3) := dk_182 0 99 (dk_at dksX1_sign_1 0 rfl rfl)
theorem dX1_sign_26 : decode cX1_sign 26 = .ok (.aload_n 0, 1) := dk_42 (dk_at dksX1_sign_1 3 rfl rfl)
theorem dX1_sign_27 : decode cX1_sign 27 = .ok (.aload_n 0, 1) := dk_42 (dk_at dksX1_sign_1 4 rfl rfl)
theorem dX1_sign_28 : decode cX1_sign 28 = .ok (.getfield 54, 3) := dk_180 0 54 (dk_at dksX1_sign_1 5 rfl rfl)
theorem dX1_sign_31 : decode cX1_sign 31 = .ok (.invokevirtual 122, 3) := dk_182 0 122 (dk_at dksX1_sign_1 8 rfl rfl)
theorem dX1_sign_34 : decode cX1_sign 34 = .ok (.bipush 40, 2) := dk_16 40 (dk_at dksX1_sign_1 11 rfl rfl)
theorem dX1_sign_36 : decode cX1_sign 36 = .ok (.if_icmp .ge 7, 3) := dk_162 0 7 (dk_at dksX1_sign_1 13 rfl rfl)
theorem dX1_sign_39 : decode cX1_sign 39 = .ok (.iconst 1, 1) := dk_4 (dk_at dksX1_sign_1 16 rfl rfl)
theorem dX1_sign_40 : decode cX1_sign 40 = .ok (.goto 4, 3) := dk_167 0 4 (dk_at dksX1_sign_1 17 rfl rfl)
theorem dX1_sign_43 : decode cX1_sign 43 = .ok (.iconst 0, 1) := dk_3 (dk_at dksX1_sign_1 20 rfl rfl)
theorem dX1_sign_44 : decode cX1_sign 44 = .ok (.invokevirtual 182, 3) := dk_182 0 182 (dk_at dksX1_sign_1 21 rfl rfl)
theorem dX1_sign_47 : decode cX1_sign 47 = .ok (.aload_n 0, 1) := dk_42 (dk_at dksX1_sign_2 0 rfl rfl)
theorem dX1_sign_48 : decode cX1_sign 48 = .ok (.invokevirtual 119, 3) := dk_182 0 119 (dk_at dksX1_sign_2 1 rfl rfl)
theorem dX1_sign_51 : decode cX1_sign 51 = .ok (.aload_n 0, 1) := dk_42 (dk_at dksX1_sign_2 4 rfl rfl)
theorem dX1_sign_52 : decode cX1_sign 52 = .ok (.getfield 54, 3) := dk_180 0 54 (dk_at dksX1_sign_2 5 rfl rfl)
theorem dX1_sign_55 : decode cX1_sign 55 = .ok (.getfield 145, 3) := dk_180 0 145 (dk_at dksX1_sign_2 8 rfl rfl)
theorem dX1_sign_58 : decode cX1_sign 58 = .ok (.iload_n 1, 1) := dk_27 (dk_at dksX1_sign_2 11 rfl rfl)
theorem dX1_sign_59 : decode cX1_sign 59 = .ok (.invokeinterface 151 2, 5) := by decide +kernel
theorem dX1_sign_64 : decode cX1_sign 64 = .ok (.checkcast 154, 3) := dk_192 0 154 (dk_at dksX1_sign_2 17 rfl rfl)
theorem dX1_sign_67 : decode cX1_sign 67 = .ok (.getfield 160, 3) := dk_180 0 160 (dk_at dksX1_sign_2 20 rfl rfl)
theorem dX1_sign_70 : decode cX1_sign 70 = .ok (.new 162, 3) := dk_187 0 162 (dk_at dksX1_sign_3 0 rfl rfl)
theorem dX1_sign_73 : decode cX1_sign 73 = .ok (.dup, 1) := dk_89 (dk_at dksX1_sign_3 3 rfl rfl)
theorem dX1_sign_74 : decode cX1_sign 74 = .ok (.aload 4, 2) := dk_25 4 (dk_at dksX1_sign_3 4 rfl rfl)
theorem dX1_sign_76 : decode cX1_sign 76 = .ok (.getfield 185, 3) := dk_180 0 185 (dk_at dksX1_sign_3 6 rfl rfl)
theorem dX1_sign_79 : decode cX1_sign 79 = .ok (.aload 4, 2) := dk_25 4 (dk_at dksX1_sign_3 9 rfl rfl)
theorem dX1_sign_81 : decode cX1_sign 81 = .ok (.getfield 189, 3) := dk_180 0 189 (dk_at dksX1_sign_3 11 rfl rfl)
theorem dX1_sign_84 : decode cX1_sign 84 = .ok (.iload_n 3, 1) := dk_29 (dk_at dksX1_sign_3 14 rfl rfl)
theorem dX1_sign_85 : decode cX1_sign 85 = .ok (.aload 4, 2) := dk_25 4 (dk_at dksX1_sign_3 15 rfl rfl)
theorem dX1_sign_87 : decode cX1_sign 87 = .ok (.invokespecial 192, 3) := dk_183 0 192 (dk_at dksX1_sign_3 17 rfl rfl)
theorem dX1_sign_90 : decode cX1_sign 90 = .ok (.invokeinterface 81 2, 5) := by decide +kernel
theorem dX1_sign_95 : decode cX1_sign 95 = .ok (.pop, 1) := dk_87 (dk_at dksX1_sign_4 5 rfl rfl)
theorem dX1_sign_96 : decode cX1_sign 96 = .ok (.aload_n 0, 1) := dk_42 (dk_at dksX1_sign_4 6 rfl rfl)
theorem dX1_sign_97 : decode cX1_sign 97 = .ok (.invokevirtual 195, 3) := dk_182 0 195 (dk_at dksX1_sign_4 7 rfl rfl)
theorem dX1_sign_100 : decode cX1_sign 100 = .ok (.aload_n 0, 1) := dk_42 (dk_at dksX1_sign_4 10 rfl rfl)
theorem dX1_sign_101 : decode cX1_sign 101 = .ok (.getfield 54, 3) := dk_180 0 54 (dk_at dksX1_sign_4 11 rfl rfl)
theorem dX1_sign_104 : decode cX1_sign 104 = .ok (.getfield 145, 3) := dk_180 0 145 (dk_at dksX1_sign_4 14 rfl rfl)
theorem dX1_sign_107 : decode cX1_sign 107 = .ok (.iload_n 1, 1) := dk_27 (dk_at dksX1_sign_4 17 rfl rfl)
theorem dX1_sign_108 : decode cX1_sign 108 = .ok (.invokeinterface 151 2, 5) := by decide +kernel
theorem dX1_sign_113 : decode cX1_sign 113 = .ok (.checkcast 154, 3) := dk_192 0 154 (dk_at dksX1_sign_5 0 rfl rfl)
theorem dX1_sign_116 : decode cX1_sign 116 = .ok (.getfield 160, 3) := dk_180 0 160 (dk_at dksX1_sign_5 3 rfl rfl)
theorem dX1_sign_119 : decode cX1_sign 119 = .ok (.invokeinterface 71 1, 5) := by decide +kernel
theorem dX1_sign_124 : decode cX1_sign 124 = .ok (.iconst 1, 1) := dk_4 (dk_at dksX1_sign_5 11 rfl rfl)
theorem dX1_sign_125 : decode cX1_sign 125 = .ok (.isub, 1) := dk_100 (dk_at dksX1_sign_5 12 rfl rfl)
theorem dX1_sign_126 : decode cX1_sign 126 = .ok (.ireturn, 1) := dk_172 (dk_at dksX1_sign_5 13 rfl rfl)
abbrev cX1_voterOf : ByteArray := prog_1_method_22_code
def yX1_voterOf : MethodName := ⟨RX1, "voterOf", "(I)LPetitionDesk$Voter;"⟩
def dkwX1_voterOf_1 : List UInt8 := [182, 0, 148, 42, 180, 0, 54, 180, 0, 164, 27, 185, 0, 151, 2, 0, 192, 0, 167, 176]
abbrev dktX1_voterOf_1 : List UInt8 := dkwX1_voterOf_1 ++ []
def dkwX1_voterOf_0 : List UInt8 := [42, 27, 133, 9, 42, 180, 0, 54, 180, 0, 164, 185, 0, 71, 1, 0, 4, 100, 133, 184, 0, 95]
abbrev dktX1_voterOf_0 : List UInt8 := dkwX1_voterOf_0 ++ dktX1_voterOf_1
theorem dksX1_voterOf_0 : cX1_voterOf.data.toList.drop 0 = dktX1_voterOf_0 := by decide +kernel
theorem dksX1_voterOf_1 : cX1_voterOf.data.toList.drop 22 = dktX1_voterOf_1 := dk_seg dksX1_voterOf_0 22 rfl rfl
theorem dX1_voterOf_0 : decode cX1_voterOf 0 = .ok (.aload_n 0, 1) := dk_42 (dk_at dksX1_voterOf_0 0 rfl rfl)
theorem dX1_voterOf_1 : decode cX1_voterOf 1 = .ok (.iload_n 1, 1) := dk_27 (dk_at dksX1_voterOf_0 1 rfl rfl)
theorem dX1_voterOf_2 : decode cX1_voterOf 2 = .ok (.i2l, 1) := dk_133 (dk_at dksX1_voterOf_0 2 rfl rfl)
theorem dX1_voterOf_3 : decode cX1_voterOf 3 = .ok (.lconst 0, 1) := dk_9 (dk_at dksX1_voterOf_0 3 rfl rfl)
theorem dX1_voterOf_4 : decode cX1_voterOf 4 = .ok (.aload_n 0, 1) := dk_42 (dk_at dksX1_voterOf_0 4 rfl rfl)
theorem dX1_voterOf_5 : decode cX1_voterOf 5 = .ok (.getfield 54, 3) := dk_180 0 54 (dk_at dksX1_voterOf_0 5 rfl rfl)
theorem dX1_voterOf_8 : decode cX1_voterOf 8 = .ok (.getfield 164, 3) := dk_180 0 164 (dk_at dksX1_voterOf_0 8 rfl rfl)
theorem dX1_voterOf_11 : decode cX1_voterOf 11 = .ok (.invokeinterface 71 1, 5) := by decide +kernel
theorem dX1_voterOf_16 : decode cX1_voterOf 16 = .ok (.iconst 1, 1) := dk_4 (dk_at dksX1_voterOf_0 16 rfl rfl)
theorem dX1_voterOf_17 : decode cX1_voterOf 17 = .ok (.isub, 1) := dk_100 (dk_at dksX1_voterOf_0 17 rfl rfl)
theorem dX1_voterOf_18 : decode cX1_voterOf 18 = .ok (.i2l, 1) := dk_133 (dk_at dksX1_voterOf_0 18 rfl rfl)
theorem dX1_voterOf_19 : decode cX1_voterOf 19 = .ok (.invokestatic 95, 3) := dk_184 0 95 (dk_at dksX1_voterOf_0 19 rfl rfl)
theorem dX1_voterOf_22 : decode cX1_voterOf 22 = .ok (.invokevirtual 148, 3) := dk_182 0 148 (dk_at dksX1_voterOf_1 0 rfl rfl)
theorem dX1_voterOf_25 : decode cX1_voterOf 25 = .ok (.aload_n 0, 1) := dk_42 (dk_at dksX1_voterOf_1 3 rfl rfl)
theorem dX1_voterOf_26 : decode cX1_voterOf 26 = .ok (.getfield 54, 3) := dk_180 0 54 (dk_at dksX1_voterOf_1 4 rfl rfl)
theorem dX1_voterOf_29 : decode cX1_voterOf 29 = .ok (.getfield 164, 3) := dk_180 0 164 (dk_at dksX1_voterOf_1 7 rfl rfl)
theorem dX1_voterOf_32 : decode cX1_voterOf 32 = .ok (.iload_n 1, 1) := dk_27 (dk_at dksX1_voterOf_1 10 rfl rfl)
theorem dX1_voterOf_33 : decode cX1_voterOf 33 = .ok (.invokeinterface 151 2, 5) := by decide +kernel
theorem dX1_voterOf_38 : decode cX1_voterOf 38 = .ok (.checkcast 167, 3) := dk_192 0 167 (dk_at dksX1_voterOf_1 16 rfl rfl)
theorem dX1_voterOf_41 : decode cX1_voterOf 41 = .ok (.areturn, 1) := dk_176 (dk_at dksX1_voterOf_1 19 rfl rfl)
abbrev cX1_needNow : ByteArray := prog_1_method_11_code
def yX1_needNow : MethodName := ⟨RX1, "needNow", "(Z)V"⟩
def dkwX1_needNow_0 : List UInt8 := [27, 153, 0, 4, 177, 42, 180, 0, 36, 5, 92, 46, 4, 96, 79, 187, 0, 68, 89, 183, 0, 70, 191]
abbrev dktX1_needNow_0 : List UInt8 := dkwX1_needNow_0 ++ []
theorem dksX1_needNow_0 : cX1_needNow.data.toList.drop 0 = dktX1_needNow_0 := by decide +kernel
theorem dX1_needNow_0 : decode cX1_needNow 0 = .ok (.iload_n 1, 1) := dk_27 (dk_at dksX1_needNow_0 0 rfl rfl)
theorem dX1_needNow_1 : decode cX1_needNow 1 = .ok (.ifCond .eq 4, 3) := dk_153 0 4 (dk_at dksX1_needNow_0 1 rfl rfl)
theorem dX1_needNow_4 : decode cX1_needNow 4 = .ok (.return_, 1) := dk_177 (dk_at dksX1_needNow_0 4 rfl rfl)
theorem dX1_needNow_5 : decode cX1_needNow 5 = .ok (.aload_n 0, 1) := dk_42 (dk_at dksX1_needNow_0 5 rfl rfl)
theorem dX1_needNow_6 : decode cX1_needNow 6 = .ok (.getfield 36, 3) := dk_180 0 36 (dk_at dksX1_needNow_0 6 rfl rfl)
theorem dX1_needNow_9 : decode cX1_needNow 9 = .ok (.iconst 2, 1) := dk_5 (dk_at dksX1_needNow_0 9 rfl rfl)
theorem dX1_needNow_10 : decode cX1_needNow 10 = .ok (.dup2, 1) := dk_92 (dk_at dksX1_needNow_0 10 rfl rfl)
theorem dX1_needNow_11 : decode cX1_needNow 11 = .ok (.iaload, 1) := dk_46 (dk_at dksX1_needNow_0 11 rfl rfl)
theorem dX1_needNow_12 : decode cX1_needNow 12 = .ok (.iconst 1, 1) := dk_4 (dk_at dksX1_needNow_0 12 rfl rfl)
theorem dX1_needNow_13 : decode cX1_needNow 13 = .ok (.iadd, 1) := dk_96 (dk_at dksX1_needNow_0 13 rfl rfl)
theorem dX1_needNow_14 : decode cX1_needNow 14 = .ok (.iastore, 1) := dk_79 (dk_at dksX1_needNow_0 14 rfl rfl)
theorem dX1_needNow_15 : decode cX1_needNow 15 = .ok (.new 68, 3) := dk_187 0 68 (dk_at dksX1_needNow_0 15 rfl rfl)
theorem dX1_needNow_18 : decode cX1_needNow 18 = .ok (.dup, 1) := dk_89 (dk_at dksX1_needNow_0 18 rfl rfl)
theorem dX1_needNow_19 : decode cX1_needNow 19 = .ok (.invokespecial 70, 3) := dk_183 0 70 (dk_at dksX1_needNow_0 19 rfl rfl)
theorem dX1_needNow_22 : decode cX1_needNow 22 = .ok (.athrow, 1) := dk_191 (dk_at dksX1_needNow_0 22 rfl rfl)
abbrev cX1_empties : ByteArray := prog_1_method_24_code
def yX1_empties : MethodName := ⟨RX1, "empties", "()V"⟩
def dkwX1_empties_1 : List UInt8 := [182, 0, 173, 87, 177]
abbrev dktX1_empties_1 : List UInt8 := dkwX1_empties_1 ++ []
def dkwX1_empties_0 : List UInt8 := [42, 180, 0, 54, 180, 0, 133, 3, 9, 80, 42, 180, 0, 54, 180, 0, 133, 4, 9, 80, 42, 180, 0, 54]
abbrev dktX1_empties_0 : List UInt8 := dkwX1_empties_0 ++ dktX1_empties_1
theorem dksX1_empties_0 : cX1_empties.data.toList.drop 0 = dktX1_empties_0 := by decide +kernel
theorem dksX1_empties_1 : cX1_empties.data.toList.drop 24 = dktX1_empties_1 := dk_seg dksX1_empties_0 24 rfl rfl
theorem dX1_empties_0 : decode cX1_empties 0 = .ok (.aload_n 0, 1) := dk_42 (dk_at dksX1_empties_0 0 rfl rfl)
theorem dX1_empties_1 : decode cX1_empties 1 = .ok (.getfield 54, 3) := dk_180 0 54 (dk_at dksX1_empties_0 1 rfl rfl)
theorem dX1_empties_4 : decode cX1_empties 4 = .ok (.getfield 133, 3) := dk_180 0 133 (dk_at dksX1_empties_0 4 rfl rfl)
theorem dX1_empties_7 : decode cX1_empties 7 = .ok (.iconst 0, 1) := dk_3 (dk_at dksX1_empties_0 7 rfl rfl)
theorem dX1_empties_8 : decode cX1_empties 8 = .ok (.lconst 0, 1) := dk_9 (dk_at dksX1_empties_0 8 rfl rfl)
theorem dX1_empties_9 : decode cX1_empties 9 = .ok (.lastore, 1) := dk_80 (dk_at dksX1_empties_0 9 rfl rfl)
theorem dX1_empties_10 : decode cX1_empties 10 = .ok (.aload_n 0, 1) := dk_42 (dk_at dksX1_empties_0 10 rfl rfl)
theorem dX1_empties_11 : decode cX1_empties 11 = .ok (.getfield 54, 3) := dk_180 0 54 (dk_at dksX1_empties_0 11 rfl rfl)
theorem dX1_empties_14 : decode cX1_empties 14 = .ok (.getfield 133, 3) := dk_180 0 133 (dk_at dksX1_empties_0 14 rfl rfl)
theorem dX1_empties_17 : decode cX1_empties 17 = .ok (.iconst 1, 1) := dk_4 (dk_at dksX1_empties_0 17 rfl rfl)
theorem dX1_empties_18 : decode cX1_empties 18 = .ok (.lconst 0, 1) := dk_9 (dk_at dksX1_empties_0 18 rfl rfl)
theorem dX1_empties_19 : decode cX1_empties 19 = .ok (.lastore, 1) := dk_80 (dk_at dksX1_empties_0 19 rfl rfl)
theorem dX1_empties_20 : decode cX1_empties 20 = .ok (.aload_n 0, 1) := dk_42 (dk_at dksX1_empties_0 20 rfl rfl)
theorem dX1_empties_21 : decode cX1_empties 21 = .ok (.getfield 54, 3) := dk_180 0 54 (dk_at dksX1_empties_0 21 rfl rfl)
theorem dX1_empties_24 : decode cX1_empties 24 = .ok (.invokevirtual 173, 3) := dk_182 0 173 (dk_at dksX1_empties_1 0 rfl rfl)
theorem dX1_empties_27 : decode cX1_empties 27 = .ok (.pop, 1) := dk_87 (dk_at dksX1_empties_1 3 rfl rfl)
theorem dX1_empties_28 : decode cX1_empties 28 = .ok (.return_, 1) := dk_177 (dk_at dksX1_empties_1 4 rfl rfl)
abbrev cX1_erase : ByteArray := prog_1_method_26_code
def yX1_erase : MethodName := ⟨RX1, "erase", "(II)I"⟩
def dkwX1_erase_1 : List UInt8 := [185, 0, 151, 2, 0, 192, 0, 154, 180, 0, 160, 28, 185, 0, 77, 2, 0, 87, 42, 182, 0, 195, 29, 172]
abbrev dktX1_erase_1 : List UInt8 := dkwX1_erase_1 ++ []
def dkwX1_erase_0 : List UInt8 := [42, 27, 28, 182, 0, 198, 180, 0, 202, 62, 42, 182, 0, 119, 42, 180, 0, 54, 180, 0, 145, 27]
abbrev dktX1_erase_0 : List UInt8 := dkwX1_erase_0 ++ dktX1_erase_1
theorem dksX1_erase_0 : cX1_erase.data.toList.drop 0 = dktX1_erase_0 := by decide +kernel
theorem dksX1_erase_1 : cX1_erase.data.toList.drop 22 = dktX1_erase_1 := dk_seg dksX1_erase_0 22 rfl rfl
theorem dX1_erase_0 : decode cX1_erase 0 = .ok (.aload_n 0, 1) := dk_42 (dk_at dksX1_erase_0 0 rfl rfl)
theorem dX1_erase_1 : decode cX1_erase 1 = .ok (.iload_n 1, 1) := dk_27 (dk_at dksX1_erase_0 1 rfl rfl)
theorem dX1_erase_2 : decode cX1_erase 2 = .ok (.iload_n 2, 1) := dk_28 (dk_at dksX1_erase_0 2 rfl rfl)
theorem dX1_erase_3 : decode cX1_erase 3 = .ok (.invokevirtual 198, 3) := dk_182 0 198 (dk_at dksX1_erase_0 3 rfl rfl)
theorem dX1_erase_6 : decode cX1_erase 6 = .ok (.getfield 202, 3) := dk_180 0 202 (dk_at dksX1_erase_0 6 rfl rfl)
theorem dX1_erase_9 : decode cX1_erase 9 = .ok (.istore_n 3, 1) := dk_62 (dk_at dksX1_erase_0 9 rfl rfl)
theorem dX1_erase_10 : decode cX1_erase 10 = .ok (.aload_n 0, 1) := dk_42 (dk_at dksX1_erase_0 10 rfl rfl)
theorem dX1_erase_11 : decode cX1_erase 11 = .ok (.invokevirtual 119, 3) := dk_182 0 119 (dk_at dksX1_erase_0 11 rfl rfl)
theorem dX1_erase_14 : decode cX1_erase 14 = .ok (.aload_n 0, 1) := dk_42 (dk_at dksX1_erase_0 14 rfl rfl)
theorem dX1_erase_15 : decode cX1_erase 15 = .ok (.getfield 54, 3) := dk_180 0 54 (dk_at dksX1_erase_0 15 rfl rfl)
theorem dX1_erase_18 : decode cX1_erase 18 = .ok (.getfield 145, 3) := dk_180 0 145 (dk_at dksX1_erase_0 18 rfl rfl)
theorem dX1_erase_21 : decode cX1_erase 21 = .ok (.iload_n 1, 1) := dk_27 (dk_at dksX1_erase_0 21 rfl rfl)
theorem dX1_erase_22 : decode cX1_erase 22 = .ok (.invokeinterface 151 2, 5) := by decide +kernel
theorem dX1_erase_27 : decode cX1_erase 27 = .ok (.checkcast 154, 3) := dk_192 0 154 (dk_at dksX1_erase_1 5 rfl rfl)
theorem dX1_erase_30 : decode cX1_erase 30 = .ok (.getfield 160, 3) := dk_180 0 160 (dk_at dksX1_erase_1 8 rfl rfl)
theorem dX1_erase_33 : decode cX1_erase 33 = .ok (.iload_n 2, 1) := dk_28 (dk_at dksX1_erase_1 11 rfl rfl)
theorem dX1_erase_34 : decode cX1_erase 34 = .ok (.invokeinterface 77 2, 5) := by decide +kernel
theorem dX1_erase_39 : decode cX1_erase 39 = .ok (.pop, 1) := dk_87 (dk_at dksX1_erase_1 17 rfl rfl)
theorem dX1_erase_40 : decode cX1_erase 40 = .ok (.aload_n 0, 1) := dk_42 (dk_at dksX1_erase_1 18 rfl rfl)
theorem dX1_erase_41 : decode cX1_erase 41 = .ok (.invokevirtual 195, 3) := dk_182 0 195 (dk_at dksX1_erase_1 19 rfl rfl)
theorem dX1_erase_44 : decode cX1_erase 44 = .ok (.iload_n 3, 1) := dk_29 (dk_at dksX1_erase_1 22 rfl rfl)
theorem dX1_erase_45 : decode cX1_erase 45 = .ok (.ireturn, 1) := dk_172 (dk_at dksX1_erase_1 23 rfl rfl)
abbrev cX1_lineOf : ByteArray := prog_1_method_21_code
def yX1_lineOf : MethodName := ⟨RX1, "lineOf", "(II)LPetitionDesk$Line;"⟩
def dkwX1_lineOf_1 : List UInt8 := [184, 0, 95, 182, 0, 148, 45, 28, 185, 0, 151, 2, 0, 192, 0, 162, 176]
abbrev dktX1_lineOf_1 : List UInt8 := dkwX1_lineOf_1 ++ []
def dkwX1_lineOf_0 : List UInt8 := [42, 27, 182, 0, 156, 180, 0, 160, 78, 42, 28, 133, 9, 45, 185, 0, 71, 1, 0, 4, 100, 133]
abbrev dktX1_lineOf_0 : List UInt8 := dkwX1_lineOf_0 ++ dktX1_lineOf_1
theorem dksX1_lineOf_0 : cX1_lineOf.data.toList.drop 0 = dktX1_lineOf_0 := by decide +kernel
theorem dksX1_lineOf_1 : cX1_lineOf.data.toList.drop 22 = dktX1_lineOf_1 := dk_seg dksX1_lineOf_0 22 rfl rfl
theorem dX1_lineOf_0 : decode cX1_lineOf 0 = .ok (.aload_n 0, 1) := dk_42 (dk_at dksX1_lineOf_0 0 rfl rfl)
theorem dX1_lineOf_1 : decode cX1_lineOf 1 = .ok (.iload_n 1, 1) := dk_27 (dk_at dksX1_lineOf_0 1 rfl rfl)
theorem dX1_lineOf_2 : decode cX1_lineOf 2 = .ok (.invokevirtual 156, 3) := dk_182 0 156 (dk_at dksX1_lineOf_0 2 rfl rfl)
theorem dX1_lineOf_5 : decode cX1_lineOf 5 = .ok (.getfield 160, 3) := dk_180 0 160 (dk_at dksX1_lineOf_0 5 rfl rfl)
theorem dX1_lineOf_8 : decode cX1_lineOf 8 = .ok (.astore_n 3, 1) := dk_78 (dk_at dksX1_lineOf_0 8 rfl rfl)
theorem dX1_lineOf_9 : decode cX1_lineOf 9 = .ok (.aload_n 0, 1) := dk_42 (dk_at dksX1_lineOf_0 9 rfl rfl)
theorem dX1_lineOf_10 : decode cX1_lineOf 10 = .ok (.iload_n 2, 1) := dk_28 (dk_at dksX1_lineOf_0 10 rfl rfl)
theorem dX1_lineOf_11 : decode cX1_lineOf 11 = .ok (.i2l, 1) := dk_133 (dk_at dksX1_lineOf_0 11 rfl rfl)
theorem dX1_lineOf_12 : decode cX1_lineOf 12 = .ok (.lconst 0, 1) := dk_9 (dk_at dksX1_lineOf_0 12 rfl rfl)
theorem dX1_lineOf_13 : decode cX1_lineOf 13 = .ok (.aload_n 3, 1) := dk_45 (dk_at dksX1_lineOf_0 13 rfl rfl)
theorem dX1_lineOf_14 : decode cX1_lineOf 14 = .ok (.invokeinterface 71 1, 5) := by decide +kernel
theorem dX1_lineOf_19 : decode cX1_lineOf 19 = .ok (.iconst 1, 1) := dk_4 (dk_at dksX1_lineOf_0 19 rfl rfl)
theorem dX1_lineOf_20 : decode cX1_lineOf 20 = .ok (.isub, 1) := dk_100 (dk_at dksX1_lineOf_0 20 rfl rfl)
theorem dX1_lineOf_21 : decode cX1_lineOf 21 = .ok (.i2l, 1) := dk_133 (dk_at dksX1_lineOf_0 21 rfl rfl)
theorem dX1_lineOf_22 : decode cX1_lineOf 22 = .ok (.invokestatic 95, 3) := dk_184 0 95 (dk_at dksX1_lineOf_1 0 rfl rfl)
theorem dX1_lineOf_25 : decode cX1_lineOf 25 = .ok (.invokevirtual 148, 3) := dk_182 0 148 (dk_at dksX1_lineOf_1 3 rfl rfl)
theorem dX1_lineOf_28 : decode cX1_lineOf 28 = .ok (.aload_n 3, 1) := dk_45 (dk_at dksX1_lineOf_1 6 rfl rfl)
theorem dX1_lineOf_29 : decode cX1_lineOf 29 = .ok (.iload_n 2, 1) := dk_28 (dk_at dksX1_lineOf_1 7 rfl rfl)
theorem dX1_lineOf_30 : decode cX1_lineOf 30 = .ok (.invokeinterface 151 2, 5) := by decide +kernel
theorem dX1_lineOf_35 : decode cX1_lineOf 35 = .ok (.checkcast 162, 3) := dk_192 0 162 (dk_at dksX1_lineOf_1 13 rfl rfl)
theorem dX1_lineOf_38 : decode cX1_lineOf 38 = .ok (.areturn, 1) := dk_176 (dk_at dksX1_lineOf_1 16 rfl rfl)
abbrev cX1_told : ByteArray := prog_1_method_28_code
def yX1_told : MethodName := ⟨RX1, "told", "(I)I"⟩
def dkwX1_told_6 : List UInt8 := [185, 0, 71, 1, 0, 172]
abbrev dktX1_told_6 : List UInt8 := dkwX1_told_6 ++ []
def dkwX1_told_5 : List UInt8 := [180, 0, 54, 180, 0, 222, 172, 42, 180, 0, 54, 182, 0, 225, 172, 42, 180, 0, 88, 172, 42, 180, 0, 43]
abbrev dktX1_told_5 : List UInt8 := dkwX1_told_5 ++ dktX1_told_6
def dkwX1_told_4 : List UInt8 := [180, 0, 54, 180, 0, 213, 172, 42, 180, 0, 54, 180, 0, 216, 172, 42, 180, 0, 54, 180, 0, 219, 172, 42]
abbrev dktX1_told_4 : List UInt8 := dkwX1_told_4 ++ dktX1_told_5
def dkwX1_told_3 : List UInt8 := [185, 0, 71, 1, 0, 172, 42, 180, 0, 54, 182, 0, 122, 172, 42, 180, 0, 54, 180, 0, 211, 172, 42]
abbrev dktX1_told_3 : List UInt8 := dkwX1_told_3 ++ dktX1_told_4
def dkwX1_told_2 : List UInt8 := [42, 180, 0, 54, 180, 0, 164, 185, 0, 71, 1, 0, 172, 42, 180, 0, 54, 180, 0, 145]
abbrev dktX1_told_2 : List UInt8 := dkwX1_told_2 ++ dktX1_told_3
def dkwX1_told_1 : List UInt8 := [170, 0, 0, 0, 0, 141, 0, 0, 0, 0, 0, 0, 0, 9, 0, 0, 0, 54, 0, 0, 0, 67, 0, 0, 0, 80, 0, 0, 0, 88, 0, 0, 0, 96, 0, 0, 0, 104, 0, 0, 0, 112, 0, 0, 0, 120, 0, 0, 0, 128, 0, 0, 0, 136]
abbrev dktX1_told_1 : List UInt8 := dkwX1_told_1 ++ dktX1_told_2
def dkwX1_told_0 : List UInt8 := [42, 27, 133, 9, 20, 0, 209, 184, 0, 95, 182, 0, 99, 27]
abbrev dktX1_told_0 : List UInt8 := dkwX1_told_0 ++ dktX1_told_1
theorem dksX1_told_0 : cX1_told.data.toList.drop 0 = dktX1_told_0 := by decide +kernel
theorem dksX1_told_1 : cX1_told.data.toList.drop 14 = dktX1_told_1 := dk_seg dksX1_told_0 14 rfl rfl
theorem dksX1_told_2 : cX1_told.data.toList.drop 68 = dktX1_told_2 := dk_seg dksX1_told_1 54 rfl rfl
theorem dksX1_told_3 : cX1_told.data.toList.drop 88 = dktX1_told_3 := dk_seg dksX1_told_2 20 rfl rfl
theorem dksX1_told_4 : cX1_told.data.toList.drop 111 = dktX1_told_4 := dk_seg dksX1_told_3 23 rfl rfl
theorem dksX1_told_5 : cX1_told.data.toList.drop 135 = dktX1_told_5 := dk_seg dksX1_told_4 24 rfl rfl
theorem dksX1_told_6 : cX1_told.data.toList.drop 159 = dktX1_told_6 := dk_seg dksX1_told_5 24 rfl rfl
theorem dX1_told_0 : decode cX1_told 0 = .ok (.aload_n 0, 1) := dk_42 (dk_at dksX1_told_0 0 rfl rfl)
theorem dX1_told_1 : decode cX1_told 1 = .ok (.iload_n 1, 1) := dk_27 (dk_at dksX1_told_0 1 rfl rfl)
theorem dX1_told_2 : decode cX1_told 2 = .ok (.i2l, 1) := dk_133 (dk_at dksX1_told_0 2 rfl rfl)
theorem dX1_told_3 : decode cX1_told 3 = .ok (.lconst 0, 1) := dk_9 (dk_at dksX1_told_0 3 rfl rfl)
theorem dX1_told_4 : decode cX1_told 4 = .ok (.ldc2_w 209, 3) := dk_20 0 209 (dk_at dksX1_told_0 4 rfl rfl)
theorem dX1_told_7 : decode cX1_told 7 = .ok (.invokestatic 95, 3) := dk_184 0 95 (dk_at dksX1_told_0 7 rfl rfl)
theorem dX1_told_10 : decode cX1_told 10 = .ok (.invokevirtual 99, 3) := dk_182 0 99 (dk_at dksX1_told_0 10 rfl rfl)
theorem dX1_told_13 : decode cX1_told 13 = .ok (.iload_n 1, 1) := dk_27 (dk_at dksX1_told_0 13 rfl rfl)
theorem dX1_told_14 : decode cX1_told 14 = .ok (.tableswitch 141 0 9 #[54, 67, 80, 88, 96, 104, 112, 120, 128, 136], 54) := by decide +kernel
theorem dX1_told_68 : decode cX1_told 68 = .ok (.aload_n 0, 1) := dk_42 (dk_at dksX1_told_2 0 rfl rfl)
theorem dX1_told_69 : decode cX1_told 69 = .ok (.getfield 54, 3) := dk_180 0 54 (dk_at dksX1_told_2 1 rfl rfl)
theorem dX1_told_72 : decode cX1_told 72 = .ok (.getfield 164, 3) := dk_180 0 164 (dk_at dksX1_told_2 4 rfl rfl)
theorem dX1_told_75 : decode cX1_told 75 = .ok (.invokeinterface 71 1, 5) := by decide +kernel
theorem dX1_told_80 : decode cX1_told 80 = .ok (.ireturn, 1) := dk_172 (dk_at dksX1_told_2 12 rfl rfl)
theorem dX1_told_81 : decode cX1_told 81 = .ok (.aload_n 0, 1) := dk_42 (dk_at dksX1_told_2 13 rfl rfl)
theorem dX1_told_82 : decode cX1_told 82 = .ok (.getfield 54, 3) := dk_180 0 54 (dk_at dksX1_told_2 14 rfl rfl)
theorem dX1_told_85 : decode cX1_told 85 = .ok (.getfield 145, 3) := dk_180 0 145 (dk_at dksX1_told_2 17 rfl rfl)
theorem dX1_told_88 : decode cX1_told 88 = .ok (.invokeinterface 71 1, 5) := by decide +kernel
theorem dX1_told_93 : decode cX1_told 93 = .ok (.ireturn, 1) := dk_172 (dk_at dksX1_told_3 5 rfl rfl)
theorem dX1_told_94 : decode cX1_told 94 = .ok (.aload_n 0, 1) := dk_42 (dk_at dksX1_told_3 6 rfl rfl)
theorem dX1_told_95 : decode cX1_told 95 = .ok (.getfield 54, 3) := dk_180 0 54 (dk_at dksX1_told_3 7 rfl rfl)
theorem dX1_told_98 : decode cX1_told 98 = .ok (.invokevirtual 122, 3) := dk_182 0 122 (dk_at dksX1_told_3 10 rfl rfl)
theorem dX1_told_101 : decode cX1_told 101 = .ok (.ireturn, 1) := dk_172 (dk_at dksX1_told_3 13 rfl rfl)
theorem dX1_told_102 : decode cX1_told 102 = .ok (.aload_n 0, 1) := dk_42 (dk_at dksX1_told_3 14 rfl rfl)
theorem dX1_told_103 : decode cX1_told 103 = .ok (.getfield 54, 3) := dk_180 0 54 (dk_at dksX1_told_3 15 rfl rfl)
theorem dX1_told_106 : decode cX1_told 106 = .ok (.getfield 211, 3) := dk_180 0 211 (dk_at dksX1_told_3 18 rfl rfl)
theorem dX1_told_109 : decode cX1_told 109 = .ok (.ireturn, 1) := dk_172 (dk_at dksX1_told_3 21 rfl rfl)
theorem dX1_told_110 : decode cX1_told 110 = .ok (.aload_n 0, 1) := dk_42 (dk_at dksX1_told_3 22 rfl rfl)
theorem dX1_told_111 : decode cX1_told 111 = .ok (.getfield 54, 3) := dk_180 0 54 (dk_at dksX1_told_4 0 rfl rfl)
theorem dX1_told_114 : decode cX1_told 114 = .ok (.getfield 213, 3) := dk_180 0 213 (dk_at dksX1_told_4 3 rfl rfl)
theorem dX1_told_117 : decode cX1_told 117 = .ok (.ireturn, 1) := dk_172 (dk_at dksX1_told_4 6 rfl rfl)
theorem dX1_told_118 : decode cX1_told 118 = .ok (.aload_n 0, 1) := dk_42 (dk_at dksX1_told_4 7 rfl rfl)
theorem dX1_told_119 : decode cX1_told 119 = .ok (.getfield 54, 3) := dk_180 0 54 (dk_at dksX1_told_4 8 rfl rfl)
theorem dX1_told_122 : decode cX1_told 122 = .ok (.getfield 216, 3) := dk_180 0 216 (dk_at dksX1_told_4 11 rfl rfl)
theorem dX1_told_125 : decode cX1_told 125 = .ok (.ireturn, 1) := dk_172 (dk_at dksX1_told_4 14 rfl rfl)
theorem dX1_told_126 : decode cX1_told 126 = .ok (.aload_n 0, 1) := dk_42 (dk_at dksX1_told_4 15 rfl rfl)
theorem dX1_told_127 : decode cX1_told 127 = .ok (.getfield 54, 3) := dk_180 0 54 (dk_at dksX1_told_4 16 rfl rfl)
theorem dX1_told_130 : decode cX1_told 130 = .ok (.getfield 219, 3) := dk_180 0 219 (dk_at dksX1_told_4 19 rfl rfl)
theorem dX1_told_133 : decode cX1_told 133 = .ok (.ireturn, 1) := dk_172 (dk_at dksX1_told_4 22 rfl rfl)
theorem dX1_told_134 : decode cX1_told 134 = .ok (.aload_n 0, 1) := dk_42 (dk_at dksX1_told_4 23 rfl rfl)
theorem dX1_told_135 : decode cX1_told 135 = .ok (.getfield 54, 3) := dk_180 0 54 (dk_at dksX1_told_5 0 rfl rfl)
theorem dX1_told_138 : decode cX1_told 138 = .ok (.getfield 222, 3) := dk_180 0 222 (dk_at dksX1_told_5 3 rfl rfl)
theorem dX1_told_141 : decode cX1_told 141 = .ok (.ireturn, 1) := dk_172 (dk_at dksX1_told_5 6 rfl rfl)
theorem dX1_told_142 : decode cX1_told 142 = .ok (.aload_n 0, 1) := dk_42 (dk_at dksX1_told_5 7 rfl rfl)
theorem dX1_told_143 : decode cX1_told 143 = .ok (.getfield 54, 3) := dk_180 0 54 (dk_at dksX1_told_5 8 rfl rfl)
theorem dX1_told_146 : decode cX1_told 146 = .ok (.invokevirtual 225, 3) := dk_182 0 225 (dk_at dksX1_told_5 11 rfl rfl)
theorem dX1_told_149 : decode cX1_told 149 = .ok (.ireturn, 1) := dk_172 (dk_at dksX1_told_5 14 rfl rfl)
theorem dX1_told_150 : decode cX1_told 150 = .ok (.aload_n 0, 1) := dk_42 (dk_at dksX1_told_5 15 rfl rfl)
theorem dX1_told_151 : decode cX1_told 151 = .ok (.getfield 88, 3) := dk_180 0 88 (dk_at dksX1_told_5 16 rfl rfl)
theorem dX1_told_154 : decode cX1_told 154 = .ok (.ireturn, 1) := dk_172 (dk_at dksX1_told_5 19 rfl rfl)
theorem dX1_told_155 : decode cX1_told 155 = .ok (.aload_n 0, 1) := dk_42 (dk_at dksX1_told_5 20 rfl rfl)
theorem dX1_told_156 : decode cX1_told 156 = .ok (.getfield 43, 3) := dk_180 0 43 (dk_at dksX1_told_5 21 rfl rfl)
theorem dX1_told_159 : decode cX1_told 159 = .ok (.invokeinterface 71 1, 5) := by decide +kernel
theorem dX1_told_164 : decode cX1_told 164 = .ok (.ireturn, 1) := dk_172 (dk_at dksX1_told_6 5 rfl rfl)
abbrev cX1_voter : ByteArray := prog_1_method_29_code
def yX1_voter : MethodName := ⟨RX1, "voter", "(II)I"⟩
def dkwX1_voter_4 : List UInt8 := [180, 0, 202, 154, 0, 7, 4, 167, 0, 4, 3, 96, 54, 4, 167, 255, 202, 21, 4, 172]
abbrev dktX1_voter_4 : List UInt8 := dkwX1_voter_4 ++ []
def dkwX1_voter_3 : List UInt8 := [192, 0, 162, 58, 6, 21, 4, 25, 6, 180, 0, 246, 45, 166, 0, 20, 28, 5, 159, 0, 11, 25, 6]
abbrev dktX1_voter_3 : List UInt8 := dkwX1_voter_3 ++ dktX1_voter_4
def dkwX1_voter_2 : List UInt8 := [182, 0, 233, 58, 5, 25, 5, 185, 0, 237, 1, 0, 153, 0, 50, 25, 5, 185, 0, 242, 1, 0]
abbrev dktX1_voter_2 : List UInt8 := dkwX1_voter_2 ++ dktX1_voter_3
def dkwX1_voter_1 : List UInt8 := [28, 154, 0, 10, 45, 180, 0, 189, 167, 0, 7, 45, 180, 0, 230, 172, 3, 54, 4, 42, 180, 0, 54]
abbrev dktX1_voter_1 : List UInt8 := dkwX1_voter_1 ++ dktX1_voter_2
def dkwX1_voter_0 : List UInt8 := [42, 27, 182, 0, 176, 78, 42, 28, 133, 9, 20, 0, 228, 184, 0, 95, 182, 0, 99, 28, 5, 162, 0, 19]
abbrev dktX1_voter_0 : List UInt8 := dkwX1_voter_0 ++ dktX1_voter_1
theorem dksX1_voter_0 : cX1_voter.data.toList.drop 0 = dktX1_voter_0 := by decide +kernel
theorem dksX1_voter_1 : cX1_voter.data.toList.drop 24 = dktX1_voter_1 := dk_seg dksX1_voter_0 24 rfl rfl
theorem dksX1_voter_2 : cX1_voter.data.toList.drop 47 = dktX1_voter_2 := dk_seg dksX1_voter_1 23 rfl rfl
theorem dksX1_voter_3 : cX1_voter.data.toList.drop 69 = dktX1_voter_3 := dk_seg dksX1_voter_2 22 rfl rfl
theorem dksX1_voter_4 : cX1_voter.data.toList.drop 92 = dktX1_voter_4 := dk_seg dksX1_voter_3 23 rfl rfl
theorem dX1_voter_0 : decode cX1_voter 0 = .ok (.aload_n 0, 1) := dk_42 (dk_at dksX1_voter_0 0 rfl rfl)
theorem dX1_voter_1 : decode cX1_voter 1 = .ok (.iload_n 1, 1) := dk_27 (dk_at dksX1_voter_0 1 rfl rfl)
theorem dX1_voter_2 : decode cX1_voter 2 = .ok (.invokevirtual 176, 3) := dk_182 0 176 (dk_at dksX1_voter_0 2 rfl rfl)
theorem dX1_voter_5 : decode cX1_voter 5 = .ok (.astore_n 3, 1) := dk_78 (dk_at dksX1_voter_0 5 rfl rfl)
theorem dX1_voter_6 : decode cX1_voter 6 = .ok (.aload_n 0, 1) := dk_42 (dk_at dksX1_voter_0 6 rfl rfl)
theorem dX1_voter_7 : decode cX1_voter 7 = .ok (.iload_n 2, 1) := dk_28 (dk_at dksX1_voter_0 7 rfl rfl)
theorem dX1_voter_8 : decode cX1_voter 8 = .ok (.i2l, 1) := dk_133 (dk_at dksX1_voter_0 8 rfl rfl)
theorem dX1_voter_9 : decode cX1_voter 9 = .ok (.lconst 0, 1) := dk_9 (dk_at dksX1_voter_0 9 rfl rfl)
theorem dX1_voter_10 : decode cX1_voter 10 = .ok (.ldc2_w 228, 3) := dk_20 0 228 (dk_at dksX1_voter_0 10 rfl rfl)
theorem dX1_voter_13 : decode cX1_voter 13 = .ok (.invokestatic 95, 3) := dk_184 0 95 (dk_at dksX1_voter_0 13 rfl rfl)
theorem dX1_voter_16 : decode cX1_voter 16 = .ok (.invokevirtual 99, 3) := dk_182 0 99 (dk_at dksX1_voter_0 16 rfl rfl)
theorem dX1_voter_19 : decode cX1_voter 19 = .ok (.iload_n 2, 1) := dk_28 (dk_at dksX1_voter_0 19 rfl rfl)
theorem dX1_voter_20 : decode cX1_voter 20 = .ok (.iconst 2, 1) := dk_5 (dk_at dksX1_voter_0 20 rfl rfl)
theorem dX1_voter_21 : decode cX1_voter 21 = .ok (.if_icmp .ge 19, 3) := dk_162 0 19 (dk_at dksX1_voter_0 21 rfl rfl)
theorem dX1_voter_24 : decode cX1_voter 24 = .ok (.iload_n 2, 1) := dk_28 (dk_at dksX1_voter_1 0 rfl rfl)
theorem dX1_voter_25 : decode cX1_voter 25 = .ok (.ifCond .ne 10, 3) := dk_154 0 10 (dk_at dksX1_voter_1 1 rfl rfl)
theorem dX1_voter_28 : decode cX1_voter 28 = .ok (.aload_n 3, 1) := dk_45 (dk_at dksX1_voter_1 4 rfl rfl)
theorem dX1_voter_29 : decode cX1_voter 29 = .ok (.getfield 189, 3) := dk_180 0 189 (dk_at dksX1_voter_1 5 rfl rfl)
theorem dX1_voter_32 : decode cX1_voter 32 = .ok (.goto 7, 3) := dk_167 0 7 (dk_at dksX1_voter_1 8 rfl rfl)
theorem dX1_voter_35 : decode cX1_voter 35 = .ok (.aload_n 3, 1) := dk_45 (dk_at dksX1_voter_1 11 rfl rfl)
theorem dX1_voter_36 : decode cX1_voter 36 = .ok (.getfield 230, 3) := dk_180 0 230 (dk_at dksX1_voter_1 12 rfl rfl)
theorem dX1_voter_39 : decode cX1_voter 39 = .ok (.ireturn, 1) := dk_172 (dk_at dksX1_voter_1 15 rfl rfl)
theorem dX1_voter_40 : decode cX1_voter 40 = .ok (.iconst 0, 1) := dk_3 (dk_at dksX1_voter_1 16 rfl rfl)
theorem dX1_voter_41 : decode cX1_voter 41 = .ok (.istore 4, 2) := dk_54 4 (dk_at dksX1_voter_1 17 rfl rfl)
theorem dX1_voter_43 : decode cX1_voter 43 = .ok (.aload_n 0, 1) := dk_42 (dk_at dksX1_voter_1 19 rfl rfl)
theorem dX1_voter_44 : decode cX1_voter 44 = .ok (.getfield 54, 3) := dk_180 0 54 (dk_at dksX1_voter_1 20 rfl rfl)
theorem dX1_voter_47 : decode cX1_voter 47 = .ok (.invokevirtual 233, 3) := dk_182 0 233 (dk_at dksX1_voter_2 0 rfl rfl)
theorem dX1_voter_50 : decode cX1_voter 50 = .ok (.astore 5, 2) := dk_58 5 (dk_at dksX1_voter_2 3 rfl rfl)
theorem dX1_voter_52 : decode cX1_voter 52 = .ok (.aload 5, 2) := dk_25 5 (dk_at dksX1_voter_2 5 rfl rfl)
theorem dX1_voter_54 : decode cX1_voter 54 = .ok (.invokeinterface 237 1, 5) := by decide +kernel
theorem dX1_voter_59 : decode cX1_voter 59 = .ok (.ifCond .eq 50, 3) := dk_153 0 50 (dk_at dksX1_voter_2 12 rfl rfl)
theorem dX1_voter_62 : decode cX1_voter 62 = .ok (.aload 5, 2) := dk_25 5 (dk_at dksX1_voter_2 15 rfl rfl)
theorem dX1_voter_64 : decode cX1_voter 64 = .ok (.invokeinterface 242 1, 5) := by decide +kernel
theorem dX1_voter_69 : decode cX1_voter 69 = .ok (.checkcast 162, 3) := dk_192 0 162 (dk_at dksX1_voter_3 0 rfl rfl)
theorem dX1_voter_72 : decode cX1_voter 72 = .ok (.astore 6, 2) := dk_58 6 (dk_at dksX1_voter_3 3 rfl rfl)
theorem dX1_voter_74 : decode cX1_voter 74 = .ok (.iload 4, 2) := dk_21 4 (dk_at dksX1_voter_3 5 rfl rfl)
theorem dX1_voter_76 : decode cX1_voter 76 = .ok (.aload 6, 2) := dk_25 6 (dk_at dksX1_voter_3 7 rfl rfl)
theorem dX1_voter_78 : decode cX1_voter 78 = .ok (.getfield 246, 3) := dk_180 0 246 (dk_at dksX1_voter_3 9 rfl rfl)
theorem dX1_voter_81 : decode cX1_voter 81 = .ok (.aload_n 3, 1) := dk_45 (dk_at dksX1_voter_3 12 rfl rfl)
theorem dX1_voter_82 : decode cX1_voter 82 = .ok (.if_acmp .ne 20, 3) := dk_166 0 20 (dk_at dksX1_voter_3 13 rfl rfl)
theorem dX1_voter_85 : decode cX1_voter 85 = .ok (.iload_n 2, 1) := dk_28 (dk_at dksX1_voter_3 16 rfl rfl)
theorem dX1_voter_86 : decode cX1_voter 86 = .ok (.iconst 2, 1) := dk_5 (dk_at dksX1_voter_3 17 rfl rfl)
theorem dX1_voter_87 : decode cX1_voter 87 = .ok (.if_icmp .eq 11, 3) := dk_159 0 11 (dk_at dksX1_voter_3 18 rfl rfl)
theorem dX1_voter_90 : decode cX1_voter 90 = .ok (.aload 6, 2) := dk_25 6 (dk_at dksX1_voter_3 21 rfl rfl)
theorem dX1_voter_92 : decode cX1_voter 92 = .ok (.getfield 202, 3) := dk_180 0 202 (dk_at dksX1_voter_4 0 rfl rfl)
theorem dX1_voter_95 : decode cX1_voter 95 = .ok (.ifCond .ne 7, 3) := dk_154 0 7 (dk_at dksX1_voter_4 3 rfl rfl)
theorem dX1_voter_98 : decode cX1_voter 98 = .ok (.iconst 1, 1) := dk_4 (dk_at dksX1_voter_4 6 rfl rfl)
theorem dX1_voter_99 : decode cX1_voter 99 = .ok (.goto 4, 3) := dk_167 0 4 (dk_at dksX1_voter_4 7 rfl rfl)
theorem dX1_voter_102 : decode cX1_voter 102 = .ok (.iconst 0, 1) := dk_3 (dk_at dksX1_voter_4 10 rfl rfl)
theorem dX1_voter_103 : decode cX1_voter 103 = .ok (.iadd, 1) := dk_96 (dk_at dksX1_voter_4 11 rfl rfl)
theorem dX1_voter_104 : decode cX1_voter 104 = .ok (.istore 4, 2) := dk_54 4 (dk_at dksX1_voter_4 12 rfl rfl)
theorem dX1_voter_106 : decode cX1_voter 106 = .ok (.goto (-54), 3) := dk_167 255 202 (dk_at dksX1_voter_4 14 rfl rfl)
theorem dX1_voter_109 : decode cX1_voter 109 = .ok (.iload 4, 2) := dk_21 4 (dk_at dksX1_voter_4 17 rfl rfl)
theorem dX1_voter_111 : decode cX1_voter 111 = .ok (.ireturn, 1) := dk_172 (dk_at dksX1_voter_4 19 rfl rfl)
abbrev cX1_letter : ByteArray := prog_1_method_30_code
def yX1_letter : MethodName := ⟨RX1, "letter", "(II)I"⟩
def dkwX1_letter_1 : List UInt8 := [182, 0, 148, 45, 28, 182, 0, 255, 172]
abbrev dktX1_letter_1 : List UInt8 := dkwX1_letter_1 ++ []
def dkwX1_letter_0 : List UInt8 := [42, 27, 182, 0, 176, 180, 0, 185, 78, 42, 28, 133, 9, 45, 182, 0, 250, 4, 100, 133, 184, 0, 95]
abbrev dktX1_letter_0 : List UInt8 := dkwX1_letter_0 ++ dktX1_letter_1
theorem dksX1_letter_0 : cX1_letter.data.toList.drop 0 = dktX1_letter_0 := by decide +kernel
theorem dksX1_letter_1 : cX1_letter.data.toList.drop 23 = dktX1_letter_1 := dk_seg dksX1_letter_0 23 rfl rfl
theorem dX1_letter_0 : decode cX1_letter 0 = .ok (.aload_n 0, 1) := dk_42 (dk_at dksX1_letter_0 0 rfl rfl)
theorem dX1_letter_1 : decode cX1_letter 1 = .ok (.iload_n 1, 1) := dk_27 (dk_at dksX1_letter_0 1 rfl rfl)
theorem dX1_letter_2 : decode cX1_letter 2 = .ok (.invokevirtual 176, 3) := dk_182 0 176 (dk_at dksX1_letter_0 2 rfl rfl)
theorem dX1_letter_5 : decode cX1_letter 5 = .ok (.getfield 185, 3) := dk_180 0 185 (dk_at dksX1_letter_0 5 rfl rfl)
theorem dX1_letter_8 : decode cX1_letter 8 = .ok (.astore_n 3, 1) := dk_78 (dk_at dksX1_letter_0 8 rfl rfl)
theorem dX1_letter_9 : decode cX1_letter 9 = .ok (.aload_n 0, 1) := dk_42 (dk_at dksX1_letter_0 9 rfl rfl)
theorem dX1_letter_10 : decode cX1_letter 10 = .ok (.iload_n 2, 1) := dk_28 (dk_at dksX1_letter_0 10 rfl rfl)
theorem dX1_letter_11 : decode cX1_letter 11 = .ok (.i2l, 1) := dk_133 (dk_at dksX1_letter_0 11 rfl rfl)
theorem dX1_letter_12 : decode cX1_letter 12 = .ok (.lconst 0, 1) := dk_9 (dk_at dksX1_letter_0 12 rfl rfl)
theorem dX1_letter_13 : decode cX1_letter 13 = .ok (.aload_n 3, 1) := dk_45 (dk_at dksX1_letter_0 13 rfl rfl)
theorem dX1_letter_14 : decode cX1_letter 14 = .ok (.invokevirtual 250, 3) := dk_182 0 250 (dk_at dksX1_letter_0 14 rfl rfl)
theorem dX1_letter_17 : decode cX1_letter 17 = .ok (.iconst 1, 1) := dk_4 (dk_at dksX1_letter_0 17 rfl rfl)
theorem dX1_letter_18 : decode cX1_letter 18 = .ok (.isub, 1) := dk_100 (dk_at dksX1_letter_0 18 rfl rfl)
theorem dX1_letter_19 : decode cX1_letter 19 = .ok (.i2l, 1) := dk_133 (dk_at dksX1_letter_0 19 rfl rfl)
theorem dX1_letter_20 : decode cX1_letter 20 = .ok (.invokestatic 95, 3) := dk_184 0 95 (dk_at dksX1_letter_0 20 rfl rfl)
theorem dX1_letter_23 : decode cX1_letter 23 = .ok (.invokevirtual 148, 3) := dk_182 0 148 (dk_at dksX1_letter_1 0 rfl rfl)
theorem dX1_letter_26 : decode cX1_letter 26 = .ok (.aload_n 3, 1) := dk_45 (dk_at dksX1_letter_1 3 rfl rfl)
theorem dX1_letter_27 : decode cX1_letter 27 = .ok (.iload_n 2, 1) := dk_28 (dk_at dksX1_letter_1 4 rfl rfl)
theorem dX1_letter_28 : decode cX1_letter 28 = .ok (.invokevirtual 255, 3) := dk_182 0 255 (dk_at dksX1_letter_1 5 rfl rfl)
theorem dX1_letter_31 : decode cX1_letter 31 = .ok (.ireturn, 1) := dk_172 (dk_at dksX1_letter_1 8 rfl rfl)
abbrev cX1_sheet : ByteArray := prog_1_method_31_code
def yX1_sheet : MethodName := ⟨RX1, "sheet", "(II)I"⟩
def dkwX1_sheet_5 : List UInt8 := [167, 0, 4, 3, 96, 54, 4, 167, 255, 213, 21, 4, 172]
abbrev dktX1_sheet_5 : List UInt8 := dkwX1_sheet_5 ++ []
def dkwX1_sheet_4 : List UInt8 := [185, 0, 242, 1, 0, 192, 0, 162, 58, 6, 21, 4, 25, 6, 180, 0, 202, 28, 6, 100, 160, 0, 7, 4]
abbrev dktX1_sheet_4 : List UInt8 := dkwX1_sheet_4 ++ dktX1_sheet_5
def dkwX1_sheet_3 : List UInt8 := [180, 0, 160, 185, 1, 8, 1, 0, 58, 5, 25, 5, 185, 0, 237, 1, 0, 153, 0, 39, 25, 5]
abbrev dktX1_sheet_3 : List UInt8 := dkwX1_sheet_3 ++ dktX1_sheet_4
def dkwX1_sheet_2 : List UInt8 := [153, 0, 17, 167, 0, 10, 45, 180, 0, 169, 153, 0, 7, 4, 167, 0, 4, 3, 172, 3, 54, 4, 45]
abbrev dktX1_sheet_2 : List UInt8 := dkwX1_sheet_2 ++ dktX1_sheet_3
def dkwX1_sheet_1 : List UInt8 := [180, 0, 160, 185, 0, 71, 1, 0, 172, 28, 6, 162, 0, 31, 28, 4, 160, 0, 13, 45, 180, 1, 5]
abbrev dktX1_sheet_1 : List UInt8 := dkwX1_sheet_1 ++ dktX1_sheet_2
def dkwX1_sheet_0 : List UInt8 := [42, 27, 182, 0, 156, 78, 42, 28, 133, 9, 20, 1, 3, 184, 0, 95, 182, 0, 99, 28, 154, 0, 13, 45]
abbrev dktX1_sheet_0 : List UInt8 := dkwX1_sheet_0 ++ dktX1_sheet_1
theorem dksX1_sheet_0 : cX1_sheet.data.toList.drop 0 = dktX1_sheet_0 := by decide +kernel
theorem dksX1_sheet_1 : cX1_sheet.data.toList.drop 24 = dktX1_sheet_1 := dk_seg dksX1_sheet_0 24 rfl rfl
theorem dksX1_sheet_2 : cX1_sheet.data.toList.drop 47 = dktX1_sheet_2 := dk_seg dksX1_sheet_1 23 rfl rfl
theorem dksX1_sheet_3 : cX1_sheet.data.toList.drop 70 = dktX1_sheet_3 := dk_seg dksX1_sheet_2 23 rfl rfl
theorem dksX1_sheet_4 : cX1_sheet.data.toList.drop 92 = dktX1_sheet_4 := dk_seg dksX1_sheet_3 22 rfl rfl
theorem dksX1_sheet_5 : cX1_sheet.data.toList.drop 116 = dktX1_sheet_5 := dk_seg dksX1_sheet_4 24 rfl rfl
theorem dX1_sheet_0 : decode cX1_sheet 0 = .ok (.aload_n 0, 1) := dk_42 (dk_at dksX1_sheet_0 0 rfl rfl)
theorem dX1_sheet_1 : decode cX1_sheet 1 = .ok (.iload_n 1, 1) := dk_27 (dk_at dksX1_sheet_0 1 rfl rfl)
theorem dX1_sheet_2 : decode cX1_sheet 2 = .ok (.invokevirtual 156, 3) := dk_182 0 156 (dk_at dksX1_sheet_0 2 rfl rfl)
theorem dX1_sheet_5 : decode cX1_sheet 5 = .ok (.astore_n 3, 1) := dk_78 (dk_at dksX1_sheet_0 5 rfl rfl)
theorem dX1_sheet_6 : decode cX1_sheet 6 = .ok (.aload_n 0, 1) := dk_42 (dk_at dksX1_sheet_0 6 rfl rfl)
theorem dX1_sheet_7 : decode cX1_sheet 7 = .ok (.iload_n 2, 1) := dk_28 (dk_at dksX1_sheet_0 7 rfl rfl)
theorem dX1_sheet_8 : decode cX1_sheet 8 = .ok (.i2l, 1) := dk_133 (dk_at dksX1_sheet_0 8 rfl rfl)
theorem dX1_sheet_9 : decode cX1_sheet 9 = .ok (.lconst 0, 1) := dk_9 (dk_at dksX1_sheet_0 9 rfl rfl)
theorem dX1_sheet_10 : decode cX1_sheet 10 = .ok (.ldc2_w 259, 3) := dk_20 1 3 (dk_at dksX1_sheet_0 10 rfl rfl)
theorem dX1_sheet_13 : decode cX1_sheet 13 = .ok (.invokestatic 95, 3) := dk_184 0 95 (dk_at dksX1_sheet_0 13 rfl rfl)
theorem dX1_sheet_16 : decode cX1_sheet 16 = .ok (.invokevirtual 99, 3) := dk_182 0 99 (dk_at dksX1_sheet_0 16 rfl rfl)
theorem dX1_sheet_19 : decode cX1_sheet 19 = .ok (.iload_n 2, 1) := dk_28 (dk_at dksX1_sheet_0 19 rfl rfl)
theorem dX1_sheet_20 : decode cX1_sheet 20 = .ok (.ifCond .ne 13, 3) := dk_154 0 13 (dk_at dksX1_sheet_0 20 rfl rfl)
theorem dX1_sheet_23 : decode cX1_sheet 23 = .ok (.aload_n 3, 1) := dk_45 (dk_at dksX1_sheet_0 23 rfl rfl)
theorem dX1_sheet_24 : decode cX1_sheet 24 = .ok (.getfield 160, 3) := dk_180 0 160 (dk_at dksX1_sheet_1 0 rfl rfl)
theorem dX1_sheet_27 : decode cX1_sheet 27 = .ok (.invokeinterface 71 1, 5) := by decide +kernel
theorem dX1_sheet_32 : decode cX1_sheet 32 = .ok (.ireturn, 1) := dk_172 (dk_at dksX1_sheet_1 8 rfl rfl)
theorem dX1_sheet_33 : decode cX1_sheet 33 = .ok (.iload_n 2, 1) := dk_28 (dk_at dksX1_sheet_1 9 rfl rfl)
theorem dX1_sheet_34 : decode cX1_sheet 34 = .ok (.iconst 3, 1) := dk_6 (dk_at dksX1_sheet_1 10 rfl rfl)
theorem dX1_sheet_35 : decode cX1_sheet 35 = .ok (.if_icmp .ge 31, 3) := dk_162 0 31 (dk_at dksX1_sheet_1 11 rfl rfl)
theorem dX1_sheet_38 : decode cX1_sheet 38 = .ok (.iload_n 2, 1) := dk_28 (dk_at dksX1_sheet_1 14 rfl rfl)
theorem dX1_sheet_39 : decode cX1_sheet 39 = .ok (.iconst 1, 1) := dk_4 (dk_at dksX1_sheet_1 15 rfl rfl)
theorem dX1_sheet_40 : decode cX1_sheet 40 = .ok (.if_icmp .ne 13, 3) := dk_160 0 13 (dk_at dksX1_sheet_1 16 rfl rfl)
theorem dX1_sheet_43 : decode cX1_sheet 43 = .ok (.aload_n 3, 1) := dk_45 (dk_at dksX1_sheet_1 19 rfl rfl)
theorem dX1_sheet_44 : decode cX1_sheet 44 = .ok (.getfield 261, 3) := dk_180 1 5 (dk_at dksX1_sheet_1 20 rfl rfl)
theorem dX1_sheet_47 : decode cX1_sheet 47 = .ok (.ifCond .eq 17, 3) := dk_153 0 17 (dk_at dksX1_sheet_2 0 rfl rfl)
theorem dX1_sheet_50 : decode cX1_sheet 50 = .ok (.goto 10, 3) := dk_167 0 10 (dk_at dksX1_sheet_2 3 rfl rfl)
theorem dX1_sheet_53 : decode cX1_sheet 53 = .ok (.aload_n 3, 1) := dk_45 (dk_at dksX1_sheet_2 6 rfl rfl)
theorem dX1_sheet_54 : decode cX1_sheet 54 = .ok (.getfield 169, 3) := dk_180 0 169 (dk_at dksX1_sheet_2 7 rfl rfl)
theorem dX1_sheet_57 : decode cX1_sheet 57 = .ok (.ifCond .eq 7, 3) := dk_153 0 7 (dk_at dksX1_sheet_2 10 rfl rfl)
theorem dX1_sheet_60 : decode cX1_sheet 60 = .ok (.iconst 1, 1) := dk_4 (dk_at dksX1_sheet_2 13 rfl rfl)
theorem dX1_sheet_61 : decode cX1_sheet 61 = .ok (.goto 4, 3) := dk_167 0 4 (dk_at dksX1_sheet_2 14 rfl rfl)
theorem dX1_sheet_64 : decode cX1_sheet 64 = .ok (.iconst 0, 1) := dk_3 (dk_at dksX1_sheet_2 17 rfl rfl)
theorem dX1_sheet_65 : decode cX1_sheet 65 = .ok (.ireturn, 1) := dk_172 (dk_at dksX1_sheet_2 18 rfl rfl)
theorem dX1_sheet_66 : decode cX1_sheet 66 = .ok (.iconst 0, 1) := dk_3 (dk_at dksX1_sheet_2 19 rfl rfl)
theorem dX1_sheet_67 : decode cX1_sheet 67 = .ok (.istore 4, 2) := dk_54 4 (dk_at dksX1_sheet_2 20 rfl rfl)
theorem dX1_sheet_69 : decode cX1_sheet 69 = .ok (.aload_n 3, 1) := dk_45 (dk_at dksX1_sheet_2 22 rfl rfl)
theorem dX1_sheet_70 : decode cX1_sheet 70 = .ok (.getfield 160, 3) := dk_180 0 160 (dk_at dksX1_sheet_3 0 rfl rfl)
theorem dX1_sheet_73 : decode cX1_sheet 73 = .ok (.invokeinterface 264 1, 5) := by decide +kernel
theorem dX1_sheet_78 : decode cX1_sheet 78 = .ok (.astore 5, 2) := dk_58 5 (dk_at dksX1_sheet_3 8 rfl rfl)
theorem dX1_sheet_80 : decode cX1_sheet 80 = .ok (.aload 5, 2) := dk_25 5 (dk_at dksX1_sheet_3 10 rfl rfl)
theorem dX1_sheet_82 : decode cX1_sheet 82 = .ok (.invokeinterface 237 1, 5) := by decide +kernel
theorem dX1_sheet_87 : decode cX1_sheet 87 = .ok (.ifCond .eq 39, 3) := dk_153 0 39 (dk_at dksX1_sheet_3 17 rfl rfl)
theorem dX1_sheet_90 : decode cX1_sheet 90 = .ok (.aload 5, 2) := dk_25 5 (dk_at dksX1_sheet_3 20 rfl rfl)
theorem dX1_sheet_92 : decode cX1_sheet 92 = .ok (.invokeinterface 242 1, 5) := by decide +kernel
theorem dX1_sheet_97 : decode cX1_sheet 97 = .ok (.checkcast 162, 3) := dk_192 0 162 (dk_at dksX1_sheet_4 5 rfl rfl)
theorem dX1_sheet_100 : decode cX1_sheet 100 = .ok (.astore 6, 2) := dk_58 6 (dk_at dksX1_sheet_4 8 rfl rfl)
theorem dX1_sheet_102 : decode cX1_sheet 102 = .ok (.iload 4, 2) := dk_21 4 (dk_at dksX1_sheet_4 10 rfl rfl)
theorem dX1_sheet_104 : decode cX1_sheet 104 = .ok (.aload 6, 2) := dk_25 6 (dk_at dksX1_sheet_4 12 rfl rfl)
theorem dX1_sheet_106 : decode cX1_sheet 106 = .ok (.getfield 202, 3) := dk_180 0 202 (dk_at dksX1_sheet_4 14 rfl rfl)
theorem dX1_sheet_109 : decode cX1_sheet 109 = .ok (.iload_n 2, 1) := dk_28 (dk_at dksX1_sheet_4 17 rfl rfl)
theorem dX1_sheet_110 : decode cX1_sheet 110 = .ok (.iconst 3, 1) := dk_6 (dk_at dksX1_sheet_4 18 rfl rfl)
theorem dX1_sheet_111 : decode cX1_sheet 111 = .ok (.isub, 1) := dk_100 (dk_at dksX1_sheet_4 19 rfl rfl)
theorem dX1_sheet_112 : decode cX1_sheet 112 = .ok (.if_icmp .ne 7, 3) := dk_160 0 7 (dk_at dksX1_sheet_4 20 rfl rfl)
theorem dX1_sheet_115 : decode cX1_sheet 115 = .ok (.iconst 1, 1) := dk_4 (dk_at dksX1_sheet_4 23 rfl rfl)
theorem dX1_sheet_116 : decode cX1_sheet 116 = .ok (.goto 4, 3) := dk_167 0 4 (dk_at dksX1_sheet_5 0 rfl rfl)
theorem dX1_sheet_119 : decode cX1_sheet 119 = .ok (.iconst 0, 1) := dk_3 (dk_at dksX1_sheet_5 3 rfl rfl)
theorem dX1_sheet_120 : decode cX1_sheet 120 = .ok (.iadd, 1) := dk_96 (dk_at dksX1_sheet_5 4 rfl rfl)
theorem dX1_sheet_121 : decode cX1_sheet 121 = .ok (.istore 4, 2) := dk_54 4 (dk_at dksX1_sheet_5 5 rfl rfl)
theorem dX1_sheet_123 : decode cX1_sheet 123 = .ok (.goto (-43), 3) := dk_167 255 213 (dk_at dksX1_sheet_5 7 rfl rfl)
theorem dX1_sheet_126 : decode cX1_sheet 126 = .ok (.iload 4, 2) := dk_21 4 (dk_at dksX1_sheet_5 10 rfl rfl)
theorem dX1_sheet_128 : decode cX1_sheet 128 = .ok (.ireturn, 1) := dk_172 (dk_at dksX1_sheet_5 12 rfl rfl)
abbrev cX1_line : ByteArray := prog_1_method_33_code
def yX1_line : MethodName := ⟨RX1, "line", "(III)I"⟩
def dkwX1_line_5 : List UInt8 := [167, 0, 4, 3, 172]
abbrev dktX1_line_5 : List UInt8 := dkwX1_line_5 ++ []
def dkwX1_line_4 : List UInt8 := [42, 180, 0, 54, 180, 0, 133, 29, 7, 100, 47, 42, 25, 4, 182, 1, 19, 184, 0, 141, 153, 0, 7, 4]
abbrev dktX1_line_4 : List UInt8 := dkwX1_line_4 ++ dktX1_line_5
def dkwX1_line_3 : List UInt8 := [42, 180, 0, 54, 180, 0, 164, 25, 4, 180, 0, 246, 185, 1, 15, 2, 0, 172, 25, 4, 180, 0, 202, 172]
abbrev dktX1_line_3 : List UInt8 := dkwX1_line_3 ++ dktX1_line_4
def dkwX1_line_2 : List UInt8 := [25, 4, 180, 1, 11, 172, 25, 4, 180, 1, 12, 172, 25, 4, 180, 0, 246, 199, 0, 7, 2, 167, 0, 20]
abbrev dktX1_line_2 : List UInt8 := dkwX1_line_2 ++ dktX1_line_3
def dkwX1_line_1 : List UInt8 := [170, 0, 0, 0, 0, 78, 0, 0, 0, 0, 0, 0, 0, 3, 0, 0, 0, 30, 0, 0, 0, 36, 0, 0, 0, 42, 0, 0, 0, 72]
abbrev dktX1_line_1 : List UInt8 := dkwX1_line_1 ++ dktX1_line_2
def dkwX1_line_0 : List UInt8 := [42, 27, 28, 182, 0, 198, 58, 4, 42, 29, 133, 9, 20, 1, 9, 184, 0, 95, 182, 0, 99, 29]
abbrev dktX1_line_0 : List UInt8 := dkwX1_line_0 ++ dktX1_line_1
theorem dksX1_line_0 : cX1_line.data.toList.drop 0 = dktX1_line_0 := by decide +kernel
theorem dksX1_line_1 : cX1_line.data.toList.drop 22 = dktX1_line_1 := dk_seg dksX1_line_0 22 rfl rfl
theorem dksX1_line_2 : cX1_line.data.toList.drop 52 = dktX1_line_2 := dk_seg dksX1_line_1 30 rfl rfl
theorem dksX1_line_3 : cX1_line.data.toList.drop 76 = dktX1_line_3 := dk_seg dksX1_line_2 24 rfl rfl
theorem dksX1_line_4 : cX1_line.data.toList.drop 100 = dktX1_line_4 := dk_seg dksX1_line_3 24 rfl rfl
theorem dksX1_line_5 : cX1_line.data.toList.drop 124 = dktX1_line_5 := dk_seg dksX1_line_4 24 rfl rfl
theorem dX1_line_0 : decode cX1_line 0 = .ok (.aload_n 0, 1) := dk_42 (dk_at dksX1_line_0 0 rfl rfl)
theorem dX1_line_1 : decode cX1_line 1 = .ok (.iload_n 1, 1) := dk_27 (dk_at dksX1_line_0 1 rfl rfl)
theorem dX1_line_2 : decode cX1_line 2 = .ok (.iload_n 2, 1) := dk_28 (dk_at dksX1_line_0 2 rfl rfl)
theorem dX1_line_3 : decode cX1_line 3 = .ok (.invokevirtual 198, 3) := dk_182 0 198 (dk_at dksX1_line_0 3 rfl rfl)
theorem dX1_line_6 : decode cX1_line 6 = .ok (.astore 4, 2) := dk_58 4 (dk_at dksX1_line_0 6 rfl rfl)
theorem dX1_line_8 : decode cX1_line 8 = .ok (.aload_n 0, 1) := dk_42 (dk_at dksX1_line_0 8 rfl rfl)
theorem dX1_line_9 : decode cX1_line 9 = .ok (.iload_n 3, 1) := dk_29 (dk_at dksX1_line_0 9 rfl rfl)
theorem dX1_line_10 : decode cX1_line 10 = .ok (.i2l, 1) := dk_133 (dk_at dksX1_line_0 10 rfl rfl)
theorem dX1_line_11 : decode cX1_line 11 = .ok (.lconst 0, 1) := dk_9 (dk_at dksX1_line_0 11 rfl rfl)
theorem dX1_line_12 : decode cX1_line 12 = .ok (.ldc2_w 265, 3) := dk_20 1 9 (dk_at dksX1_line_0 12 rfl rfl)
theorem dX1_line_15 : decode cX1_line 15 = .ok (.invokestatic 95, 3) := dk_184 0 95 (dk_at dksX1_line_0 15 rfl rfl)
theorem dX1_line_18 : decode cX1_line 18 = .ok (.invokevirtual 99, 3) := dk_182 0 99 (dk_at dksX1_line_0 18 rfl rfl)
theorem dX1_line_21 : decode cX1_line 21 = .ok (.iload_n 3, 1) := dk_29 (dk_at dksX1_line_0 21 rfl rfl)
theorem dX1_line_22 : decode cX1_line 22 = .ok (.tableswitch 78 0 3 #[30, 36, 42, 72], 30) := by decide +kernel
theorem dX1_line_52 : decode cX1_line 52 = .ok (.aload 4, 2) := dk_25 4 (dk_at dksX1_line_2 0 rfl rfl)
theorem dX1_line_54 : decode cX1_line 54 = .ok (.getfield 267, 3) := dk_180 1 11 (dk_at dksX1_line_2 2 rfl rfl)
theorem dX1_line_57 : decode cX1_line 57 = .ok (.ireturn, 1) := dk_172 (dk_at dksX1_line_2 5 rfl rfl)
theorem dX1_line_58 : decode cX1_line 58 = .ok (.aload 4, 2) := dk_25 4 (dk_at dksX1_line_2 6 rfl rfl)
theorem dX1_line_60 : decode cX1_line 60 = .ok (.getfield 268, 3) := dk_180 1 12 (dk_at dksX1_line_2 8 rfl rfl)
theorem dX1_line_63 : decode cX1_line 63 = .ok (.ireturn, 1) := dk_172 (dk_at dksX1_line_2 11 rfl rfl)
theorem dX1_line_64 : decode cX1_line 64 = .ok (.aload 4, 2) := dk_25 4 (dk_at dksX1_line_2 12 rfl rfl)
theorem dX1_line_66 : decode cX1_line 66 = .ok (.getfield 246, 3) := dk_180 0 246 (dk_at dksX1_line_2 14 rfl rfl)
theorem dX1_line_69 : decode cX1_line 69 = .ok (.ifnonnull 7, 3) := dk_199 0 7 (dk_at dksX1_line_2 17 rfl rfl)
theorem dX1_line_72 : decode cX1_line 72 = .ok (.iconst (-1), 1) := dk_2 (dk_at dksX1_line_2 20 rfl rfl)
theorem dX1_line_73 : decode cX1_line 73 = .ok (.goto 20, 3) := dk_167 0 20 (dk_at dksX1_line_2 21 rfl rfl)
theorem dX1_line_76 : decode cX1_line 76 = .ok (.aload_n 0, 1) := dk_42 (dk_at dksX1_line_3 0 rfl rfl)
theorem dX1_line_77 : decode cX1_line 77 = .ok (.getfield 54, 3) := dk_180 0 54 (dk_at dksX1_line_3 1 rfl rfl)
theorem dX1_line_80 : decode cX1_line 80 = .ok (.getfield 164, 3) := dk_180 0 164 (dk_at dksX1_line_3 4 rfl rfl)
theorem dX1_line_83 : decode cX1_line 83 = .ok (.aload 4, 2) := dk_25 4 (dk_at dksX1_line_3 7 rfl rfl)
theorem dX1_line_85 : decode cX1_line 85 = .ok (.getfield 246, 3) := dk_180 0 246 (dk_at dksX1_line_3 9 rfl rfl)
theorem dX1_line_88 : decode cX1_line 88 = .ok (.invokeinterface 271 2, 5) := by decide +kernel
theorem dX1_line_93 : decode cX1_line 93 = .ok (.ireturn, 1) := dk_172 (dk_at dksX1_line_3 17 rfl rfl)
theorem dX1_line_94 : decode cX1_line 94 = .ok (.aload 4, 2) := dk_25 4 (dk_at dksX1_line_3 18 rfl rfl)
theorem dX1_line_96 : decode cX1_line 96 = .ok (.getfield 202, 3) := dk_180 0 202 (dk_at dksX1_line_3 20 rfl rfl)
theorem dX1_line_99 : decode cX1_line 99 = .ok (.ireturn, 1) := dk_172 (dk_at dksX1_line_3 23 rfl rfl)
theorem dX1_line_100 : decode cX1_line 100 = .ok (.aload_n 0, 1) := dk_42 (dk_at dksX1_line_4 0 rfl rfl)
theorem dX1_line_101 : decode cX1_line 101 = .ok (.getfield 54, 3) := dk_180 0 54 (dk_at dksX1_line_4 1 rfl rfl)
theorem dX1_line_104 : decode cX1_line 104 = .ok (.getfield 133, 3) := dk_180 0 133 (dk_at dksX1_line_4 4 rfl rfl)
theorem dX1_line_107 : decode cX1_line 107 = .ok (.iload_n 3, 1) := dk_29 (dk_at dksX1_line_4 7 rfl rfl)
theorem dX1_line_108 : decode cX1_line 108 = .ok (.iconst 4, 1) := dk_7 (dk_at dksX1_line_4 8 rfl rfl)
theorem dX1_line_109 : decode cX1_line 109 = .ok (.isub, 1) := dk_100 (dk_at dksX1_line_4 9 rfl rfl)
theorem dX1_line_110 : decode cX1_line 110 = .ok (.laload, 1) := dk_47 (dk_at dksX1_line_4 10 rfl rfl)
theorem dX1_line_111 : decode cX1_line 111 = .ok (.aload_n 0, 1) := dk_42 (dk_at dksX1_line_4 11 rfl rfl)
theorem dX1_line_112 : decode cX1_line 112 = .ok (.aload 4, 2) := dk_25 4 (dk_at dksX1_line_4 12 rfl rfl)
theorem dX1_line_114 : decode cX1_line 114 = .ok (.invokevirtual 275, 3) := dk_182 1 19 (dk_at dksX1_line_4 14 rfl rfl)
theorem dX1_line_117 : decode cX1_line 117 = .ok (.invokestatic 141, 3) := dk_184 0 141 (dk_at dksX1_line_4 17 rfl rfl)
theorem dX1_line_120 : decode cX1_line 120 = .ok (.ifCond .eq 7, 3) := dk_153 0 7 (dk_at dksX1_line_4 20 rfl rfl)
theorem dX1_line_123 : decode cX1_line 123 = .ok (.iconst 1, 1) := dk_4 (dk_at dksX1_line_4 23 rfl rfl)
theorem dX1_line_124 : decode cX1_line 124 = .ok (.goto 4, 3) := dk_167 0 4 (dk_at dksX1_line_5 0 rfl rfl)
theorem dX1_line_127 : decode cX1_line 127 = .ok (.iconst 0, 1) := dk_3 (dk_at dksX1_line_5 3 rfl rfl)
theorem dX1_line_128 : decode cX1_line 128 = .ok (.ireturn, 1) := dk_172 (dk_at dksX1_line_5 4 rfl rfl)
abbrev cX1_placeOf : ByteArray := prog_1_method_32_code
def yX1_placeOf : MethodName := ⟨RX1, "placeOf", "(LPetitionDesk$Line;)I"⟩
def dkwX1_placeOf_2 : List UInt8 := [2, 172]
abbrev dktX1_placeOf_2 : List UInt8 := dkwX1_placeOf_2 ++ []
def dkwX1_placeOf_1 : List UInt8 := [185, 0, 242, 1, 0, 192, 0, 162, 58, 4, 25, 4, 43, 166, 0, 5, 28, 172, 132, 2, 1, 167, 255, 225]
abbrev dktX1_placeOf_1 : List UInt8 := dkwX1_placeOf_1 ++ dktX1_placeOf_2
def dkwX1_placeOf_0 : List UInt8 := [3, 61, 42, 180, 0, 54, 182, 0, 233, 78, 45, 185, 0, 237, 1, 0, 153, 0, 28, 45]
abbrev dktX1_placeOf_0 : List UInt8 := dkwX1_placeOf_0 ++ dktX1_placeOf_1
theorem dksX1_placeOf_0 : cX1_placeOf.data.toList.drop 0 = dktX1_placeOf_0 := by decide +kernel
theorem dksX1_placeOf_1 : cX1_placeOf.data.toList.drop 20 = dktX1_placeOf_1 := dk_seg dksX1_placeOf_0 20 rfl rfl
theorem dksX1_placeOf_2 : cX1_placeOf.data.toList.drop 44 = dktX1_placeOf_2 := dk_seg dksX1_placeOf_1 24 rfl rfl
theorem dX1_placeOf_0 : decode cX1_placeOf 0 = .ok (.iconst 0, 1) := dk_3 (dk_at dksX1_placeOf_0 0 rfl rfl)
theorem dX1_placeOf_1 : decode cX1_placeOf 1 = .ok (.istore_n 2, 1) := dk_61 (dk_at dksX1_placeOf_0 1 rfl rfl)
theorem dX1_placeOf_2 : decode cX1_placeOf 2 = .ok (.aload_n 0, 1) := dk_42 (dk_at dksX1_placeOf_0 2 rfl rfl)
theorem dX1_placeOf_3 : decode cX1_placeOf 3 = .ok (.getfield 54, 3) := dk_180 0 54 (dk_at dksX1_placeOf_0 3 rfl rfl)
theorem dX1_placeOf_6 : decode cX1_placeOf 6 = .ok (.invokevirtual 233, 3) := dk_182 0 233 (dk_at dksX1_placeOf_0 6 rfl rfl)
theorem dX1_placeOf_9 : decode cX1_placeOf 9 = .ok (.astore_n 3, 1) := dk_78 (dk_at dksX1_placeOf_0 9 rfl rfl)
theorem dX1_placeOf_10 : decode cX1_placeOf 10 = .ok (.aload_n 3, 1) := dk_45 (dk_at dksX1_placeOf_0 10 rfl rfl)
theorem dX1_placeOf_11 : decode cX1_placeOf 11 = .ok (.invokeinterface 237 1, 5) := by decide +kernel
theorem dX1_placeOf_16 : decode cX1_placeOf 16 = .ok (.ifCond .eq 28, 3) := dk_153 0 28 (dk_at dksX1_placeOf_0 16 rfl rfl)
theorem dX1_placeOf_19 : decode cX1_placeOf 19 = .ok (.aload_n 3, 1) := dk_45 (dk_at dksX1_placeOf_0 19 rfl rfl)
theorem dX1_placeOf_20 : decode cX1_placeOf 20 = .ok (.invokeinterface 242 1, 5) := by decide +kernel
theorem dX1_placeOf_25 : decode cX1_placeOf 25 = .ok (.checkcast 162, 3) := dk_192 0 162 (dk_at dksX1_placeOf_1 5 rfl rfl)
theorem dX1_placeOf_28 : decode cX1_placeOf 28 = .ok (.astore 4, 2) := dk_58 4 (dk_at dksX1_placeOf_1 8 rfl rfl)
theorem dX1_placeOf_30 : decode cX1_placeOf 30 = .ok (.aload 4, 2) := dk_25 4 (dk_at dksX1_placeOf_1 10 rfl rfl)
theorem dX1_placeOf_32 : decode cX1_placeOf 32 = .ok (.aload_n 1, 1) := dk_43 (dk_at dksX1_placeOf_1 12 rfl rfl)
theorem dX1_placeOf_33 : decode cX1_placeOf 33 = .ok (.if_acmp .ne 5, 3) := dk_166 0 5 (dk_at dksX1_placeOf_1 13 rfl rfl)
theorem dX1_placeOf_36 : decode cX1_placeOf 36 = .ok (.iload_n 2, 1) := dk_28 (dk_at dksX1_placeOf_1 16 rfl rfl)
theorem dX1_placeOf_37 : decode cX1_placeOf 37 = .ok (.ireturn, 1) := dk_172 (dk_at dksX1_placeOf_1 17 rfl rfl)
theorem dX1_placeOf_38 : decode cX1_placeOf 38 = .ok (.iinc 2 1, 3) := dk_132 2 1 (dk_at dksX1_placeOf_1 18 rfl rfl)
theorem dX1_placeOf_41 : decode cX1_placeOf 41 = .ok (.goto (-31), 3) := dk_167 255 225 (dk_at dksX1_placeOf_1 21 rfl rfl)
theorem dX1_placeOf_44 : decode cX1_placeOf 44 = .ok (.iconst (-1), 1) := dk_2 (dk_at dksX1_placeOf_2 0 rfl rfl)
theorem dX1_placeOf_45 : decode cX1_placeOf 45 = .ok (.ireturn, 1) := dk_172 (dk_at dksX1_placeOf_2 1 rfl rfl)
abbrev cX1_judged : ByteArray := prog_1_method_34_code
def yX1_judged : MethodName := ⟨RX1, "judged", "(I)I"⟩
def dkwX1_judged_0 : List UInt8 := [42, 27, 133, 9, 20, 1, 9, 184, 0, 95, 182, 0, 99, 42, 180, 0, 54, 27, 182, 1, 23, 172]
abbrev dktX1_judged_0 : List UInt8 := dkwX1_judged_0 ++ []
theorem dksX1_judged_0 : cX1_judged.data.toList.drop 0 = dktX1_judged_0 := by decide +kernel
theorem dX1_judged_0 : decode cX1_judged 0 = .ok (.aload_n 0, 1) := dk_42 (dk_at dksX1_judged_0 0 rfl rfl)
theorem dX1_judged_1 : decode cX1_judged 1 = .ok (.iload_n 1, 1) := dk_27 (dk_at dksX1_judged_0 1 rfl rfl)
theorem dX1_judged_2 : decode cX1_judged 2 = .ok (.i2l, 1) := dk_133 (dk_at dksX1_judged_0 2 rfl rfl)
theorem dX1_judged_3 : decode cX1_judged 3 = .ok (.lconst 0, 1) := dk_9 (dk_at dksX1_judged_0 3 rfl rfl)
theorem dX1_judged_4 : decode cX1_judged 4 = .ok (.ldc2_w 265, 3) := dk_20 1 9 (dk_at dksX1_judged_0 4 rfl rfl)
theorem dX1_judged_7 : decode cX1_judged 7 = .ok (.invokestatic 95, 3) := dk_184 0 95 (dk_at dksX1_judged_0 7 rfl rfl)
theorem dX1_judged_10 : decode cX1_judged 10 = .ok (.invokevirtual 99, 3) := dk_182 0 99 (dk_at dksX1_judged_0 10 rfl rfl)
theorem dX1_judged_13 : decode cX1_judged 13 = .ok (.aload_n 0, 1) := dk_42 (dk_at dksX1_judged_0 13 rfl rfl)
theorem dX1_judged_14 : decode cX1_judged 14 = .ok (.getfield 54, 3) := dk_180 0 54 (dk_at dksX1_judged_0 14 rfl rfl)
theorem dX1_judged_17 : decode cX1_judged 17 = .ok (.iload_n 1, 1) := dk_27 (dk_at dksX1_judged_0 17 rfl rfl)
theorem dX1_judged_18 : decode cX1_judged 18 = .ok (.invokevirtual 279, 3) := dk_182 1 23 (dk_at dksX1_judged_0 18 rfl rfl)
theorem dX1_judged_21 : decode cX1_judged 21 = .ok (.ireturn, 1) := dk_172 (dk_at dksX1_judged_0 21 rfl rfl)
abbrev cX1_drawn : ByteArray := prog_1_method_42_code
def yX1_drawn : MethodName := ⟨RX1, "drawn", "(II)I"⟩
def dkwX1_drawn_6 : List UInt8 := [21, 6, 42, 180, 0, 54, 180, 0, 211, 162, 0, 7, 5, 167, 0, 4, 3, 172]
abbrev dktX1_drawn_6 : List UInt8 := dkwX1_drawn_6 ++ []
def dkwX1_drawn_5 : List UInt8 := [160, 0, 8, 21, 6, 167, 0, 36, 21, 5, 42, 180, 0, 54, 180, 0, 211, 161, 0, 7, 4, 167, 0, 20]
abbrev dktX1_drawn_5 : List UInt8 := dkwX1_drawn_5 ++ dktX1_drawn_6
def dkwX1_drawn_4 : List UInt8 := [42, 27, 182, 0, 137, 182, 1, 64, 54, 6, 28, 6, 160, 0, 8, 21, 5, 167, 0, 46, 28, 7]
abbrev dktX1_drawn_4 : List UInt8 := dkwX1_drawn_4 ++ dktX1_drawn_5
def dkwX1_drawn_3 : List UInt8 := [29, 154, 0, 5, 2, 172, 42, 21, 4, 29, 42, 27, 182, 0, 137, 182, 1, 60, 54, 5, 42, 21, 4, 29]
abbrev dktX1_drawn_3 : List UInt8 := dkwX1_drawn_3 ++ dktX1_drawn_4
def dkwX1_drawn_2 : List UInt8 := [28, 6, 162, 0, 22, 28, 4, 160, 0, 11, 42, 27, 182, 0, 137, 167, 0, 8, 42, 27, 182, 1, 57, 172]
abbrev dktX1_drawn_2 : List UInt8 := dkwX1_drawn_2 ++ dktX1_drawn_3
def dkwX1_drawn_1 : List UInt8 := [180, 0, 133, 27, 47, 184, 1, 51, 62, 42, 180, 0, 54, 182, 0, 122, 54, 4, 28, 154, 0, 5, 29, 172]
abbrev dktX1_drawn_1 : List UInt8 := dkwX1_drawn_1 ++ dktX1_drawn_2
def dkwX1_drawn_0 : List UInt8 := [42, 27, 182, 0, 125, 42, 28, 133, 9, 20, 1, 9, 184, 0, 95, 182, 0, 99, 42, 180, 0, 54]
abbrev dktX1_drawn_0 : List UInt8 := dkwX1_drawn_0 ++ dktX1_drawn_1
theorem dksX1_drawn_0 : cX1_drawn.data.toList.drop 0 = dktX1_drawn_0 := by decide +kernel
theorem dksX1_drawn_1 : cX1_drawn.data.toList.drop 22 = dktX1_drawn_1 := dk_seg dksX1_drawn_0 22 rfl rfl
theorem dksX1_drawn_2 : cX1_drawn.data.toList.drop 46 = dktX1_drawn_2 := dk_seg dksX1_drawn_1 24 rfl rfl
theorem dksX1_drawn_3 : cX1_drawn.data.toList.drop 70 = dktX1_drawn_3 := dk_seg dksX1_drawn_2 24 rfl rfl
theorem dksX1_drawn_4 : cX1_drawn.data.toList.drop 94 = dktX1_drawn_4 := dk_seg dksX1_drawn_3 24 rfl rfl
theorem dksX1_drawn_5 : cX1_drawn.data.toList.drop 116 = dktX1_drawn_5 := dk_seg dksX1_drawn_4 22 rfl rfl
theorem dksX1_drawn_6 : cX1_drawn.data.toList.drop 140 = dktX1_drawn_6 := dk_seg dksX1_drawn_5 24 rfl rfl
theorem dX1_drawn_0 : decode cX1_drawn 0 = .ok (.aload_n 0, 1) := dk_42 (dk_at dksX1_drawn_0 0 rfl rfl)
theorem dX1_drawn_1 : decode cX1_drawn 1 = .ok (.iload_n 1, 1) := dk_27 (dk_at dksX1_drawn_0 1 rfl rfl)
theorem dX1_drawn_2 : decode cX1_drawn 2 = .ok (.invokevirtual 125, 3) := dk_182 0 125 (dk_at dksX1_drawn_0 2 rfl rfl)
theorem dX1_drawn_5 : decode cX1_drawn 5 = .ok (.aload_n 0, 1) := dk_42 (dk_at dksX1_drawn_0 5 rfl rfl)
theorem dX1_drawn_6 : decode cX1_drawn 6 = .ok (.iload_n 2, 1) := dk_28 (dk_at dksX1_drawn_0 6 rfl rfl)
theorem dX1_drawn_7 : decode cX1_drawn 7 = .ok (.i2l, 1) := dk_133 (dk_at dksX1_drawn_0 7 rfl rfl)
theorem dX1_drawn_8 : decode cX1_drawn 8 = .ok (.lconst 0, 1) := dk_9 (dk_at dksX1_drawn_0 8 rfl rfl)
theorem dX1_drawn_9 : decode cX1_drawn 9 = .ok (.ldc2_w 265, 3) := dk_20 1 9 (dk_at dksX1_drawn_0 9 rfl rfl)
theorem dX1_drawn_12 : decode cX1_drawn 12 = .ok (.invokestatic 95, 3) := dk_184 0 95 (dk_at dksX1_drawn_0 12 rfl rfl)
theorem dX1_drawn_15 : decode cX1_drawn 15 = .ok (.invokevirtual 99, 3) := dk_182 0 99 (dk_at dksX1_drawn_0 15 rfl rfl)
theorem dX1_drawn_18 : decode cX1_drawn 18 = .ok (.aload_n 0, 1) := dk_42 (dk_at dksX1_drawn_0 18 rfl rfl)
theorem dX1_drawn_19 : decode cX1_drawn 19 = .ok (.getfield 54, 3) := dk_180 0 54 (dk_at dksX1_drawn_0 19 rfl rfl)
theorem dX1_drawn_22 : decode cX1_drawn 22 = .ok (.getfield 133, 3) := dk_180 0 133 (dk_at dksX1_drawn_1 0 rfl rfl)
theorem dX1_drawn_25 : decode cX1_drawn 25 = .ok (.iload_n 1, 1) := dk_27 (dk_at dksX1_drawn_1 3 rfl rfl)
theorem dX1_drawn_26 : decode cX1_drawn 26 = .ok (.laload, 1) := dk_47 (dk_at dksX1_drawn_1 4 rfl rfl)
theorem dX1_drawn_27 : decode cX1_drawn 27 = .ok (.invokestatic 307, 3) := dk_184 1 51 (dk_at dksX1_drawn_1 5 rfl rfl)
theorem dX1_drawn_30 : decode cX1_drawn 30 = .ok (.istore_n 3, 1) := dk_62 (dk_at dksX1_drawn_1 8 rfl rfl)
theorem dX1_drawn_31 : decode cX1_drawn 31 = .ok (.aload_n 0, 1) := dk_42 (dk_at dksX1_drawn_1 9 rfl rfl)
theorem dX1_drawn_32 : decode cX1_drawn 32 = .ok (.getfield 54, 3) := dk_180 0 54 (dk_at dksX1_drawn_1 10 rfl rfl)
theorem dX1_drawn_35 : decode cX1_drawn 35 = .ok (.invokevirtual 122, 3) := dk_182 0 122 (dk_at dksX1_drawn_1 13 rfl rfl)
theorem dX1_drawn_38 : decode cX1_drawn 38 = .ok (.istore 4, 2) := dk_54 4 (dk_at dksX1_drawn_1 16 rfl rfl)
theorem dX1_drawn_40 : decode cX1_drawn 40 = .ok (.iload_n 2, 1) := dk_28 (dk_at dksX1_drawn_1 18 rfl rfl)
theorem dX1_drawn_41 : decode cX1_drawn 41 = .ok (.ifCond .ne 5, 3) := dk_154 0 5 (dk_at dksX1_drawn_1 19 rfl rfl)
theorem dX1_drawn_44 : decode cX1_drawn 44 = .ok (.iload_n 3, 1) := dk_29 (dk_at dksX1_drawn_1 22 rfl rfl)
theorem dX1_drawn_45 : decode cX1_drawn 45 = .ok (.ireturn, 1) := dk_172 (dk_at dksX1_drawn_1 23 rfl rfl)
theorem dX1_drawn_46 : decode cX1_drawn 46 = .ok (.iload_n 2, 1) := dk_28 (dk_at dksX1_drawn_2 0 rfl rfl)
theorem dX1_drawn_47 : decode cX1_drawn 47 = .ok (.iconst 3, 1) := dk_6 (dk_at dksX1_drawn_2 1 rfl rfl)
theorem dX1_drawn_48 : decode cX1_drawn 48 = .ok (.if_icmp .ge 22, 3) := dk_162 0 22 (dk_at dksX1_drawn_2 2 rfl rfl)
theorem dX1_drawn_51 : decode cX1_drawn 51 = .ok (.iload_n 2, 1) := dk_28 (dk_at dksX1_drawn_2 5 rfl rfl)
theorem dX1_drawn_52 : decode cX1_drawn 52 = .ok (.iconst 1, 1) := dk_4 (dk_at dksX1_drawn_2 6 rfl rfl)
theorem dX1_drawn_53 : decode cX1_drawn 53 = .ok (.if_icmp .ne 11, 3) := dk_160 0 11 (dk_at dksX1_drawn_2 7 rfl rfl)
theorem dX1_drawn_56 : decode cX1_drawn 56 = .ok (.aload_n 0, 1) := dk_42 (dk_at dksX1_drawn_2 10 rfl rfl)
theorem dX1_drawn_57 : decode cX1_drawn 57 = .ok (.iload_n 1, 1) := dk_27 (dk_at dksX1_drawn_2 11 rfl rfl)
theorem dX1_drawn_58 : decode cX1_drawn 58 = .ok (.invokevirtual 137, 3) := dk_182 0 137 (dk_at dksX1_drawn_2 12 rfl rfl)
theorem dX1_drawn_61 : decode cX1_drawn 61 = .ok (.goto 8, 3) := dk_167 0 8 (dk_at dksX1_drawn_2 15 rfl rfl)
theorem dX1_drawn_64 : decode cX1_drawn 64 = .ok (.aload_n 0, 1) := dk_42 (dk_at dksX1_drawn_2 18 rfl rfl)
theorem dX1_drawn_65 : decode cX1_drawn 65 = .ok (.iload_n 1, 1) := dk_27 (dk_at dksX1_drawn_2 19 rfl rfl)
theorem dX1_drawn_66 : decode cX1_drawn 66 = .ok (.invokevirtual 313, 3) := dk_182 1 57 (dk_at dksX1_drawn_2 20 rfl rfl)
theorem dX1_drawn_69 : decode cX1_drawn 69 = .ok (.ireturn, 1) := dk_172 (dk_at dksX1_drawn_2 23 rfl rfl)
theorem dX1_drawn_70 : decode cX1_drawn 70 = .ok (.iload_n 3, 1) := dk_29 (dk_at dksX1_drawn_3 0 rfl rfl)
theorem dX1_drawn_71 : decode cX1_drawn 71 = .ok (.ifCond .ne 5, 3) := dk_154 0 5 (dk_at dksX1_drawn_3 1 rfl rfl)
theorem dX1_drawn_74 : decode cX1_drawn 74 = .ok (.iconst (-1), 1) := dk_2 (dk_at dksX1_drawn_3 4 rfl rfl)
theorem dX1_drawn_75 : decode cX1_drawn 75 = .ok (.ireturn, 1) := dk_172 (dk_at dksX1_drawn_3 5 rfl rfl)
theorem dX1_drawn_76 : decode cX1_drawn 76 = .ok (.aload_n 0, 1) := dk_42 (dk_at dksX1_drawn_3 6 rfl rfl)
theorem dX1_drawn_77 : decode cX1_drawn 77 = .ok (.iload 4, 2) := dk_21 4 (dk_at dksX1_drawn_3 7 rfl rfl)
theorem dX1_drawn_79 : decode cX1_drawn 79 = .ok (.iload_n 3, 1) := dk_29 (dk_at dksX1_drawn_3 9 rfl rfl)
theorem dX1_drawn_80 : decode cX1_drawn 80 = .ok (.aload_n 0, 1) := dk_42 (dk_at dksX1_drawn_3 10 rfl rfl)
theorem dX1_drawn_81 : decode cX1_drawn 81 = .ok (.iload_n 1, 1) := dk_27 (dk_at dksX1_drawn_3 11 rfl rfl)
theorem dX1_drawn_82 : decode cX1_drawn 82 = .ok (.invokevirtual 137, 3) := dk_182 0 137 (dk_at dksX1_drawn_3 12 rfl rfl)
theorem dX1_drawn_85 : decode cX1_drawn 85 = .ok (.invokevirtual 316, 3) := dk_182 1 60 (dk_at dksX1_drawn_3 15 rfl rfl)
theorem dX1_drawn_88 : decode cX1_drawn 88 = .ok (.istore 5, 2) := dk_54 5 (dk_at dksX1_drawn_3 18 rfl rfl)
theorem dX1_drawn_90 : decode cX1_drawn 90 = .ok (.aload_n 0, 1) := dk_42 (dk_at dksX1_drawn_3 20 rfl rfl)
theorem dX1_drawn_91 : decode cX1_drawn 91 = .ok (.iload 4, 2) := dk_21 4 (dk_at dksX1_drawn_3 21 rfl rfl)
theorem dX1_drawn_93 : decode cX1_drawn 93 = .ok (.iload_n 3, 1) := dk_29 (dk_at dksX1_drawn_3 23 rfl rfl)
theorem dX1_drawn_94 : decode cX1_drawn 94 = .ok (.aload_n 0, 1) := dk_42 (dk_at dksX1_drawn_4 0 rfl rfl)
theorem dX1_drawn_95 : decode cX1_drawn 95 = .ok (.iload_n 1, 1) := dk_27 (dk_at dksX1_drawn_4 1 rfl rfl)
theorem dX1_drawn_96 : decode cX1_drawn 96 = .ok (.invokevirtual 137, 3) := dk_182 0 137 (dk_at dksX1_drawn_4 2 rfl rfl)
theorem dX1_drawn_99 : decode cX1_drawn 99 = .ok (.invokevirtual 320, 3) := dk_182 1 64 (dk_at dksX1_drawn_4 5 rfl rfl)
theorem dX1_drawn_102 : decode cX1_drawn 102 = .ok (.istore 6, 2) := dk_54 6 (dk_at dksX1_drawn_4 8 rfl rfl)
theorem dX1_drawn_104 : decode cX1_drawn 104 = .ok (.iload_n 2, 1) := dk_28 (dk_at dksX1_drawn_4 10 rfl rfl)
theorem dX1_drawn_105 : decode cX1_drawn 105 = .ok (.iconst 3, 1) := dk_6 (dk_at dksX1_drawn_4 11 rfl rfl)
theorem dX1_drawn_106 : decode cX1_drawn 106 = .ok (.if_icmp .ne 8, 3) := dk_160 0 8 (dk_at dksX1_drawn_4 12 rfl rfl)
theorem dX1_drawn_109 : decode cX1_drawn 109 = .ok (.iload 5, 2) := dk_21 5 (dk_at dksX1_drawn_4 15 rfl rfl)
theorem dX1_drawn_111 : decode cX1_drawn 111 = .ok (.goto 46, 3) := dk_167 0 46 (dk_at dksX1_drawn_4 17 rfl rfl)
theorem dX1_drawn_114 : decode cX1_drawn 114 = .ok (.iload_n 2, 1) := dk_28 (dk_at dksX1_drawn_4 20 rfl rfl)
theorem dX1_drawn_115 : decode cX1_drawn 115 = .ok (.iconst 4, 1) := dk_7 (dk_at dksX1_drawn_4 21 rfl rfl)
theorem dX1_drawn_116 : decode cX1_drawn 116 = .ok (.if_icmp .ne 8, 3) := dk_160 0 8 (dk_at dksX1_drawn_5 0 rfl rfl)
theorem dX1_drawn_119 : decode cX1_drawn 119 = .ok (.iload 6, 2) := dk_21 6 (dk_at dksX1_drawn_5 3 rfl rfl)
theorem dX1_drawn_121 : decode cX1_drawn 121 = .ok (.goto 36, 3) := dk_167 0 36 (dk_at dksX1_drawn_5 5 rfl rfl)
theorem dX1_drawn_124 : decode cX1_drawn 124 = .ok (.iload 5, 2) := dk_21 5 (dk_at dksX1_drawn_5 8 rfl rfl)
theorem dX1_drawn_126 : decode cX1_drawn 126 = .ok (.aload_n 0, 1) := dk_42 (dk_at dksX1_drawn_5 10 rfl rfl)
theorem dX1_drawn_127 : decode cX1_drawn 127 = .ok (.getfield 54, 3) := dk_180 0 54 (dk_at dksX1_drawn_5 11 rfl rfl)
theorem dX1_drawn_130 : decode cX1_drawn 130 = .ok (.getfield 211, 3) := dk_180 0 211 (dk_at dksX1_drawn_5 14 rfl rfl)
theorem dX1_drawn_133 : decode cX1_drawn 133 = .ok (.if_icmp .lt 7, 3) := dk_161 0 7 (dk_at dksX1_drawn_5 17 rfl rfl)
theorem dX1_drawn_136 : decode cX1_drawn 136 = .ok (.iconst 1, 1) := dk_4 (dk_at dksX1_drawn_5 20 rfl rfl)
theorem dX1_drawn_137 : decode cX1_drawn 137 = .ok (.goto 20, 3) := dk_167 0 20 (dk_at dksX1_drawn_5 21 rfl rfl)
theorem dX1_drawn_140 : decode cX1_drawn 140 = .ok (.iload 6, 2) := dk_21 6 (dk_at dksX1_drawn_6 0 rfl rfl)
theorem dX1_drawn_142 : decode cX1_drawn 142 = .ok (.aload_n 0, 1) := dk_42 (dk_at dksX1_drawn_6 2 rfl rfl)
theorem dX1_drawn_143 : decode cX1_drawn 143 = .ok (.getfield 54, 3) := dk_180 0 54 (dk_at dksX1_drawn_6 3 rfl rfl)
theorem dX1_drawn_146 : decode cX1_drawn 146 = .ok (.getfield 211, 3) := dk_180 0 211 (dk_at dksX1_drawn_6 6 rfl rfl)
theorem dX1_drawn_149 : decode cX1_drawn 149 = .ok (.if_icmp .ge 7, 3) := dk_162 0 7 (dk_at dksX1_drawn_6 9 rfl rfl)
theorem dX1_drawn_152 : decode cX1_drawn 152 = .ok (.iconst 2, 1) := dk_5 (dk_at dksX1_drawn_6 12 rfl rfl)
theorem dX1_drawn_153 : decode cX1_drawn 153 = .ok (.goto 4, 3) := dk_167 0 4 (dk_at dksX1_drawn_6 13 rfl rfl)
theorem dX1_drawn_156 : decode cX1_drawn 156 = .ok (.iconst 0, 1) := dk_3 (dk_at dksX1_drawn_6 16 rfl rfl)
theorem dX1_drawn_157 : decode cX1_drawn 157 = .ok (.ireturn, 1) := dk_172 (dk_at dksX1_drawn_6 17 rfl rfl)
abbrev cX1_pairsOf : ByteArray := prog_1_method_37_code
def yX1_pairsOf : MethodName := ⟨RX1, "pairsOf", "(I)I"⟩
def dkwX1_pairsOf_2 : List UInt8 := [108, 96, 61, 132, 5, 1, 167, 255, 228, 28, 172]
abbrev dktX1_pairsOf_2 : List UInt8 := dkwX1_pairsOf_2 ++ []
def dkwX1_pairsOf_1 : List UInt8 := [54, 5, 21, 5, 21, 4, 162, 0, 27, 45, 21, 5, 46, 54, 6, 28, 21, 6, 21, 6, 4, 100, 104, 5]
abbrev dktX1_pairsOf_1 : List UInt8 := dkwX1_pairsOf_1 ++ dktX1_pairsOf_2
def dkwX1_pairsOf_0 : List UInt8 := [3, 61, 42, 180, 0, 54, 42, 180, 0, 54, 180, 0, 133, 27, 47, 182, 1, 26, 78, 45, 190, 54, 4, 3]
abbrev dktX1_pairsOf_0 : List UInt8 := dkwX1_pairsOf_0 ++ dktX1_pairsOf_1
theorem dksX1_pairsOf_0 : cX1_pairsOf.data.toList.drop 0 = dktX1_pairsOf_0 := by decide +kernel
theorem dksX1_pairsOf_1 : cX1_pairsOf.data.toList.drop 24 = dktX1_pairsOf_1 := dk_seg dksX1_pairsOf_0 24 rfl rfl
theorem dksX1_pairsOf_2 : cX1_pairsOf.data.toList.drop 48 = dktX1_pairsOf_2 := dk_seg dksX1_pairsOf_1 24 rfl rfl
theorem dX1_pairsOf_0 : decode cX1_pairsOf 0 = .ok (.iconst 0, 1) := dk_3 (dk_at dksX1_pairsOf_0 0 rfl rfl)
theorem dX1_pairsOf_1 : decode cX1_pairsOf 1 = .ok (.istore_n 2, 1) := dk_61 (dk_at dksX1_pairsOf_0 1 rfl rfl)
theorem dX1_pairsOf_2 : decode cX1_pairsOf 2 = .ok (.aload_n 0, 1) := dk_42 (dk_at dksX1_pairsOf_0 2 rfl rfl)
theorem dX1_pairsOf_3 : decode cX1_pairsOf 3 = .ok (.getfield 54, 3) := dk_180 0 54 (dk_at dksX1_pairsOf_0 3 rfl rfl)
theorem dX1_pairsOf_6 : decode cX1_pairsOf 6 = .ok (.aload_n 0, 1) := dk_42 (dk_at dksX1_pairsOf_0 6 rfl rfl)
theorem dX1_pairsOf_7 : decode cX1_pairsOf 7 = .ok (.getfield 54, 3) := dk_180 0 54 (dk_at dksX1_pairsOf_0 7 rfl rfl)
theorem dX1_pairsOf_10 : decode cX1_pairsOf 10 = .ok (.getfield 133, 3) := dk_180 0 133 (dk_at dksX1_pairsOf_0 10 rfl rfl)
theorem dX1_pairsOf_13 : decode cX1_pairsOf 13 = .ok (.iload_n 1, 1) := dk_27 (dk_at dksX1_pairsOf_0 13 rfl rfl)
theorem dX1_pairsOf_14 : decode cX1_pairsOf 14 = .ok (.laload, 1) := dk_47 (dk_at dksX1_pairsOf_0 14 rfl rfl)
theorem dX1_pairsOf_15 : decode cX1_pairsOf 15 = .ok (.invokevirtual 282, 3) := dk_182 1 26 (dk_at dksX1_pairsOf_0 15 rfl rfl)
theorem dX1_pairsOf_18 : decode cX1_pairsOf 18 = .ok (.astore_n 3, 1) := dk_78 (dk_at dksX1_pairsOf_0 18 rfl rfl)
theorem dX1_pairsOf_19 : decode cX1_pairsOf 19 = .ok (.aload_n 3, 1) := dk_45 (dk_at dksX1_pairsOf_0 19 rfl rfl)
theorem dX1_pairsOf_20 : decode cX1_pairsOf 20 = .ok (.arraylength, 1) := dk_190 (dk_at dksX1_pairsOf_0 20 rfl rfl)
theorem dX1_pairsOf_21 : decode cX1_pairsOf 21 = .ok (.istore 4, 2) := dk_54 4 (dk_at dksX1_pairsOf_0 21 rfl rfl)
theorem dX1_pairsOf_23 : decode cX1_pairsOf 23 = .ok (.iconst 0, 1) := dk_3 (dk_at dksX1_pairsOf_0 23 rfl rfl)
theorem dX1_pairsOf_24 : decode cX1_pairsOf 24 = .ok (.istore 5, 2) := dk_54 5 (dk_at dksX1_pairsOf_1 0 rfl rfl)
theorem dX1_pairsOf_26 : decode cX1_pairsOf 26 = .ok (.iload 5, 2) := dk_21 5 (dk_at dksX1_pairsOf_1 2 rfl rfl)
theorem dX1_pairsOf_28 : decode cX1_pairsOf 28 = .ok (.iload 4, 2) := dk_21 4 (dk_at dksX1_pairsOf_1 4 rfl rfl)
theorem dX1_pairsOf_30 : decode cX1_pairsOf 30 = .ok (.if_icmp .ge 27, 3) := dk_162 0 27 (dk_at dksX1_pairsOf_1 6 rfl rfl)
theorem dX1_pairsOf_33 : decode cX1_pairsOf 33 = .ok (.aload_n 3, 1) := dk_45 (dk_at dksX1_pairsOf_1 9 rfl rfl)
theorem dX1_pairsOf_34 : decode cX1_pairsOf 34 = .ok (.iload 5, 2) := dk_21 5 (dk_at dksX1_pairsOf_1 10 rfl rfl)
theorem dX1_pairsOf_36 : decode cX1_pairsOf 36 = .ok (.iaload, 1) := dk_46 (dk_at dksX1_pairsOf_1 12 rfl rfl)
theorem dX1_pairsOf_37 : decode cX1_pairsOf 37 = .ok (.istore 6, 2) := dk_54 6 (dk_at dksX1_pairsOf_1 13 rfl rfl)
theorem dX1_pairsOf_39 : decode cX1_pairsOf 39 = .ok (.iload_n 2, 1) := dk_28 (dk_at dksX1_pairsOf_1 15 rfl rfl)
theorem dX1_pairsOf_40 : decode cX1_pairsOf 40 = .ok (.iload 6, 2) := dk_21 6 (dk_at dksX1_pairsOf_1 16 rfl rfl)
theorem dX1_pairsOf_42 : decode cX1_pairsOf 42 = .ok (.iload 6, 2) := dk_21 6 (dk_at dksX1_pairsOf_1 18 rfl rfl)
theorem dX1_pairsOf_44 : decode cX1_pairsOf 44 = .ok (.iconst 1, 1) := dk_4 (dk_at dksX1_pairsOf_1 20 rfl rfl)
theorem dX1_pairsOf_45 : decode cX1_pairsOf 45 = .ok (.isub, 1) := dk_100 (dk_at dksX1_pairsOf_1 21 rfl rfl)
theorem dX1_pairsOf_46 : decode cX1_pairsOf 46 = .ok (.imul, 1) := dk_104 (dk_at dksX1_pairsOf_1 22 rfl rfl)
theorem dX1_pairsOf_47 : decode cX1_pairsOf 47 = .ok (.iconst 2, 1) := dk_5 (dk_at dksX1_pairsOf_1 23 rfl rfl)
theorem dX1_pairsOf_48 : decode cX1_pairsOf 48 = .ok (.idiv, 1) := dk_108 (dk_at dksX1_pairsOf_2 0 rfl rfl)
theorem dX1_pairsOf_49 : decode cX1_pairsOf 49 = .ok (.iadd, 1) := dk_96 (dk_at dksX1_pairsOf_2 1 rfl rfl)
theorem dX1_pairsOf_50 : decode cX1_pairsOf 50 = .ok (.istore_n 2, 1) := dk_61 (dk_at dksX1_pairsOf_2 2 rfl rfl)
theorem dX1_pairsOf_51 : decode cX1_pairsOf 51 = .ok (.iinc 5 1, 3) := dk_132 5 1 (dk_at dksX1_pairsOf_2 3 rfl rfl)
theorem dX1_pairsOf_54 : decode cX1_pairsOf 54 = .ok (.goto (-28), 3) := dk_167 255 228 (dk_at dksX1_pairsOf_2 6 rfl rfl)
theorem dX1_pairsOf_57 : decode cX1_pairsOf 57 = .ok (.iload_n 2, 1) := dk_28 (dk_at dksX1_pairsOf_2 9 rfl rfl)
theorem dX1_pairsOf_58 : decode cX1_pairsOf 58 = .ok (.ireturn, 1) := dk_172 (dk_at dksX1_pairsOf_2 10 rfl rfl)
abbrev cX1_high : ByteArray := prog_1_method_41_code
def yX1_high : MethodName := ⟨RX1, "high", "(III)I"⟩
def dkwX1_high_1 : List UInt8 := [132, 4, 255, 167, 255, 234, 21, 4, 172]
abbrev dktX1_high_1 : List UInt8 := dkwX1_high_1 ++ []
def dkwX1_high_0 : List UInt8 := [27, 54, 4, 42, 42, 27, 28, 21, 4, 3, 29, 182, 1, 43, 27, 28, 182, 1, 47, 154, 0, 9]
abbrev dktX1_high_0 : List UInt8 := dkwX1_high_0 ++ dktX1_high_1
theorem dksX1_high_0 : cX1_high.data.toList.drop 0 = dktX1_high_0 := by decide +kernel
theorem dksX1_high_1 : cX1_high.data.toList.drop 22 = dktX1_high_1 := dk_seg dksX1_high_0 22 rfl rfl
theorem dX1_high_0 : decode cX1_high 0 = .ok (.iload_n 1, 1) := dk_27 (dk_at dksX1_high_0 0 rfl rfl)
theorem dX1_high_1 : decode cX1_high 1 = .ok (.istore 4, 2) := dk_54 4 (dk_at dksX1_high_0 1 rfl rfl)
theorem dX1_high_3 : decode cX1_high 3 = .ok (.aload_n 0, 1) := dk_42 (dk_at dksX1_high_0 3 rfl rfl)
theorem dX1_high_4 : decode cX1_high 4 = .ok (.aload_n 0, 1) := dk_42 (dk_at dksX1_high_0 4 rfl rfl)
theorem dX1_high_5 : decode cX1_high 5 = .ok (.iload_n 1, 1) := dk_27 (dk_at dksX1_high_0 5 rfl rfl)
theorem dX1_high_6 : decode cX1_high 6 = .ok (.iload_n 2, 1) := dk_28 (dk_at dksX1_high_0 6 rfl rfl)
theorem dX1_high_7 : decode cX1_high 7 = .ok (.iload 4, 2) := dk_21 4 (dk_at dksX1_high_0 7 rfl rfl)
theorem dX1_high_9 : decode cX1_high 9 = .ok (.iconst 0, 1) := dk_3 (dk_at dksX1_high_0 9 rfl rfl)
theorem dX1_high_10 : decode cX1_high 10 = .ok (.iload_n 3, 1) := dk_29 (dk_at dksX1_high_0 10 rfl rfl)
theorem dX1_high_11 : decode cX1_high 11 = .ok (.invokevirtual 299, 3) := dk_182 1 43 (dk_at dksX1_high_0 11 rfl rfl)
theorem dX1_high_14 : decode cX1_high 14 = .ok (.iload_n 1, 1) := dk_27 (dk_at dksX1_high_0 14 rfl rfl)
theorem dX1_high_15 : decode cX1_high 15 = .ok (.iload_n 2, 1) := dk_28 (dk_at dksX1_high_0 15 rfl rfl)
theorem dX1_high_16 : decode cX1_high 16 = .ok (.invokevirtual 303, 3) := dk_182 1 47 (dk_at dksX1_high_0 16 rfl rfl)
theorem dX1_high_19 : decode cX1_high 19 = .ok (.ifCond .ne 9, 3) := dk_154 0 9 (dk_at dksX1_high_0 19 rfl rfl)
theorem dX1_high_22 : decode cX1_high 22 = .ok (.iinc 4 (-1), 3) := dk_132 4 255 (dk_at dksX1_high_1 0 rfl rfl)
theorem dX1_high_25 : decode cX1_high 25 = .ok (.goto (-22), 3) := dk_167 255 234 (dk_at dksX1_high_1 3 rfl rfl)
theorem dX1_high_28 : decode cX1_high 28 = .ok (.iload 4, 2) := dk_21 4 (dk_at dksX1_high_1 6 rfl rfl)
theorem dX1_high_30 : decode cX1_high 30 = .ok (.ireturn, 1) := dk_172 (dk_at dksX1_high_1 8 rfl rfl)
abbrev cX1_estimate : ByteArray := prog_1_method_44_code
def yX1_estimate : MethodName := ⟨RX1, "estimate", "(II)J"⟩
def dkwX1_estimate_3 : List UInt8 := [22, 5, 10, 101, 105, 42, 27, 182, 1, 57, 133, 105, 101, 33, 33, 10, 101, 105, 28, 184, 1, 69, 173]
abbrev dktX1_estimate_3 : List UInt8 := dkwX1_estimate_3 ++ []
def dkwX1_estimate_2 : List UInt8 := [180, 0, 54, 182, 0, 122, 133, 55, 5, 22, 5, 42, 27, 182, 0, 137, 133, 105, 33, 10, 101, 105, 22, 5]
abbrev dktX1_estimate_2 : List UInt8 := dkwX1_estimate_2 ++ dktX1_estimate_3
def dkwX1_estimate_1 : List UInt8 := [47, 184, 1, 51, 133, 66, 42, 33, 20, 1, 67, 148, 155, 0, 7, 4, 167, 0, 4, 3, 182, 0, 182, 42]
abbrev dktX1_estimate_1 : List UInt8 := dkwX1_estimate_1 ++ dktX1_estimate_2
def dkwX1_estimate_0 : List UInt8 := [42, 27, 182, 0, 125, 42, 28, 133, 9, 10, 184, 0, 95, 182, 0, 99, 42, 180, 0, 54, 180, 0, 133, 27]
abbrev dktX1_estimate_0 : List UInt8 := dkwX1_estimate_0 ++ dktX1_estimate_1
theorem dksX1_estimate_0 : cX1_estimate.data.toList.drop 0 = dktX1_estimate_0 := by decide +kernel
theorem dksX1_estimate_1 : cX1_estimate.data.toList.drop 24 = dktX1_estimate_1 := dk_seg dksX1_estimate_0 24 rfl rfl
theorem dksX1_estimate_2 : cX1_estimate.data.toList.drop 48 = dktX1_estimate_2 := dk_seg dksX1_estimate_1 24 rfl rfl
theorem dksX1_estimate_3 : cX1_estimate.data.toList.drop 72 = dktX1_estimate_3 := dk_seg dksX1_estimate_2 24 rfl rfl
theorem dX1_estimate_0 : decode cX1_estimate 0 = .ok (.aload_n 0, 1) := dk_42 (dk_at dksX1_estimate_0 0 rfl rfl)
theorem dX1_estimate_1 : decode cX1_estimate 1 = .ok (.iload_n 1, 1) := dk_27 (dk_at dksX1_estimate_0 1 rfl rfl)
theorem dX1_estimate_2 : decode cX1_estimate 2 = .ok (.invokevirtual 125, 3) := dk_182 0 125 (dk_at dksX1_estimate_0 2 rfl rfl)
theorem dX1_estimate_5 : decode cX1_estimate 5 = .ok (.aload_n 0, 1) := dk_42 (dk_at dksX1_estimate_0 5 rfl rfl)
theorem dX1_estimate_6 : decode cX1_estimate 6 = .ok (.iload_n 2, 1) := dk_28 (dk_at dksX1_estimate_0 6 rfl rfl)
theorem dX1_estimate_7 : decode cX1_estimate 7 = .ok (.i2l, 1) := dk_133 (dk_at dksX1_estimate_0 7 rfl rfl)
theorem dX1_estimate_8 : decode cX1_estimate 8 = .ok (.lconst 0, 1) := dk_9 (dk_at dksX1_estimate_0 8 rfl rfl)
theorem dX1_estimate_9 : decode cX1_estimate 9 = .ok (.lconst 1, 1) := dk_10 (dk_at dksX1_estimate_0 9 rfl rfl)
theorem dX1_estimate_10 : decode cX1_estimate 10 = .ok (.invokestatic 95, 3) := dk_184 0 95 (dk_at dksX1_estimate_0 10 rfl rfl)
theorem dX1_estimate_13 : decode cX1_estimate 13 = .ok (.invokevirtual 99, 3) := dk_182 0 99 (dk_at dksX1_estimate_0 13 rfl rfl)
theorem dX1_estimate_16 : decode cX1_estimate 16 = .ok (.aload_n 0, 1) := dk_42 (dk_at dksX1_estimate_0 16 rfl rfl)
theorem dX1_estimate_17 : decode cX1_estimate 17 = .ok (.getfield 54, 3) := dk_180 0 54 (dk_at dksX1_estimate_0 17 rfl rfl)
theorem dX1_estimate_20 : decode cX1_estimate 20 = .ok (.getfield 133, 3) := dk_180 0 133 (dk_at dksX1_estimate_0 20 rfl rfl)
theorem dX1_estimate_23 : decode cX1_estimate 23 = .ok (.iload_n 1, 1) := dk_27 (dk_at dksX1_estimate_0 23 rfl rfl)
theorem dX1_estimate_24 : decode cX1_estimate 24 = .ok (.laload, 1) := dk_47 (dk_at dksX1_estimate_1 0 rfl rfl)
theorem dX1_estimate_25 : decode cX1_estimate 25 = .ok (.invokestatic 307, 3) := dk_184 1 51 (dk_at dksX1_estimate_1 1 rfl rfl)
theorem dX1_estimate_28 : decode cX1_estimate 28 = .ok (.i2l, 1) := dk_133 (dk_at dksX1_estimate_1 4 rfl rfl)
theorem dX1_estimate_29 : decode cX1_estimate 29 = .ok (.lstore_n 3, 1) := dk_66 (dk_at dksX1_estimate_1 5 rfl rfl)
theorem dX1_estimate_30 : decode cX1_estimate 30 = .ok (.aload_n 0, 1) := dk_42 (dk_at dksX1_estimate_1 6 rfl rfl)
theorem dX1_estimate_31 : decode cX1_estimate 31 = .ok (.lload_n 3, 1) := dk_33 (dk_at dksX1_estimate_1 7 rfl rfl)
theorem dX1_estimate_32 : decode cX1_estimate 32 = .ok (.ldc2_w 323, 3) := dk_20 1 67 (dk_at dksX1_estimate_1 8 rfl rfl)
theorem dX1_estimate_35 : decode cX1_estimate 35 = .ok (.lcmp, 1) := dk_148 (dk_at dksX1_estimate_1 11 rfl rfl)
theorem dX1_estimate_36 : decode cX1_estimate 36 = .ok (.ifCond .lt 7, 3) := dk_155 0 7 (dk_at dksX1_estimate_1 12 rfl rfl)
theorem dX1_estimate_39 : decode cX1_estimate 39 = .ok (.iconst 1, 1) := dk_4 (dk_at dksX1_estimate_1 15 rfl rfl)
theorem dX1_estimate_40 : decode cX1_estimate 40 = .ok (.goto 4, 3) := dk_167 0 4 (dk_at dksX1_estimate_1 16 rfl rfl)
theorem dX1_estimate_43 : decode cX1_estimate 43 = .ok (.iconst 0, 1) := dk_3 (dk_at dksX1_estimate_1 19 rfl rfl)
theorem dX1_estimate_44 : decode cX1_estimate 44 = .ok (.invokevirtual 182, 3) := dk_182 0 182 (dk_at dksX1_estimate_1 20 rfl rfl)
theorem dX1_estimate_47 : decode cX1_estimate 47 = .ok (.aload_n 0, 1) := dk_42 (dk_at dksX1_estimate_1 23 rfl rfl)
theorem dX1_estimate_48 : decode cX1_estimate 48 = .ok (.getfield 54, 3) := dk_180 0 54 (dk_at dksX1_estimate_2 0 rfl rfl)
theorem dX1_estimate_51 : decode cX1_estimate 51 = .ok (.invokevirtual 122, 3) := dk_182 0 122 (dk_at dksX1_estimate_2 3 rfl rfl)
theorem dX1_estimate_54 : decode cX1_estimate 54 = .ok (.i2l, 1) := dk_133 (dk_at dksX1_estimate_2 6 rfl rfl)
theorem dX1_estimate_55 : decode cX1_estimate 55 = .ok (.lstore 5, 2) := dk_55 5 (dk_at dksX1_estimate_2 7 rfl rfl)
theorem dX1_estimate_57 : decode cX1_estimate 57 = .ok (.lload 5, 2) := dk_22 5 (dk_at dksX1_estimate_2 9 rfl rfl)
theorem dX1_estimate_59 : decode cX1_estimate 59 = .ok (.aload_n 0, 1) := dk_42 (dk_at dksX1_estimate_2 11 rfl rfl)
theorem dX1_estimate_60 : decode cX1_estimate 60 = .ok (.iload_n 1, 1) := dk_27 (dk_at dksX1_estimate_2 12 rfl rfl)
theorem dX1_estimate_61 : decode cX1_estimate 61 = .ok (.invokevirtual 137, 3) := dk_182 0 137 (dk_at dksX1_estimate_2 13 rfl rfl)
theorem dX1_estimate_64 : decode cX1_estimate 64 = .ok (.i2l, 1) := dk_133 (dk_at dksX1_estimate_2 16 rfl rfl)
theorem dX1_estimate_65 : decode cX1_estimate 65 = .ok (.lmul, 1) := dk_105 (dk_at dksX1_estimate_2 17 rfl rfl)
theorem dX1_estimate_66 : decode cX1_estimate 66 = .ok (.lload_n 3, 1) := dk_33 (dk_at dksX1_estimate_2 18 rfl rfl)
theorem dX1_estimate_67 : decode cX1_estimate 67 = .ok (.lconst 1, 1) := dk_10 (dk_at dksX1_estimate_2 19 rfl rfl)
theorem dX1_estimate_68 : decode cX1_estimate 68 = .ok (.lsub, 1) := dk_101 (dk_at dksX1_estimate_2 20 rfl rfl)
theorem dX1_estimate_69 : decode cX1_estimate 69 = .ok (.lmul, 1) := dk_105 (dk_at dksX1_estimate_2 21 rfl rfl)
theorem dX1_estimate_70 : decode cX1_estimate 70 = .ok (.lload 5, 2) := dk_22 5 (dk_at dksX1_estimate_2 22 rfl rfl)
theorem dX1_estimate_72 : decode cX1_estimate 72 = .ok (.lload 5, 2) := dk_22 5 (dk_at dksX1_estimate_3 0 rfl rfl)
theorem dX1_estimate_74 : decode cX1_estimate 74 = .ok (.lconst 1, 1) := dk_10 (dk_at dksX1_estimate_3 2 rfl rfl)
theorem dX1_estimate_75 : decode cX1_estimate 75 = .ok (.lsub, 1) := dk_101 (dk_at dksX1_estimate_3 3 rfl rfl)
theorem dX1_estimate_76 : decode cX1_estimate 76 = .ok (.lmul, 1) := dk_105 (dk_at dksX1_estimate_3 4 rfl rfl)
theorem dX1_estimate_77 : decode cX1_estimate 77 = .ok (.aload_n 0, 1) := dk_42 (dk_at dksX1_estimate_3 5 rfl rfl)
theorem dX1_estimate_78 : decode cX1_estimate 78 = .ok (.iload_n 1, 1) := dk_27 (dk_at dksX1_estimate_3 6 rfl rfl)
theorem dX1_estimate_79 : decode cX1_estimate 79 = .ok (.invokevirtual 313, 3) := dk_182 1 57 (dk_at dksX1_estimate_3 7 rfl rfl)
theorem dX1_estimate_82 : decode cX1_estimate 82 = .ok (.i2l, 1) := dk_133 (dk_at dksX1_estimate_3 10 rfl rfl)
theorem dX1_estimate_83 : decode cX1_estimate 83 = .ok (.lmul, 1) := dk_105 (dk_at dksX1_estimate_3 11 rfl rfl)
theorem dX1_estimate_84 : decode cX1_estimate 84 = .ok (.lsub, 1) := dk_101 (dk_at dksX1_estimate_3 12 rfl rfl)
theorem dX1_estimate_85 : decode cX1_estimate 85 = .ok (.lload_n 3, 1) := dk_33 (dk_at dksX1_estimate_3 13 rfl rfl)
theorem dX1_estimate_86 : decode cX1_estimate 86 = .ok (.lload_n 3, 1) := dk_33 (dk_at dksX1_estimate_3 14 rfl rfl)
theorem dX1_estimate_87 : decode cX1_estimate 87 = .ok (.lconst 1, 1) := dk_10 (dk_at dksX1_estimate_3 15 rfl rfl)
theorem dX1_estimate_88 : decode cX1_estimate 88 = .ok (.lsub, 1) := dk_101 (dk_at dksX1_estimate_3 16 rfl rfl)
theorem dX1_estimate_89 : decode cX1_estimate 89 = .ok (.lmul, 1) := dk_105 (dk_at dksX1_estimate_3 17 rfl rfl)
theorem dX1_estimate_90 : decode cX1_estimate 90 = .ok (.iload_n 2, 1) := dk_28 (dk_at dksX1_estimate_3 18 rfl rfl)
theorem dX1_estimate_91 : decode cX1_estimate 91 = .ok (.invokestatic 325, 3) := dk_184 1 69 (dk_at dksX1_estimate_3 19 rfl rfl)
theorem dX1_estimate_94 : decode cX1_estimate 94 = .ok (.lreturn, 1) := dk_173 (dk_at dksX1_estimate_3 22 rfl rfl)
abbrev cX1_part : ByteArray := prog_1_method_43_code
def yX1_part : MethodName := ⟨RX1, "part", "(JJI)J"⟩
def dkwX1_part_0 : List UInt8 := [21, 4, 154, 0, 7, 30, 167, 0, 4, 32, 30, 32, 184, 0, 7, 109, 173]
abbrev dktX1_part_0 : List UInt8 := dkwX1_part_0 ++ []
theorem dksX1_part_0 : cX1_part.data.toList.drop 0 = dktX1_part_0 := by decide +kernel
theorem dX1_part_0 : decode cX1_part 0 = .ok (.iload 4, 2) := dk_21 4 (dk_at dksX1_part_0 0 rfl rfl)
theorem dX1_part_2 : decode cX1_part 2 = .ok (.ifCond .ne 7, 3) := dk_154 0 7 (dk_at dksX1_part_0 2 rfl rfl)
theorem dX1_part_5 : decode cX1_part 5 = .ok (.lload_n 0, 1) := dk_30 (dk_at dksX1_part_0 5 rfl rfl)
theorem dX1_part_6 : decode cX1_part 6 = .ok (.goto 4, 3) := dk_167 0 4 (dk_at dksX1_part_0 6 rfl rfl)
theorem dX1_part_9 : decode cX1_part 9 = .ok (.lload_n 2, 1) := dk_32 (dk_at dksX1_part_0 9 rfl rfl)
theorem dX1_part_10 : decode cX1_part 10 = .ok (.lload_n 0, 1) := dk_30 (dk_at dksX1_part_0 10 rfl rfl)
theorem dX1_part_11 : decode cX1_part 11 = .ok (.lload_n 2, 1) := dk_32 (dk_at dksX1_part_0 11 rfl rfl)
theorem dX1_part_12 : decode cX1_part 12 = .ok (.invokestatic 7, 3) := dk_184 0 7 (dk_at dksX1_part_0 12 rfl rfl)
theorem dX1_part_15 : decode cX1_part 15 = .ok (.ldiv, 1) := dk_109 (dk_at dksX1_part_0 15 rfl rfl)
theorem dX1_part_16 : decode cX1_part 16 = .ok (.lreturn, 1) := dk_173 (dk_at dksX1_part_0 16 rfl rfl)
abbrev cX1_divisor : ByteArray := prog_1_method_3_code
def yX1_divisor : MethodName := ⟨RX1, "divisor", "(JJ)J"⟩
def dkwX1_divisor_0 : List UInt8 := [32, 9, 148, 154, 0, 10, 30, 184, 0, 1, 167, 0, 10, 32, 30, 32, 113, 184, 0, 7, 173]
abbrev dktX1_divisor_0 : List UInt8 := dkwX1_divisor_0 ++ []
theorem dksX1_divisor_0 : cX1_divisor.data.toList.drop 0 = dktX1_divisor_0 := by decide +kernel
theorem dX1_divisor_0 : decode cX1_divisor 0 = .ok (.lload_n 2, 1) := dk_32 (dk_at dksX1_divisor_0 0 rfl rfl)
theorem dX1_divisor_1 : decode cX1_divisor 1 = .ok (.lconst 0, 1) := dk_9 (dk_at dksX1_divisor_0 1 rfl rfl)
theorem dX1_divisor_2 : decode cX1_divisor 2 = .ok (.lcmp, 1) := dk_148 (dk_at dksX1_divisor_0 2 rfl rfl)
theorem dX1_divisor_3 : decode cX1_divisor 3 = .ok (.ifCond .ne 10, 3) := dk_154 0 10 (dk_at dksX1_divisor_0 3 rfl rfl)
theorem dX1_divisor_6 : decode cX1_divisor 6 = .ok (.lload_n 0, 1) := dk_30 (dk_at dksX1_divisor_0 6 rfl rfl)
theorem dX1_divisor_7 : decode cX1_divisor 7 = .ok (.invokestatic 1, 3) := dk_184 0 1 (dk_at dksX1_divisor_0 7 rfl rfl)
theorem dX1_divisor_10 : decode cX1_divisor 10 = .ok (.goto 10, 3) := dk_167 0 10 (dk_at dksX1_divisor_0 10 rfl rfl)
theorem dX1_divisor_13 : decode cX1_divisor 13 = .ok (.lload_n 2, 1) := dk_32 (dk_at dksX1_divisor_0 13 rfl rfl)
theorem dX1_divisor_14 : decode cX1_divisor 14 = .ok (.lload_n 0, 1) := dk_30 (dk_at dksX1_divisor_0 14 rfl rfl)
theorem dX1_divisor_15 : decode cX1_divisor 15 = .ok (.lload_n 2, 1) := dk_32 (dk_at dksX1_divisor_0 15 rfl rfl)
theorem dX1_divisor_16 : decode cX1_divisor 16 = .ok (.lrem, 1) := dk_113 (dk_at dksX1_divisor_0 16 rfl rfl)
theorem dX1_divisor_17 : decode cX1_divisor 17 = .ok (.invokestatic 7, 3) := dk_184 0 7 (dk_at dksX1_divisor_0 17 rfl rfl)
theorem dX1_divisor_20 : decode cX1_divisor 20 = .ok (.lreturn, 1) := dk_173 (dk_at dksX1_divisor_0 20 rfl rfl)
abbrev cX1_unlike : ByteArray := prog_1_method_45_code
def yX1_unlike : MethodName := ⟨RX1, "unlike", "(I)I"⟩
def dkwX1_unlike_6 : List UInt8 := [133, 105, 21, 6, 133, 27, 184, 1, 69, 136, 172]
abbrev dktX1_unlike_6 : List UInt8 := dkwX1_unlike_6 ++ []
def dkwX1_unlike_5 : List UInt8 := [3, 96, 54, 6, 132, 7, 1, 167, 255, 188, 21, 6, 154, 0, 7, 2, 167, 0, 18, 21, 4, 133, 21, 5]
abbrev dktX1_unlike_5 : List UInt8 := dkwX1_unlike_5 ++ dktX1_unlike_6
def dkwX1_unlike_4 : List UInt8 := [3, 96, 54, 5, 21, 6, 44, 21, 7, 46, 158, 0, 14, 45, 21, 7, 46, 158, 0, 7, 4, 167, 0, 4]
abbrev dktX1_unlike_4 : List UInt8 := dkwX1_unlike_4 ++ dktX1_unlike_5
def dkwX1_unlike_3 : List UInt8 := [158, 0, 7, 4, 167, 0, 4, 3, 96, 54, 4, 21, 5, 45, 21, 7, 46, 158, 0, 7, 4, 167, 0, 4]
abbrev dktX1_unlike_3 : List UInt8 := dkwX1_unlike_3 ++ dktX1_unlike_4
def dkwX1_unlike_2 : List UInt8 := [3, 54, 5, 3, 54, 6, 3, 54, 7, 21, 7, 16, 16, 162, 0, 67, 21, 4, 44, 21, 7, 46]
abbrev dktX1_unlike_2 : List UInt8 := dkwX1_unlike_2 ++ dktX1_unlike_3
def dkwX1_unlike_1 : List UInt8 := [182, 1, 26, 77, 42, 180, 0, 54, 42, 180, 0, 54, 180, 0, 133, 4, 47, 182, 1, 26, 78, 3, 54, 4]
abbrev dktX1_unlike_1 : List UInt8 := dkwX1_unlike_1 ++ dktX1_unlike_2
def dkwX1_unlike_0 : List UInt8 := [42, 27, 133, 9, 10, 184, 0, 95, 182, 0, 99, 42, 180, 0, 54, 42, 180, 0, 54, 180, 0, 133, 3, 47]
abbrev dktX1_unlike_0 : List UInt8 := dkwX1_unlike_0 ++ dktX1_unlike_1
theorem dksX1_unlike_0 : cX1_unlike.data.toList.drop 0 = dktX1_unlike_0 := by decide +kernel
theorem dksX1_unlike_1 : cX1_unlike.data.toList.drop 24 = dktX1_unlike_1 := dk_seg dksX1_unlike_0 24 rfl rfl
theorem dksX1_unlike_2 : cX1_unlike.data.toList.drop 48 = dktX1_unlike_2 := dk_seg dksX1_unlike_1 24 rfl rfl
theorem dksX1_unlike_3 : cX1_unlike.data.toList.drop 70 = dktX1_unlike_3 := dk_seg dksX1_unlike_2 22 rfl rfl
theorem dksX1_unlike_4 : cX1_unlike.data.toList.drop 94 = dktX1_unlike_4 := dk_seg dksX1_unlike_3 24 rfl rfl
theorem dksX1_unlike_5 : cX1_unlike.data.toList.drop 118 = dktX1_unlike_5 := dk_seg dksX1_unlike_4 24 rfl rfl
theorem dksX1_unlike_6 : cX1_unlike.data.toList.drop 142 = dktX1_unlike_6 := dk_seg dksX1_unlike_5 24 rfl rfl
theorem dX1_unlike_0 : decode cX1_unlike 0 = .ok (.aload_n 0, 1) := dk_42 (dk_at dksX1_unlike_0 0 rfl rfl)
theorem dX1_unlike_1 : decode cX1_unlike 1 = .ok (.iload_n 1, 1) := dk_27 (dk_at dksX1_unlike_0 1 rfl rfl)
theorem dX1_unlike_2 : decode cX1_unlike 2 = .ok (.i2l, 1) := dk_133 (dk_at dksX1_unlike_0 2 rfl rfl)
theorem dX1_unlike_3 : decode cX1_unlike 3 = .ok (.lconst 0, 1) := dk_9 (dk_at dksX1_unlike_0 3 rfl rfl)
theorem dX1_unlike_4 : decode cX1_unlike 4 = .ok (.lconst 1, 1) := dk_10 (dk_at dksX1_unlike_0 4 rfl rfl)
theorem dX1_unlike_5 : decode cX1_unlike 5 = .ok (.invokestatic 95, 3) := dk_184 0 95 (dk_at dksX1_unlike_0 5 rfl rfl)
theorem dX1_unlike_8 : decode cX1_unlike 8 = .ok (.invokevirtual 99, 3) := dk_182 0 99 (dk_at dksX1_unlike_0 8 rfl rfl)
theorem dX1_unlike_11 : decode cX1_unlike 11 = .ok (.aload_n 0, 1) := dk_42 (dk_at dksX1_unlike_0 11 rfl rfl)
theorem dX1_unlike_12 : decode cX1_unlike 12 = .ok (.getfield 54, 3) := dk_180 0 54 (dk_at dksX1_unlike_0 12 rfl rfl)
theorem dX1_unlike_15 : decode cX1_unlike 15 = .ok (.aload_n 0, 1) := dk_42 (dk_at dksX1_unlike_0 15 rfl rfl)
theorem dX1_unlike_16 : decode cX1_unlike 16 = .ok (.getfield 54, 3) := dk_180 0 54 (dk_at dksX1_unlike_0 16 rfl rfl)
theorem dX1_unlike_19 : decode cX1_unlike 19 = .ok (.getfield 133, 3) := dk_180 0 133 (dk_at dksX1_unlike_0 19 rfl rfl)
theorem dX1_unlike_22 : decode cX1_unlike 22 = .ok (.iconst 0, 1) := dk_3 (dk_at dksX1_unlike_0 22 rfl rfl)
theorem dX1_unlike_23 : decode cX1_unlike 23 = .ok (.laload, 1) := dk_47 (dk_at dksX1_unlike_0 23 rfl rfl)
theorem dX1_unlike_24 : decode cX1_unlike 24 = .ok (.invokevirtual 282, 3) := dk_182 1 26 (dk_at dksX1_unlike_1 0 rfl rfl)
theorem dX1_unlike_27 : decode cX1_unlike 27 = .ok (.astore_n 2, 1) := dk_77 (dk_at dksX1_unlike_1 3 rfl rfl)
theorem dX1_unlike_28 : decode cX1_unlike 28 = .ok (.aload_n 0, 1) := dk_42 (dk_at dksX1_unlike_1 4 rfl rfl)
theorem dX1_unlike_29 : decode cX1_unlike 29 = .ok (.getfield 54, 3) := dk_180 0 54 (dk_at dksX1_unlike_1 5 rfl rfl)
theorem dX1_unlike_32 : decode cX1_unlike 32 = .ok (.aload_n 0, 1) := dk_42 (dk_at dksX1_unlike_1 8 rfl rfl)
theorem dX1_unlike_33 : decode cX1_unlike 33 = .ok (.getfield 54, 3) := dk_180 0 54 (dk_at dksX1_unlike_1 9 rfl rfl)
theorem dX1_unlike_36 : decode cX1_unlike 36 = .ok (.getfield 133, 3) := dk_180 0 133 (dk_at dksX1_unlike_1 12 rfl rfl)
theorem dX1_unlike_39 : decode cX1_unlike 39 = .ok (.iconst 1, 1) := dk_4 (dk_at dksX1_unlike_1 15 rfl rfl)
theorem dX1_unlike_40 : decode cX1_unlike 40 = .ok (.laload, 1) := dk_47 (dk_at dksX1_unlike_1 16 rfl rfl)
theorem dX1_unlike_41 : decode cX1_unlike 41 = .ok (.invokevirtual 282, 3) := dk_182 1 26 (dk_at dksX1_unlike_1 17 rfl rfl)
theorem dX1_unlike_44 : decode cX1_unlike 44 = .ok (.astore_n 3, 1) := dk_78 (dk_at dksX1_unlike_1 20 rfl rfl)
theorem dX1_unlike_45 : decode cX1_unlike 45 = .ok (.iconst 0, 1) := dk_3 (dk_at dksX1_unlike_1 21 rfl rfl)
theorem dX1_unlike_46 : decode cX1_unlike 46 = .ok (.istore 4, 2) := dk_54 4 (dk_at dksX1_unlike_1 22 rfl rfl)
theorem dX1_unlike_48 : decode cX1_unlike 48 = .ok (.iconst 0, 1) := dk_3 (dk_at dksX1_unlike_2 0 rfl rfl)
theorem dX1_unlike_49 : decode cX1_unlike 49 = .ok (.istore 5, 2) := dk_54 5 (dk_at dksX1_unlike_2 1 rfl rfl)
theorem dX1_unlike_51 : decode cX1_unlike 51 = .ok (.iconst 0, 1) := dk_3 (dk_at dksX1_unlike_2 3 rfl rfl)
theorem dX1_unlike_52 : decode cX1_unlike 52 = .ok (.istore 6, 2) := dk_54 6 (dk_at dksX1_unlike_2 4 rfl rfl)
theorem dX1_unlike_54 : decode cX1_unlike 54 = .ok (.iconst 0, 1) := dk_3 (dk_at dksX1_unlike_2 6 rfl rfl)
theorem dX1_unlike_55 : decode cX1_unlike 55 = .ok (.istore 7, 2) := dk_54 7 (dk_at dksX1_unlike_2 7 rfl rfl)
theorem dX1_unlike_57 : decode cX1_unlike 57 = .ok (.iload 7, 2) := dk_21 7 (dk_at dksX1_unlike_2 9 rfl rfl)
theorem dX1_unlike_59 : decode cX1_unlike 59 = .ok (.bipush 16, 2) := dk_16 16 (dk_at dksX1_unlike_2 11 rfl rfl)
theorem dX1_unlike_61 : decode cX1_unlike 61 = .ok (.if_icmp .ge 67, 3) := dk_162 0 67 (dk_at dksX1_unlike_2 13 rfl rfl)
theorem dX1_unlike_64 : decode cX1_unlike 64 = .ok (.iload 4, 2) := dk_21 4 (dk_at dksX1_unlike_2 16 rfl rfl)
theorem dX1_unlike_66 : decode cX1_unlike 66 = .ok (.aload_n 2, 1) := dk_44 (dk_at dksX1_unlike_2 18 rfl rfl)
theorem dX1_unlike_67 : decode cX1_unlike 67 = .ok (.iload 7, 2) := dk_21 7 (dk_at dksX1_unlike_2 19 rfl rfl)
theorem dX1_unlike_69 : decode cX1_unlike 69 = .ok (.iaload, 1) := dk_46 (dk_at dksX1_unlike_2 21 rfl rfl)
theorem dX1_unlike_70 : decode cX1_unlike 70 = .ok (.ifCond .le 7, 3) := dk_158 0 7 (dk_at dksX1_unlike_3 0 rfl rfl)
theorem dX1_unlike_73 : decode cX1_unlike 73 = .ok (.iconst 1, 1) := dk_4 (dk_at dksX1_unlike_3 3 rfl rfl)
theorem dX1_unlike_74 : decode cX1_unlike 74 = .ok (.goto 4, 3) := dk_167 0 4 (dk_at dksX1_unlike_3 4 rfl rfl)
theorem dX1_unlike_77 : decode cX1_unlike 77 = .ok (.iconst 0, 1) := dk_3 (dk_at dksX1_unlike_3 7 rfl rfl)
theorem dX1_unlike_78 : decode cX1_unlike 78 = .ok (.iadd, 1) := dk_96 (dk_at dksX1_unlike_3 8 rfl rfl)
theorem dX1_unlike_79 : decode cX1_unlike 79 = .ok (.istore 4, 2) := dk_54 4 (dk_at dksX1_unlike_3 9 rfl rfl)
theorem dX1_unlike_81 : decode cX1_unlike 81 = .ok (.iload 5, 2) := dk_21 5 (dk_at dksX1_unlike_3 11 rfl rfl)
theorem dX1_unlike_83 : decode cX1_unlike 83 = .ok (.aload_n 3, 1) := dk_45 (dk_at dksX1_unlike_3 13 rfl rfl)
theorem dX1_unlike_84 : decode cX1_unlike 84 = .ok (.iload 7, 2) := dk_21 7 (dk_at dksX1_unlike_3 14 rfl rfl)
theorem dX1_unlike_86 : decode cX1_unlike 86 = .ok (.iaload, 1) := dk_46 (dk_at dksX1_unlike_3 16 rfl rfl)
theorem dX1_unlike_87 : decode cX1_unlike 87 = .ok (.ifCond .le 7, 3) := dk_158 0 7 (dk_at dksX1_unlike_3 17 rfl rfl)
theorem dX1_unlike_90 : decode cX1_unlike 90 = .ok (.iconst 1, 1) := dk_4 (dk_at dksX1_unlike_3 20 rfl rfl)
theorem dX1_unlike_91 : decode cX1_unlike 91 = .ok (.goto 4, 3) := dk_167 0 4 (dk_at dksX1_unlike_3 21 rfl rfl)
theorem dX1_unlike_94 : decode cX1_unlike 94 = .ok (.iconst 0, 1) := dk_3 (dk_at dksX1_unlike_4 0 rfl rfl)
theorem dX1_unlike_95 : decode cX1_unlike 95 = .ok (.iadd, 1) := dk_96 (dk_at dksX1_unlike_4 1 rfl rfl)
theorem dX1_unlike_96 : decode cX1_unlike 96 = .ok (.istore 5, 2) := dk_54 5 (dk_at dksX1_unlike_4 2 rfl rfl)
theorem dX1_unlike_98 : decode cX1_unlike 98 = .ok (.iload 6, 2) := dk_21 6 (dk_at dksX1_unlike_4 4 rfl rfl)
theorem dX1_unlike_100 : decode cX1_unlike 100 = .ok (.aload_n 2, 1) := dk_44 (dk_at dksX1_unlike_4 6 rfl rfl)
theorem dX1_unlike_101 : decode cX1_unlike 101 = .ok (.iload 7, 2) := dk_21 7 (dk_at dksX1_unlike_4 7 rfl rfl)
theorem dX1_unlike_103 : decode cX1_unlike 103 = .ok (.iaload, 1) := dk_46 (dk_at dksX1_unlike_4 9 rfl rfl)
theorem dX1_unlike_104 : decode cX1_unlike 104 = .ok (.ifCond .le 14, 3) := dk_158 0 14 (dk_at dksX1_unlike_4 10 rfl rfl)
theorem dX1_unlike_107 : decode cX1_unlike 107 = .ok (.aload_n 3, 1) := dk_45 (dk_at dksX1_unlike_4 13 rfl rfl)
theorem dX1_unlike_108 : decode cX1_unlike 108 = .ok (.iload 7, 2) := dk_21 7 (dk_at dksX1_unlike_4 14 rfl rfl)
theorem dX1_unlike_110 : decode cX1_unlike 110 = .ok (.iaload, 1) := dk_46 (dk_at dksX1_unlike_4 16 rfl rfl)
theorem dX1_unlike_111 : decode cX1_unlike 111 = .ok (.ifCond .le 7, 3) := dk_158 0 7 (dk_at dksX1_unlike_4 17 rfl rfl)
theorem dX1_unlike_114 : decode cX1_unlike 114 = .ok (.iconst 1, 1) := dk_4 (dk_at dksX1_unlike_4 20 rfl rfl)
theorem dX1_unlike_115 : decode cX1_unlike 115 = .ok (.goto 4, 3) := dk_167 0 4 (dk_at dksX1_unlike_4 21 rfl rfl)
theorem dX1_unlike_118 : decode cX1_unlike 118 = .ok (.iconst 0, 1) := dk_3 (dk_at dksX1_unlike_5 0 rfl rfl)
theorem dX1_unlike_119 : decode cX1_unlike 119 = .ok (.iadd, 1) := dk_96 (dk_at dksX1_unlike_5 1 rfl rfl)
theorem dX1_unlike_120 : decode cX1_unlike 120 = .ok (.istore 6, 2) := dk_54 6 (dk_at dksX1_unlike_5 2 rfl rfl)
theorem dX1_unlike_122 : decode cX1_unlike 122 = .ok (.iinc 7 1, 3) := dk_132 7 1 (dk_at dksX1_unlike_5 4 rfl rfl)
theorem dX1_unlike_125 : decode cX1_unlike 125 = .ok (.goto (-68), 3) := dk_167 255 188 (dk_at dksX1_unlike_5 7 rfl rfl)
theorem dX1_unlike_128 : decode cX1_unlike 128 = .ok (.iload 6, 2) := dk_21 6 (dk_at dksX1_unlike_5 10 rfl rfl)
theorem dX1_unlike_130 : decode cX1_unlike 130 = .ok (.ifCond .ne 7, 3) := dk_154 0 7 (dk_at dksX1_unlike_5 12 rfl rfl)
theorem dX1_unlike_133 : decode cX1_unlike 133 = .ok (.iconst (-1), 1) := dk_2 (dk_at dksX1_unlike_5 15 rfl rfl)
theorem dX1_unlike_134 : decode cX1_unlike 134 = .ok (.goto 18, 3) := dk_167 0 18 (dk_at dksX1_unlike_5 16 rfl rfl)
theorem dX1_unlike_137 : decode cX1_unlike 137 = .ok (.iload 4, 2) := dk_21 4 (dk_at dksX1_unlike_5 19 rfl rfl)
theorem dX1_unlike_139 : decode cX1_unlike 139 = .ok (.i2l, 1) := dk_133 (dk_at dksX1_unlike_5 21 rfl rfl)
theorem dX1_unlike_140 : decode cX1_unlike 140 = .ok (.iload 5, 2) := dk_21 5 (dk_at dksX1_unlike_5 22 rfl rfl)
theorem dX1_unlike_142 : decode cX1_unlike 142 = .ok (.i2l, 1) := dk_133 (dk_at dksX1_unlike_6 0 rfl rfl)
theorem dX1_unlike_143 : decode cX1_unlike 143 = .ok (.lmul, 1) := dk_105 (dk_at dksX1_unlike_6 1 rfl rfl)
theorem dX1_unlike_144 : decode cX1_unlike 144 = .ok (.iload 6, 2) := dk_21 6 (dk_at dksX1_unlike_6 2 rfl rfl)
theorem dX1_unlike_146 : decode cX1_unlike 146 = .ok (.i2l, 1) := dk_133 (dk_at dksX1_unlike_6 4 rfl rfl)
theorem dX1_unlike_147 : decode cX1_unlike 147 = .ok (.iload_n 1, 1) := dk_27 (dk_at dksX1_unlike_6 5 rfl rfl)
theorem dX1_unlike_148 : decode cX1_unlike 148 = .ok (.invokestatic 325, 3) := dk_184 1 69 (dk_at dksX1_unlike_6 6 rfl rfl)
theorem dX1_unlike_151 : decode cX1_unlike 151 = .ok (.l2i, 1) := dk_136 (dk_at dksX1_unlike_6 9 rfl rfl)
theorem dX1_unlike_152 : decode cX1_unlike 152 = .ok (.ireturn, 1) := dk_172 (dk_at dksX1_unlike_6 10 rfl rfl)
abbrev cX1_unseen : ByteArray := prog_1_method_46_code
def yX1_unseen : MethodName := ⟨RX1, "unseen", "(II)J"⟩
def dkwX1_unseen_7 : List UInt8 := [180, 0, 29, 29, 50, 27, 47, 28, 184, 1, 69, 173]
abbrev dktX1_unseen_7 : List UInt8 := dkwX1_unseen_7 ++ []
def dkwX1_unseen_6 : List UInt8 := [4, 100, 47, 105, 97, 80, 132, 11, 255, 167, 255, 229, 132, 9, 1, 167, 255, 205, 25, 5, 27, 47, 42]
abbrev dktX1_unseen_6 : List UInt8 := dkwX1_unseen_6 ++ dktX1_unseen_7
def dkwX1_unseen_5 : List UInt8 := [54, 10, 16, 40, 54, 11, 21, 11, 158, 0, 28, 25, 5, 21, 11, 92, 47, 21, 10, 133, 25, 5, 21, 11]
abbrev dktX1_unseen_5 : List UInt8 := dkwX1_unseen_5 ++ dktX1_unseen_6
def dkwX1_unseen_4 : List UInt8 := [25, 4, 58, 7, 25, 7, 190, 54, 8, 3, 54, 9, 21, 9, 21, 8, 162, 0, 50, 25, 7, 21, 9, 46]
abbrev dktX1_unseen_4 : List UInt8 := dkwX1_unseen_4 ++ dktX1_unseen_5
def dkwX1_unseen_3 : List UInt8 := [163, 0, 24, 25, 5, 21, 7, 42, 180, 0, 29, 21, 6, 50, 21, 7, 47, 80, 132, 7, 1, 167, 255, 231]
abbrev dktX1_unseen_3 : List UInt8 := dkwX1_unseen_3 ++ dktX1_unseen_4
def dkwX1_unseen_2 : List UInt8 := [58, 4, 16, 41, 188, 11, 58, 5, 29, 25, 4, 184, 1, 30, 100, 54, 6, 3, 54, 7, 21, 7, 21, 6]
abbrev dktX1_unseen_2 : List UInt8 := dkwX1_unseen_2 ++ dktX1_unseen_3
def dkwX1_unseen_1 : List UInt8 := [184, 0, 95, 153, 0, 7, 4, 167, 0, 4, 3, 182, 0, 99, 42, 180, 0, 54, 20, 1, 73, 182, 1, 26]
abbrev dktX1_unseen_1 : List UInt8 := dkwX1_unseen_1 ++ dktX1_unseen_2
def dkwX1_unseen_0 : List UInt8 := [42, 180, 0, 54, 182, 0, 122, 62, 42, 27, 133, 9, 29, 133, 184, 0, 95, 153, 0, 17, 28, 133, 9, 10]
abbrev dktX1_unseen_0 : List UInt8 := dkwX1_unseen_0 ++ dktX1_unseen_1
theorem dksX1_unseen_0 : cX1_unseen.data.toList.drop 0 = dktX1_unseen_0 := by decide +kernel
theorem dksX1_unseen_1 : cX1_unseen.data.toList.drop 24 = dktX1_unseen_1 := dk_seg dksX1_unseen_0 24 rfl rfl
theorem dksX1_unseen_2 : cX1_unseen.data.toList.drop 48 = dktX1_unseen_2 := dk_seg dksX1_unseen_1 24 rfl rfl
theorem dksX1_unseen_3 : cX1_unseen.data.toList.drop 72 = dktX1_unseen_3 := dk_seg dksX1_unseen_2 24 rfl rfl
theorem dksX1_unseen_4 : cX1_unseen.data.toList.drop 96 = dktX1_unseen_4 := dk_seg dksX1_unseen_3 24 rfl rfl
theorem dksX1_unseen_5 : cX1_unseen.data.toList.drop 120 = dktX1_unseen_5 := dk_seg dksX1_unseen_4 24 rfl rfl
theorem dksX1_unseen_6 : cX1_unseen.data.toList.drop 144 = dktX1_unseen_6 := dk_seg dksX1_unseen_5 24 rfl rfl
theorem dksX1_unseen_7 : cX1_unseen.data.toList.drop 167 = dktX1_unseen_7 := dk_seg dksX1_unseen_6 23 rfl rfl
theorem dX1_unseen_0 : decode cX1_unseen 0 = .ok (.aload_n 0, 1) := dk_42 (dk_at dksX1_unseen_0 0 rfl rfl)
theorem dX1_unseen_1 : decode cX1_unseen 1 = .ok (.getfield 54, 3) := dk_180 0 54 (dk_at dksX1_unseen_0 1 rfl rfl)
theorem dX1_unseen_4 : decode cX1_unseen 4 = .ok (.invokevirtual 122, 3) := dk_182 0 122 (dk_at dksX1_unseen_0 4 rfl rfl)
theorem dX1_unseen_7 : decode cX1_unseen 7 = .ok (.istore_n 3, 1) := dk_62 (dk_at dksX1_unseen_0 7 rfl rfl)
theorem dX1_unseen_8 : decode cX1_unseen 8 = .ok (.aload_n 0, 1) := dk_42 (dk_at dksX1_unseen_0 8 rfl rfl)
theorem dX1_unseen_9 : decode cX1_unseen 9 = .ok (.iload_n 1, 1) := dk_27 (dk_at dksX1_unseen_0 9 rfl rfl)
theorem dX1_unseen_10 : decode cX1_unseen 10 = .ok (.i2l, 1) := dk_133 (dk_at dksX1_unseen_0 10 rfl rfl)
theorem dX1_unseen_11 : decode cX1_unseen 11 = .ok (.lconst 0, 1) := dk_9 (dk_at dksX1_unseen_0 11 rfl rfl)
theorem dX1_unseen_12 : decode cX1_unseen 12 = .ok (.iload_n 3, 1) := dk_29 (dk_at dksX1_unseen_0 12 rfl rfl)
theorem dX1_unseen_13 : decode cX1_unseen 13 = .ok (.i2l, 1) := dk_133 (dk_at dksX1_unseen_0 13 rfl rfl)
theorem dX1_unseen_14 : decode cX1_unseen 14 = .ok (.invokestatic 95, 3) := dk_184 0 95 (dk_at dksX1_unseen_0 14 rfl rfl)
theorem dX1_unseen_17 : decode cX1_unseen 17 = .ok (.ifCond .eq 17, 3) := dk_153 0 17 (dk_at dksX1_unseen_0 17 rfl rfl)
theorem dX1_unseen_20 : decode cX1_unseen 20 = .ok (.iload_n 2, 1) := dk_28 (dk_at dksX1_unseen_0 20 rfl rfl)
theorem dX1_unseen_21 : decode cX1_unseen 21 = .ok (.i2l, 1) := dk_133 (dk_at dksX1_unseen_0 21 rfl rfl)
theorem dX1_unseen_22 : decode cX1_unseen 22 = .ok (.lconst 0, 1) := dk_9 (dk_at dksX1_unseen_0 22 rfl rfl)
theorem dX1_unseen_23 : decode cX1_unseen 23 = .ok (.lconst 1, 1) := dk_10 (dk_at dksX1_unseen_0 23 rfl rfl)
theorem dX1_unseen_24 : decode cX1_unseen 24 = .ok (.invokestatic 95, 3) := dk_184 0 95 (dk_at dksX1_unseen_1 0 rfl rfl)
theorem dX1_unseen_27 : decode cX1_unseen 27 = .ok (.ifCond .eq 7, 3) := dk_153 0 7 (dk_at dksX1_unseen_1 3 rfl rfl)
theorem dX1_unseen_30 : decode cX1_unseen 30 = .ok (.iconst 1, 1) := dk_4 (dk_at dksX1_unseen_1 6 rfl rfl)
theorem dX1_unseen_31 : decode cX1_unseen 31 = .ok (.goto 4, 3) := dk_167 0 4 (dk_at dksX1_unseen_1 7 rfl rfl)
theorem dX1_unseen_34 : decode cX1_unseen 34 = .ok (.iconst 0, 1) := dk_3 (dk_at dksX1_unseen_1 10 rfl rfl)
theorem dX1_unseen_35 : decode cX1_unseen 35 = .ok (.invokevirtual 99, 3) := dk_182 0 99 (dk_at dksX1_unseen_1 11 rfl rfl)
theorem dX1_unseen_38 : decode cX1_unseen 38 = .ok (.aload_n 0, 1) := dk_42 (dk_at dksX1_unseen_1 14 rfl rfl)
theorem dX1_unseen_39 : decode cX1_unseen 39 = .ok (.getfield 54, 3) := dk_180 0 54 (dk_at dksX1_unseen_1 15 rfl rfl)
theorem dX1_unseen_42 : decode cX1_unseen 42 = .ok (.ldc2_w 329, 3) := dk_20 1 73 (dk_at dksX1_unseen_1 18 rfl rfl)
theorem dX1_unseen_45 : decode cX1_unseen 45 = .ok (.invokevirtual 282, 3) := dk_182 1 26 (dk_at dksX1_unseen_1 21 rfl rfl)
theorem dX1_unseen_48 : decode cX1_unseen 48 = .ok (.astore 4, 2) := dk_58 4 (dk_at dksX1_unseen_2 0 rfl rfl)
theorem dX1_unseen_50 : decode cX1_unseen 50 = .ok (.bipush 41, 2) := dk_16 41 (dk_at dksX1_unseen_2 2 rfl rfl)
theorem dX1_unseen_52 : decode cX1_unseen 52 = .ok (.newarray .long, 2) := dk_188_11 (dk_at dksX1_unseen_2 4 rfl rfl)
theorem dX1_unseen_54 : decode cX1_unseen 54 = .ok (.astore 5, 2) := dk_58 5 (dk_at dksX1_unseen_2 6 rfl rfl)
theorem dX1_unseen_56 : decode cX1_unseen 56 = .ok (.iload_n 3, 1) := dk_29 (dk_at dksX1_unseen_2 8 rfl rfl)
theorem dX1_unseen_57 : decode cX1_unseen 57 = .ok (.aload 4, 2) := dk_25 4 (dk_at dksX1_unseen_2 9 rfl rfl)
theorem dX1_unseen_59 : decode cX1_unseen 59 = .ok (.invokestatic 286, 3) := dk_184 1 30 (dk_at dksX1_unseen_2 11 rfl rfl)
theorem dX1_unseen_62 : decode cX1_unseen 62 = .ok (.isub, 1) := dk_100 (dk_at dksX1_unseen_2 14 rfl rfl)
theorem dX1_unseen_63 : decode cX1_unseen 63 = .ok (.istore 6, 2) := dk_54 6 (dk_at dksX1_unseen_2 15 rfl rfl)
theorem dX1_unseen_65 : decode cX1_unseen 65 = .ok (.iconst 0, 1) := dk_3 (dk_at dksX1_unseen_2 17 rfl rfl)
theorem dX1_unseen_66 : decode cX1_unseen 66 = .ok (.istore 7, 2) := dk_54 7 (dk_at dksX1_unseen_2 18 rfl rfl)
theorem dX1_unseen_68 : decode cX1_unseen 68 = .ok (.iload 7, 2) := dk_21 7 (dk_at dksX1_unseen_2 20 rfl rfl)
theorem dX1_unseen_70 : decode cX1_unseen 70 = .ok (.iload 6, 2) := dk_21 6 (dk_at dksX1_unseen_2 22 rfl rfl)
theorem dX1_unseen_72 : decode cX1_unseen 72 = .ok (.if_icmp .gt 24, 3) := dk_163 0 24 (dk_at dksX1_unseen_3 0 rfl rfl)
theorem dX1_unseen_75 : decode cX1_unseen 75 = .ok (.aload 5, 2) := dk_25 5 (dk_at dksX1_unseen_3 3 rfl rfl)
theorem dX1_unseen_77 : decode cX1_unseen 77 = .ok (.iload 7, 2) := dk_21 7 (dk_at dksX1_unseen_3 5 rfl rfl)
theorem dX1_unseen_79 : decode cX1_unseen 79 = .ok (.aload_n 0, 1) := dk_42 (dk_at dksX1_unseen_3 7 rfl rfl)
theorem dX1_unseen_80 : decode cX1_unseen 80 = .ok (.getfield 29, 3) := dk_180 0 29 (dk_at dksX1_unseen_3 8 rfl rfl)
theorem dX1_unseen_83 : decode cX1_unseen 83 = .ok (.iload 6, 2) := dk_21 6 (dk_at dksX1_unseen_3 11 rfl rfl)
theorem dX1_unseen_85 : decode cX1_unseen 85 = .ok (.aaload, 1) := dk_50 (dk_at dksX1_unseen_3 13 rfl rfl)
theorem dX1_unseen_86 : decode cX1_unseen 86 = .ok (.iload 7, 2) := dk_21 7 (dk_at dksX1_unseen_3 14 rfl rfl)
theorem dX1_unseen_88 : decode cX1_unseen 88 = .ok (.laload, 1) := dk_47 (dk_at dksX1_unseen_3 16 rfl rfl)
theorem dX1_unseen_89 : decode cX1_unseen 89 = .ok (.lastore, 1) := dk_80 (dk_at dksX1_unseen_3 17 rfl rfl)
theorem dX1_unseen_90 : decode cX1_unseen 90 = .ok (.iinc 7 1, 3) := dk_132 7 1 (dk_at dksX1_unseen_3 18 rfl rfl)
theorem dX1_unseen_93 : decode cX1_unseen 93 = .ok (.goto (-25), 3) := dk_167 255 231 (dk_at dksX1_unseen_3 21 rfl rfl)
theorem dX1_unseen_96 : decode cX1_unseen 96 = .ok (.aload 4, 2) := dk_25 4 (dk_at dksX1_unseen_4 0 rfl rfl)
theorem dX1_unseen_98 : decode cX1_unseen 98 = .ok (.astore 7, 2) := dk_58 7 (dk_at dksX1_unseen_4 2 rfl rfl)
theorem dX1_unseen_100 : decode cX1_unseen 100 = .ok (.aload 7, 2) := dk_25 7 (dk_at dksX1_unseen_4 4 rfl rfl)
theorem dX1_unseen_102 : decode cX1_unseen 102 = .ok (.arraylength, 1) := dk_190 (dk_at dksX1_unseen_4 6 rfl rfl)
theorem dX1_unseen_103 : decode cX1_unseen 103 = .ok (.istore 8, 2) := dk_54 8 (dk_at dksX1_unseen_4 7 rfl rfl)
theorem dX1_unseen_105 : decode cX1_unseen 105 = .ok (.iconst 0, 1) := dk_3 (dk_at dksX1_unseen_4 9 rfl rfl)
theorem dX1_unseen_106 : decode cX1_unseen 106 = .ok (.istore 9, 2) := dk_54 9 (dk_at dksX1_unseen_4 10 rfl rfl)
theorem dX1_unseen_108 : decode cX1_unseen 108 = .ok (.iload 9, 2) := dk_21 9 (dk_at dksX1_unseen_4 12 rfl rfl)
theorem dX1_unseen_110 : decode cX1_unseen 110 = .ok (.iload 8, 2) := dk_21 8 (dk_at dksX1_unseen_4 14 rfl rfl)
theorem dX1_unseen_112 : decode cX1_unseen 112 = .ok (.if_icmp .ge 50, 3) := dk_162 0 50 (dk_at dksX1_unseen_4 16 rfl rfl)
theorem dX1_unseen_115 : decode cX1_unseen 115 = .ok (.aload 7, 2) := dk_25 7 (dk_at dksX1_unseen_4 19 rfl rfl)
theorem dX1_unseen_117 : decode cX1_unseen 117 = .ok (.iload 9, 2) := dk_21 9 (dk_at dksX1_unseen_4 21 rfl rfl)
theorem dX1_unseen_119 : decode cX1_unseen 119 = .ok (.iaload, 1) := dk_46 (dk_at dksX1_unseen_4 23 rfl rfl)
theorem dX1_unseen_120 : decode cX1_unseen 120 = .ok (.istore 10, 2) := dk_54 10 (dk_at dksX1_unseen_5 0 rfl rfl)
theorem dX1_unseen_122 : decode cX1_unseen 122 = .ok (.bipush 40, 2) := dk_16 40 (dk_at dksX1_unseen_5 2 rfl rfl)
theorem dX1_unseen_124 : decode cX1_unseen 124 = .ok (.istore 11, 2) := dk_54 11 (dk_at dksX1_unseen_5 4 rfl rfl)
theorem dX1_unseen_126 : decode cX1_unseen 126 = .ok (.iload 11, 2) := dk_21 11 (dk_at dksX1_unseen_5 6 rfl rfl)
theorem dX1_unseen_128 : decode cX1_unseen 128 = .ok (.ifCond .le 28, 3) := dk_158 0 28 (dk_at dksX1_unseen_5 8 rfl rfl)
theorem dX1_unseen_131 : decode cX1_unseen 131 = .ok (.aload 5, 2) := dk_25 5 (dk_at dksX1_unseen_5 11 rfl rfl)
theorem dX1_unseen_133 : decode cX1_unseen 133 = .ok (.iload 11, 2) := dk_21 11 (dk_at dksX1_unseen_5 13 rfl rfl)
theorem dX1_unseen_135 : decode cX1_unseen 135 = .ok (.dup2, 1) := dk_92 (dk_at dksX1_unseen_5 15 rfl rfl)
theorem dX1_unseen_136 : decode cX1_unseen 136 = .ok (.laload, 1) := dk_47 (dk_at dksX1_unseen_5 16 rfl rfl)
theorem dX1_unseen_137 : decode cX1_unseen 137 = .ok (.iload 10, 2) := dk_21 10 (dk_at dksX1_unseen_5 17 rfl rfl)
theorem dX1_unseen_139 : decode cX1_unseen 139 = .ok (.i2l, 1) := dk_133 (dk_at dksX1_unseen_5 19 rfl rfl)
theorem dX1_unseen_140 : decode cX1_unseen 140 = .ok (.aload 5, 2) := dk_25 5 (dk_at dksX1_unseen_5 20 rfl rfl)
theorem dX1_unseen_142 : decode cX1_unseen 142 = .ok (.iload 11, 2) := dk_21 11 (dk_at dksX1_unseen_5 22 rfl rfl)
theorem dX1_unseen_144 : decode cX1_unseen 144 = .ok (.iconst 1, 1) := dk_4 (dk_at dksX1_unseen_6 0 rfl rfl)
theorem dX1_unseen_145 : decode cX1_unseen 145 = .ok (.isub, 1) := dk_100 (dk_at dksX1_unseen_6 1 rfl rfl)
theorem dX1_unseen_146 : decode cX1_unseen 146 = .ok (.laload, 1) := dk_47 (dk_at dksX1_unseen_6 2 rfl rfl)
theorem dX1_unseen_147 : decode cX1_unseen 147 = .ok (.lmul, 1) := dk_105 (dk_at dksX1_unseen_6 3 rfl rfl)
theorem dX1_unseen_148 : decode cX1_unseen 148 = .ok (.ladd, 1) := dk_97 (dk_at dksX1_unseen_6 4 rfl rfl)
theorem dX1_unseen_149 : decode cX1_unseen 149 = .ok (.lastore, 1) := dk_80 (dk_at dksX1_unseen_6 5 rfl rfl)
theorem dX1_unseen_150 : decode cX1_unseen 150 = .ok (.iinc 11 (-1), 3) := dk_132 11 255 (dk_at dksX1_unseen_6 6 rfl rfl)
theorem dX1_unseen_153 : decode cX1_unseen 153 = .ok (.goto (-27), 3) := dk_167 255 229 (dk_at dksX1_unseen_6 9 rfl rfl)
theorem dX1_unseen_156 : decode cX1_unseen 156 = .ok (.iinc 9 1, 3) := dk_132 9 1 (dk_at dksX1_unseen_6 12 rfl rfl)
theorem dX1_unseen_159 : decode cX1_unseen 159 = .ok (.goto (-51), 3) := dk_167 255 205 (dk_at dksX1_unseen_6 15 rfl rfl)
theorem dX1_unseen_162 : decode cX1_unseen 162 = .ok (.aload 5, 2) := dk_25 5 (dk_at dksX1_unseen_6 18 rfl rfl)
theorem dX1_unseen_164 : decode cX1_unseen 164 = .ok (.iload_n 1, 1) := dk_27 (dk_at dksX1_unseen_6 20 rfl rfl)
theorem dX1_unseen_165 : decode cX1_unseen 165 = .ok (.laload, 1) := dk_47 (dk_at dksX1_unseen_6 21 rfl rfl)
theorem dX1_unseen_166 : decode cX1_unseen 166 = .ok (.aload_n 0, 1) := dk_42 (dk_at dksX1_unseen_6 22 rfl rfl)
theorem dX1_unseen_167 : decode cX1_unseen 167 = .ok (.getfield 29, 3) := dk_180 0 29 (dk_at dksX1_unseen_7 0 rfl rfl)
theorem dX1_unseen_170 : decode cX1_unseen 170 = .ok (.iload_n 3, 1) := dk_29 (dk_at dksX1_unseen_7 3 rfl rfl)
theorem dX1_unseen_171 : decode cX1_unseen 171 = .ok (.aaload, 1) := dk_50 (dk_at dksX1_unseen_7 4 rfl rfl)
theorem dX1_unseen_172 : decode cX1_unseen 172 = .ok (.iload_n 1, 1) := dk_27 (dk_at dksX1_unseen_7 5 rfl rfl)
theorem dX1_unseen_173 : decode cX1_unseen 173 = .ok (.laload, 1) := dk_47 (dk_at dksX1_unseen_7 6 rfl rfl)
theorem dX1_unseen_174 : decode cX1_unseen 174 = .ok (.iload_n 2, 1) := dk_28 (dk_at dksX1_unseen_7 7 rfl rfl)
theorem dX1_unseen_175 : decode cX1_unseen 175 = .ok (.invokestatic 325, 3) := dk_184 1 69 (dk_at dksX1_unseen_7 8 rfl rfl)
theorem dX1_unseen_178 : decode cX1_unseen 178 = .ok (.lreturn, 1) := dk_173 (dk_at dksX1_unseen_7 11 rfl rfl)
abbrev cX1_worst : ByteArray := prog_1_method_48_code
def yX1_worst : MethodName := ⟨RX1, "worst", "(II)I"⟩
def dkwX1_worst_5 : List UInt8 := [132, 6, 1, 167, 255, 183, 21, 4, 2, 159, 0, 7, 28, 154, 0, 8, 21, 4, 167, 0, 5, 21, 5, 172]
abbrev dktX1_worst_5 : List UInt8 := dkwX1_worst_5 ++ []
def dkwX1_worst_4 : List UInt8 := [21, 4, 2, 159, 0, 13, 21, 7, 21, 5, 161, 0, 6, 167, 0, 11, 21, 6, 54, 4, 21, 7, 54, 5]
abbrev dktX1_worst_4 : List UInt8 := dkwX1_worst_4 ++ dktX1_worst_5
def dkwX1_worst_3 : List UInt8 := [154, 0, 47, 21, 6, 184, 1, 75, 27, 159, 0, 6, 167, 0, 35, 42, 21, 6, 182, 1, 79, 54, 7]
abbrev dktX1_worst_3 : List UInt8 := dkwX1_worst_3 ++ dktX1_worst_4
def dkwX1_worst_2 : List UInt8 := [21, 6, 4, 42, 180, 0, 54, 180, 0, 145, 185, 0, 71, 1, 0, 120, 162, 0, 60, 21, 6, 29, 126]
abbrev dktX1_worst_2 : List UInt8 := dkwX1_worst_2 ++ dktX1_worst_3
def dkwX1_worst_1 : List UInt8 := [167, 0, 4, 3, 182, 0, 99, 42, 180, 0, 54, 182, 0, 225, 62, 2, 54, 4, 3, 54, 5, 3, 54, 6]
abbrev dktX1_worst_1 : List UInt8 := dkwX1_worst_1 ++ dktX1_worst_2
def dkwX1_worst_0 : List UInt8 := [42, 27, 133, 10, 20, 1, 3, 184, 0, 95, 153, 0, 17, 28, 133, 9, 10, 184, 0, 95, 153, 0, 7, 4]
abbrev dktX1_worst_0 : List UInt8 := dkwX1_worst_0 ++ dktX1_worst_1
theorem dksX1_worst_0 : cX1_worst.data.toList.drop 0 = dktX1_worst_0 := by decide +kernel
theorem dksX1_worst_1 : cX1_worst.data.toList.drop 24 = dktX1_worst_1 := dk_seg dksX1_worst_0 24 rfl rfl
theorem dksX1_worst_2 : cX1_worst.data.toList.drop 48 = dktX1_worst_2 := dk_seg dksX1_worst_1 24 rfl rfl
theorem dksX1_worst_3 : cX1_worst.data.toList.drop 71 = dktX1_worst_3 := dk_seg dksX1_worst_2 23 rfl rfl
theorem dksX1_worst_4 : cX1_worst.data.toList.drop 94 = dktX1_worst_4 := dk_seg dksX1_worst_3 23 rfl rfl
theorem dksX1_worst_5 : cX1_worst.data.toList.drop 118 = dktX1_worst_5 := dk_seg dksX1_worst_4 24 rfl rfl
theorem dX1_worst_0 : decode cX1_worst 0 = .ok (.aload_n 0, 1) := dk_42 (dk_at dksX1_worst_0 0 rfl rfl)
theorem dX1_worst_1 : decode cX1_worst 1 = .ok (.iload_n 1, 1) := dk_27 (dk_at dksX1_worst_0 1 rfl rfl)
theorem dX1_worst_2 : decode cX1_worst 2 = .ok (.i2l, 1) := dk_133 (dk_at dksX1_worst_0 2 rfl rfl)
theorem dX1_worst_3 : decode cX1_worst 3 = .ok (.lconst 1, 1) := dk_10 (dk_at dksX1_worst_0 3 rfl rfl)
theorem dX1_worst_4 : decode cX1_worst 4 = .ok (.ldc2_w 259, 3) := dk_20 1 3 (dk_at dksX1_worst_0 4 rfl rfl)
theorem dX1_worst_7 : decode cX1_worst 7 = .ok (.invokestatic 95, 3) := dk_184 0 95 (dk_at dksX1_worst_0 7 rfl rfl)
theorem dX1_worst_10 : decode cX1_worst 10 = .ok (.ifCond .eq 17, 3) := dk_153 0 17 (dk_at dksX1_worst_0 10 rfl rfl)
theorem dX1_worst_13 : decode cX1_worst 13 = .ok (.iload_n 2, 1) := dk_28 (dk_at dksX1_worst_0 13 rfl rfl)
theorem dX1_worst_14 : decode cX1_worst 14 = .ok (.i2l, 1) := dk_133 (dk_at dksX1_worst_0 14 rfl rfl)
theorem dX1_worst_15 : decode cX1_worst 15 = .ok (.lconst 0, 1) := dk_9 (dk_at dksX1_worst_0 15 rfl rfl)
theorem dX1_worst_16 : decode cX1_worst 16 = .ok (.lconst 1, 1) := dk_10 (dk_at dksX1_worst_0 16 rfl rfl)
theorem dX1_worst_17 : decode cX1_worst 17 = .ok (.invokestatic 95, 3) := dk_184 0 95 (dk_at dksX1_worst_0 17 rfl rfl)
theorem dX1_worst_20 : decode cX1_worst 20 = .ok (.ifCond .eq 7, 3) := dk_153 0 7 (dk_at dksX1_worst_0 20 rfl rfl)
theorem dX1_worst_23 : decode cX1_worst 23 = .ok (.iconst 1, 1) := dk_4 (dk_at dksX1_worst_0 23 rfl rfl)
theorem dX1_worst_24 : decode cX1_worst 24 = .ok (.goto 4, 3) := dk_167 0 4 (dk_at dksX1_worst_1 0 rfl rfl)
theorem dX1_worst_27 : decode cX1_worst 27 = .ok (.iconst 0, 1) := dk_3 (dk_at dksX1_worst_1 3 rfl rfl)
theorem dX1_worst_28 : decode cX1_worst 28 = .ok (.invokevirtual 99, 3) := dk_182 0 99 (dk_at dksX1_worst_1 4 rfl rfl)
theorem dX1_worst_31 : decode cX1_worst 31 = .ok (.aload_n 0, 1) := dk_42 (dk_at dksX1_worst_1 7 rfl rfl)
theorem dX1_worst_32 : decode cX1_worst 32 = .ok (.getfield 54, 3) := dk_180 0 54 (dk_at dksX1_worst_1 8 rfl rfl)
theorem dX1_worst_35 : decode cX1_worst 35 = .ok (.invokevirtual 225, 3) := dk_182 0 225 (dk_at dksX1_worst_1 11 rfl rfl)
theorem dX1_worst_38 : decode cX1_worst 38 = .ok (.istore_n 3, 1) := dk_62 (dk_at dksX1_worst_1 14 rfl rfl)
theorem dX1_worst_39 : decode cX1_worst 39 = .ok (.iconst (-1), 1) := dk_2 (dk_at dksX1_worst_1 15 rfl rfl)
theorem dX1_worst_40 : decode cX1_worst 40 = .ok (.istore 4, 2) := dk_54 4 (dk_at dksX1_worst_1 16 rfl rfl)
theorem dX1_worst_42 : decode cX1_worst 42 = .ok (.iconst 0, 1) := dk_3 (dk_at dksX1_worst_1 18 rfl rfl)
theorem dX1_worst_43 : decode cX1_worst 43 = .ok (.istore 5, 2) := dk_54 5 (dk_at dksX1_worst_1 19 rfl rfl)
theorem dX1_worst_45 : decode cX1_worst 45 = .ok (.iconst 0, 1) := dk_3 (dk_at dksX1_worst_1 21 rfl rfl)
theorem dX1_worst_46 : decode cX1_worst 46 = .ok (.istore 6, 2) := dk_54 6 (dk_at dksX1_worst_1 22 rfl rfl)
theorem dX1_worst_48 : decode cX1_worst 48 = .ok (.iload 6, 2) := dk_21 6 (dk_at dksX1_worst_2 0 rfl rfl)
theorem dX1_worst_50 : decode cX1_worst 50 = .ok (.iconst 1, 1) := dk_4 (dk_at dksX1_worst_2 2 rfl rfl)
theorem dX1_worst_51 : decode cX1_worst 51 = .ok (.aload_n 0, 1) := dk_42 (dk_at dksX1_worst_2 3 rfl rfl)
theorem dX1_worst_52 : decode cX1_worst 52 = .ok (.getfield 54, 3) := dk_180 0 54 (dk_at dksX1_worst_2 4 rfl rfl)
theorem dX1_worst_55 : decode cX1_worst 55 = .ok (.getfield 145, 3) := dk_180 0 145 (dk_at dksX1_worst_2 7 rfl rfl)
theorem dX1_worst_58 : decode cX1_worst 58 = .ok (.invokeinterface 71 1, 5) := by decide +kernel
theorem dX1_worst_63 : decode cX1_worst 63 = .ok (.ishl, 1) := dk_120 (dk_at dksX1_worst_2 15 rfl rfl)
theorem dX1_worst_64 : decode cX1_worst 64 = .ok (.if_icmp .ge 60, 3) := dk_162 0 60 (dk_at dksX1_worst_2 16 rfl rfl)
theorem dX1_worst_67 : decode cX1_worst 67 = .ok (.iload 6, 2) := dk_21 6 (dk_at dksX1_worst_2 19 rfl rfl)
theorem dX1_worst_69 : decode cX1_worst 69 = .ok (.iload_n 3, 1) := dk_29 (dk_at dksX1_worst_2 21 rfl rfl)
theorem dX1_worst_70 : decode cX1_worst 70 = .ok (.iand, 1) := dk_126 (dk_at dksX1_worst_2 22 rfl rfl)
theorem dX1_worst_71 : decode cX1_worst 71 = .ok (.ifCond .ne 47, 3) := dk_154 0 47 (dk_at dksX1_worst_3 0 rfl rfl)
theorem dX1_worst_74 : decode cX1_worst 74 = .ok (.iload 6, 2) := dk_21 6 (dk_at dksX1_worst_3 3 rfl rfl)
theorem dX1_worst_76 : decode cX1_worst 76 = .ok (.invokestatic 331, 3) := dk_184 1 75 (dk_at dksX1_worst_3 5 rfl rfl)
theorem dX1_worst_79 : decode cX1_worst 79 = .ok (.iload_n 1, 1) := dk_27 (dk_at dksX1_worst_3 8 rfl rfl)
theorem dX1_worst_80 : decode cX1_worst 80 = .ok (.if_icmp .eq 6, 3) := dk_159 0 6 (dk_at dksX1_worst_3 9 rfl rfl)
theorem dX1_worst_83 : decode cX1_worst 83 = .ok (.goto 35, 3) := dk_167 0 35 (dk_at dksX1_worst_3 12 rfl rfl)
theorem dX1_worst_86 : decode cX1_worst 86 = .ok (.aload_n 0, 1) := dk_42 (dk_at dksX1_worst_3 15 rfl rfl)
theorem dX1_worst_87 : decode cX1_worst 87 = .ok (.iload 6, 2) := dk_21 6 (dk_at dksX1_worst_3 16 rfl rfl)
theorem dX1_worst_89 : decode cX1_worst 89 = .ok (.invokevirtual 335, 3) := dk_182 1 79 (dk_at dksX1_worst_3 18 rfl rfl)
theorem dX1_worst_92 : decode cX1_worst 92 = .ok (.istore 7, 2) := dk_54 7 (dk_at dksX1_worst_3 21 rfl rfl)
theorem dX1_worst_94 : decode cX1_worst 94 = .ok (.iload 4, 2) := dk_21 4 (dk_at dksX1_worst_4 0 rfl rfl)
theorem dX1_worst_96 : decode cX1_worst 96 = .ok (.iconst (-1), 1) := dk_2 (dk_at dksX1_worst_4 2 rfl rfl)
theorem dX1_worst_97 : decode cX1_worst 97 = .ok (.if_icmp .eq 13, 3) := dk_159 0 13 (dk_at dksX1_worst_4 3 rfl rfl)
theorem dX1_worst_100 : decode cX1_worst 100 = .ok (.iload 7, 2) := dk_21 7 (dk_at dksX1_worst_4 6 rfl rfl)
theorem dX1_worst_102 : decode cX1_worst 102 = .ok (.iload 5, 2) := dk_21 5 (dk_at dksX1_worst_4 8 rfl rfl)
theorem dX1_worst_104 : decode cX1_worst 104 = .ok (.if_icmp .lt 6, 3) := dk_161 0 6 (dk_at dksX1_worst_4 10 rfl rfl)
theorem dX1_worst_107 : decode cX1_worst 107 = .ok (.goto 11, 3) := dk_167 0 11 (dk_at dksX1_worst_4 13 rfl rfl)
theorem dX1_worst_110 : decode cX1_worst 110 = .ok (.iload 6, 2) := dk_21 6 (dk_at dksX1_worst_4 16 rfl rfl)
theorem dX1_worst_112 : decode cX1_worst 112 = .ok (.istore 4, 2) := dk_54 4 (dk_at dksX1_worst_4 18 rfl rfl)
theorem dX1_worst_114 : decode cX1_worst 114 = .ok (.iload 7, 2) := dk_21 7 (dk_at dksX1_worst_4 20 rfl rfl)
theorem dX1_worst_116 : decode cX1_worst 116 = .ok (.istore 5, 2) := dk_54 5 (dk_at dksX1_worst_4 22 rfl rfl)
theorem dX1_worst_118 : decode cX1_worst 118 = .ok (.iinc 6 1, 3) := dk_132 6 1 (dk_at dksX1_worst_5 0 rfl rfl)
theorem dX1_worst_121 : decode cX1_worst 121 = .ok (.goto (-73), 3) := dk_167 255 183 (dk_at dksX1_worst_5 3 rfl rfl)
theorem dX1_worst_124 : decode cX1_worst 124 = .ok (.iload 4, 2) := dk_21 4 (dk_at dksX1_worst_5 6 rfl rfl)
theorem dX1_worst_126 : decode cX1_worst 126 = .ok (.iconst (-1), 1) := dk_2 (dk_at dksX1_worst_5 8 rfl rfl)
theorem dX1_worst_127 : decode cX1_worst 127 = .ok (.if_icmp .eq 7, 3) := dk_159 0 7 (dk_at dksX1_worst_5 9 rfl rfl)
theorem dX1_worst_130 : decode cX1_worst 130 = .ok (.iload_n 2, 1) := dk_28 (dk_at dksX1_worst_5 12 rfl rfl)
theorem dX1_worst_131 : decode cX1_worst 131 = .ok (.ifCond .ne 8, 3) := dk_154 0 8 (dk_at dksX1_worst_5 13 rfl rfl)
theorem dX1_worst_134 : decode cX1_worst 134 = .ok (.iload 4, 2) := dk_21 4 (dk_at dksX1_worst_5 16 rfl rfl)
theorem dX1_worst_136 : decode cX1_worst 136 = .ok (.goto 5, 3) := dk_167 0 5 (dk_at dksX1_worst_5 18 rfl rfl)
theorem dX1_worst_139 : decode cX1_worst 139 = .ok (.iload 5, 2) := dk_21 5 (dk_at dksX1_worst_5 21 rfl rfl)
theorem dX1_worst_141 : decode cX1_worst 141 = .ok (.ireturn, 1) := dk_172 (dk_at dksX1_worst_5 23 rfl rfl)
abbrev cX1_trueWithout : ByteArray := prog_1_method_49_code
def yX1_trueWithout : MethodName := ⟨RX1, "trueWithout", "(I)I"⟩
def dkwX1_trueWithout_3 : List UInt8 := [185, 1, 15, 2, 0, 120, 128, 61, 167, 255, 193, 28, 184, 1, 75, 172]
abbrev dktX1_trueWithout_3 : List UInt8 := dkwX1_trueWithout_3 ++ []
def dkwX1_trueWithout_2 : List UInt8 := [180, 1, 85, 184, 0, 141, 154, 0, 25, 28, 4, 42, 180, 0, 54, 180, 0, 164, 25, 4, 180, 0, 246]
abbrev dktX1_trueWithout_2 : List UInt8 := dkwX1_trueWithout_2 ++ dktX1_trueWithout_3
def dkwX1_trueWithout_1 : List UInt8 := [185, 0, 242, 1, 0, 192, 0, 162, 58, 4, 25, 4, 182, 1, 82, 153, 0, 38, 27, 133, 25, 4]
abbrev dktX1_trueWithout_1 : List UInt8 := dkwX1_trueWithout_1 ++ dktX1_trueWithout_2
def dkwX1_trueWithout_0 : List UInt8 := [3, 61, 42, 180, 0, 54, 182, 0, 233, 78, 45, 185, 0, 237, 1, 0, 153, 0, 60, 45]
abbrev dktX1_trueWithout_0 : List UInt8 := dkwX1_trueWithout_0 ++ dktX1_trueWithout_1
theorem dksX1_trueWithout_0 : cX1_trueWithout.data.toList.drop 0 = dktX1_trueWithout_0 := by decide +kernel
theorem dksX1_trueWithout_1 : cX1_trueWithout.data.toList.drop 20 = dktX1_trueWithout_1 := dk_seg dksX1_trueWithout_0 20 rfl rfl
theorem dksX1_trueWithout_2 : cX1_trueWithout.data.toList.drop 42 = dktX1_trueWithout_2 := dk_seg dksX1_trueWithout_1 22 rfl rfl
theorem dksX1_trueWithout_3 : cX1_trueWithout.data.toList.drop 65 = dktX1_trueWithout_3 := dk_seg dksX1_trueWithout_2 23 rfl rfl
theorem dX1_trueWithout_0 : decode cX1_trueWithout 0 = .ok (.iconst 0, 1) := dk_3 (dk_at dksX1_trueWithout_0 0 rfl rfl)
theorem dX1_trueWithout_1 : decode cX1_trueWithout 1 = .ok (.istore_n 2, 1) := dk_61 (dk_at dksX1_trueWithout_0 1 rfl rfl)
theorem dX1_trueWithout_2 : decode cX1_trueWithout 2 = .ok (.aload_n 0, 1) := dk_42 (dk_at dksX1_trueWithout_0 2 rfl rfl)
theorem dX1_trueWithout_3 : decode cX1_trueWithout 3 = .ok (.getfield 54, 3) := dk_180 0 54 (dk_at dksX1_trueWithout_0 3 rfl rfl)
theorem dX1_trueWithout_6 : decode cX1_trueWithout 6 = .ok (.invokevirtual 233, 3) := dk_182 0 233 (dk_at dksX1_trueWithout_0 6 rfl rfl)
theorem dX1_trueWithout_9 : decode cX1_trueWithout 9 = .ok (.astore_n 3, 1) := dk_78 (dk_at dksX1_trueWithout_0 9 rfl rfl)
theorem dX1_trueWithout_10 : decode cX1_trueWithout 10 = .ok (.aload_n 3, 1) := dk_45 (dk_at dksX1_trueWithout_0 10 rfl rfl)
theorem dX1_trueWithout_11 : decode cX1_trueWithout 11 = .ok (.invokeinterface 237 1, 5) := by decide +kernel
theorem dX1_trueWithout_16 : decode cX1_trueWithout 16 = .ok (.ifCond .eq 60, 3) := dk_153 0 60 (dk_at dksX1_trueWithout_0 16 rfl rfl)
theorem dX1_trueWithout_19 : decode cX1_trueWithout 19 = .ok (.aload_n 3, 1) := dk_45 (dk_at dksX1_trueWithout_0 19 rfl rfl)
theorem dX1_trueWithout_20 : decode cX1_trueWithout 20 = .ok (.invokeinterface 242 1, 5) := by decide +kernel
theorem dX1_trueWithout_25 : decode cX1_trueWithout 25 = .ok (.checkcast 162, 3) := dk_192 0 162 (dk_at dksX1_trueWithout_1 5 rfl rfl)
theorem dX1_trueWithout_28 : decode cX1_trueWithout 28 = .ok (.astore 4, 2) := dk_58 4 (dk_at dksX1_trueWithout_1 8 rfl rfl)
theorem dX1_trueWithout_30 : decode cX1_trueWithout 30 = .ok (.aload 4, 2) := dk_25 4 (dk_at dksX1_trueWithout_1 10 rfl rfl)
theorem dX1_trueWithout_32 : decode cX1_trueWithout 32 = .ok (.invokevirtual 338, 3) := dk_182 1 82 (dk_at dksX1_trueWithout_1 12 rfl rfl)
theorem dX1_trueWithout_35 : decode cX1_trueWithout 35 = .ok (.ifCond .eq 38, 3) := dk_153 0 38 (dk_at dksX1_trueWithout_1 15 rfl rfl)
theorem dX1_trueWithout_38 : decode cX1_trueWithout 38 = .ok (.iload_n 1, 1) := dk_27 (dk_at dksX1_trueWithout_1 18 rfl rfl)
theorem dX1_trueWithout_39 : decode cX1_trueWithout 39 = .ok (.i2l, 1) := dk_133 (dk_at dksX1_trueWithout_1 19 rfl rfl)
theorem dX1_trueWithout_40 : decode cX1_trueWithout 40 = .ok (.aload 4, 2) := dk_25 4 (dk_at dksX1_trueWithout_1 20 rfl rfl)
theorem dX1_trueWithout_42 : decode cX1_trueWithout 42 = .ok (.getfield 341, 3) := dk_180 1 85 (dk_at dksX1_trueWithout_2 0 rfl rfl)
theorem dX1_trueWithout_45 : decode cX1_trueWithout 45 = .ok (.invokestatic 141, 3) := dk_184 0 141 (dk_at dksX1_trueWithout_2 3 rfl rfl)
theorem dX1_trueWithout_48 : decode cX1_trueWithout 48 = .ok (.ifCond .ne 25, 3) := dk_154 0 25 (dk_at dksX1_trueWithout_2 6 rfl rfl)
theorem dX1_trueWithout_51 : decode cX1_trueWithout 51 = .ok (.iload_n 2, 1) := dk_28 (dk_at dksX1_trueWithout_2 9 rfl rfl)
theorem dX1_trueWithout_52 : decode cX1_trueWithout 52 = .ok (.iconst 1, 1) := dk_4 (dk_at dksX1_trueWithout_2 10 rfl rfl)
theorem dX1_trueWithout_53 : decode cX1_trueWithout 53 = .ok (.aload_n 0, 1) := dk_42 (dk_at dksX1_trueWithout_2 11 rfl rfl)
theorem dX1_trueWithout_54 : decode cX1_trueWithout 54 = .ok (.getfield 54, 3) := dk_180 0 54 (dk_at dksX1_trueWithout_2 12 rfl rfl)
theorem dX1_trueWithout_57 : decode cX1_trueWithout 57 = .ok (.getfield 164, 3) := dk_180 0 164 (dk_at dksX1_trueWithout_2 15 rfl rfl)
theorem dX1_trueWithout_60 : decode cX1_trueWithout 60 = .ok (.aload 4, 2) := dk_25 4 (dk_at dksX1_trueWithout_2 18 rfl rfl)
theorem dX1_trueWithout_62 : decode cX1_trueWithout 62 = .ok (.getfield 246, 3) := dk_180 0 246 (dk_at dksX1_trueWithout_2 20 rfl rfl)
theorem dX1_trueWithout_65 : decode cX1_trueWithout 65 = .ok (.invokeinterface 271 2, 5) := by decide +kernel
theorem dX1_trueWithout_70 : decode cX1_trueWithout 70 = .ok (.ishl, 1) := dk_120 (dk_at dksX1_trueWithout_3 5 rfl rfl)
theorem dX1_trueWithout_71 : decode cX1_trueWithout 71 = .ok (.ior, 1) := dk_128 (dk_at dksX1_trueWithout_3 6 rfl rfl)
theorem dX1_trueWithout_72 : decode cX1_trueWithout 72 = .ok (.istore_n 2, 1) := dk_61 (dk_at dksX1_trueWithout_3 7 rfl rfl)
theorem dX1_trueWithout_73 : decode cX1_trueWithout 73 = .ok (.goto (-63), 3) := dk_167 255 193 (dk_at dksX1_trueWithout_3 8 rfl rfl)
theorem dX1_trueWithout_76 : decode cX1_trueWithout 76 = .ok (.iload_n 2, 1) := dk_28 (dk_at dksX1_trueWithout_3 11 rfl rfl)
theorem dX1_trueWithout_77 : decode cX1_trueWithout 77 = .ok (.invokestatic 331, 3) := dk_184 1 75 (dk_at dksX1_trueWithout_3 12 rfl rfl)
theorem dX1_trueWithout_80 : decode cX1_trueWithout 80 = .ok (.ireturn, 1) := dk_172 (dk_at dksX1_trueWithout_3 15 rfl rfl)
abbrev cX1_cost : ByteArray := prog_1_method_50_code
def yX1_cost : MethodName := ⟨RX1, "cost", "(I)I"⟩
def dkwX1_cost_1 : List UInt8 := [172, 77, 42, 3, 182, 0, 99, 2, 172]
abbrev dktX1_cost_1 : List UInt8 := dkwX1_cost_1 ++ []
def dkwX1_cost_0 : List UInt8 := [42, 27, 155, 0, 7, 4, 167, 0, 4, 3, 182, 0, 99, 27, 42, 180, 0, 54, 182, 0, 122, 184, 1, 88]
abbrev dktX1_cost_0 : List UInt8 := dkwX1_cost_0 ++ dktX1_cost_1
theorem dksX1_cost_0 : cX1_cost.data.toList.drop 0 = dktX1_cost_0 := by decide +kernel
theorem dksX1_cost_1 : cX1_cost.data.toList.drop 24 = dktX1_cost_1 := dk_seg dksX1_cost_0 24 rfl rfl
theorem dX1_cost_0 : decode cX1_cost 0 = .ok (.aload_n 0, 1) := dk_42 (dk_at dksX1_cost_0 0 rfl rfl)
theorem dX1_cost_1 : decode cX1_cost 1 = .ok (.iload_n 1, 1) := dk_27 (dk_at dksX1_cost_0 1 rfl rfl)
theorem dX1_cost_2 : decode cX1_cost 2 = .ok (.ifCond .lt 7, 3) := dk_155 0 7 (dk_at dksX1_cost_0 2 rfl rfl)
theorem dX1_cost_5 : decode cX1_cost 5 = .ok (.iconst 1, 1) := dk_4 (dk_at dksX1_cost_0 5 rfl rfl)
theorem dX1_cost_6 : decode cX1_cost 6 = .ok (.goto 4, 3) := dk_167 0 4 (dk_at dksX1_cost_0 6 rfl rfl)
theorem dX1_cost_9 : decode cX1_cost 9 = .ok (.iconst 0, 1) := dk_3 (dk_at dksX1_cost_0 9 rfl rfl)
theorem dX1_cost_10 : decode cX1_cost 10 = .ok (.invokevirtual 99, 3) := dk_182 0 99 (dk_at dksX1_cost_0 10 rfl rfl)
theorem dX1_cost_13 : decode cX1_cost 13 = .ok (.iload_n 1, 1) := dk_27 (dk_at dksX1_cost_0 13 rfl rfl)
theorem dX1_cost_14 : decode cX1_cost 14 = .ok (.aload_n 0, 1) := dk_42 (dk_at dksX1_cost_0 14 rfl rfl)
theorem dX1_cost_15 : decode cX1_cost 15 = .ok (.getfield 54, 3) := dk_180 0 54 (dk_at dksX1_cost_0 15 rfl rfl)
theorem dX1_cost_18 : decode cX1_cost 18 = .ok (.invokevirtual 122, 3) := dk_182 0 122 (dk_at dksX1_cost_0 18 rfl rfl)
theorem dX1_cost_21 : decode cX1_cost 21 = .ok (.invokestatic 344, 3) := dk_184 1 88 (dk_at dksX1_cost_0 21 rfl rfl)
theorem dX1_cost_24 : decode cX1_cost 24 = .ok (.ireturn, 1) := dk_172 (dk_at dksX1_cost_1 0 rfl rfl)
theorem dX1_cost_25 : decode cX1_cost 25 = .ok (.astore_n 2, 1) := dk_77 (dk_at dksX1_cost_1 1 rfl rfl)
theorem dX1_cost_26 : decode cX1_cost 26 = .ok (.aload_n 0, 1) := dk_42 (dk_at dksX1_cost_1 2 rfl rfl)
theorem dX1_cost_27 : decode cX1_cost 27 = .ok (.iconst 0, 1) := dk_3 (dk_at dksX1_cost_1 3 rfl rfl)
theorem dX1_cost_28 : decode cX1_cost 28 = .ok (.invokevirtual 99, 3) := dk_182 0 99 (dk_at dksX1_cost_1 4 rfl rfl)
theorem dX1_cost_31 : decode cX1_cost 31 = .ok (.iconst (-1), 1) := dk_2 (dk_at dksX1_cost_1 7 rfl rfl)
theorem dX1_cost_32 : decode cX1_cost 32 = .ok (.ireturn, 1) := dk_172 (dk_at dksX1_cost_1 8 rfl rfl)
theorem q89 : (Jvm.Cond.initialized "PetitionDesk") ∈ lw_all := lw_g (lw_at lw_m1 1 rfl) rfl
theorem q125 : (Jvm.Cond.instantiable "PetitionDesk" (7 : Nat)) ∈ lw_all := lw_g (lw_at lw_m1 37 rfl) rfl
theorem q127 : (Jvm.Cond.instanceMethod ({ cls := "PetitionDesk", name := "<init>", desc := "()V" } : Jvm.MethodName)) ∈ lw_all := lw_g (lw_at lw_m1 39 rfl) rfl
theorem q128 : (Jvm.Cond.code ({ cls := "PetitionDesk", name := "<init>", desc := "()V" } : Jvm.MethodName) prog_1_method_8_code (3 : Nat) (Option.none : Option Jvm.ClassFile.FieldType)) ∈ lw_all := lw_g (lw_at lw_m1 40 rfl) rfl
theorem q129 : (Jvm.Cond.methodLink "PetitionDesk" (21 : Nat) ({ cls := "java/lang/Object", name := "<init>", desc := "()V" } : Jvm.MethodName)) ∈ lw_all := lw_g (lw_at lw_m1 41 rfl) rfl
theorem q132 : (Jvm.Cond.classLink "PetitionDesk" (27 : Nat) "[[J") ∈ lw_all := lw_g (lw_at lw_m1 44 rfl) rfl
theorem q134 : (Jvm.Cond.classLink "PetitionDesk" (40 : Nat) "java/util/ArrayList") ∈ lw_all := lw_g (lw_at lw_m1 46 rfl) rfl
theorem q136 : (Jvm.Cond.methodLink "PetitionDesk" (42 : Nat) ({ cls := "java/util/ArrayList", name := "<init>", desc := "()V" } : Jvm.MethodName)) ∈ lw_all := lw_g (lw_at lw_m1 48 rfl) rfl
theorem q166 : (Jvm.Cond.classLink "PetitionDesk" (47 : Nat) "PetitionDesk$Petition") ∈ lw_all := lw_g (lw_at lw_m1 78 rfl) rfl
theorem q168 : (Jvm.Cond.methodLink "PetitionDesk" (49 : Nat) ({ cls := "PetitionDesk$Petition", name := "<init>", desc := "()V" } : Jvm.MethodName)) ∈ lw_all := lw_g (lw_at lw_m1 80 rfl) rfl
theorem q179 : (Jvm.Cond.fieldLinkNest "PetitionDesk" (164 : Nat) "PetitionDesk$Petition" "roll" "Ljava/util/List;" "PetitionDesk") ∈ lw_tbl := lw_at lw_m1 91 rfl
theorem q183 : (Jvm.Cond.fieldLinkNest "PetitionDesk" (145 : Nat) "PetitionDesk$Petition" "sheets" "Ljava/util/List;" "PetitionDesk") ∈ lw_tbl := lw_at lw_m1 95 rfl
theorem q185 : (Jvm.Cond.fieldLinkNest "PetitionDesk" (133 : Nat) "PetitionDesk$Petition" "samples" "[J" "PetitionDesk") ∈ lw_tbl := lw_at lw_m1 97 rfl
theorem q188 : (Jvm.Cond.fieldLinkNest "PetitionDesk" (211 : Nat) "PetitionDesk$Petition" "need" "I" "PetitionDesk") ∈ lw_tbl := lw_at lw_m1 100 rfl
theorem q191 : (Jvm.Cond.fieldLinkNest "PetitionDesk" (213 : Nat) "PetitionDesk$Petition" "first" "I" "PetitionDesk") ∈ lw_tbl := lw_at lw_m1 103 rfl
theorem q194 : (Jvm.Cond.fieldLinkNest "PetitionDesk" (216 : Nat) "PetitionDesk$Petition" "last" "I" "PetitionDesk") ∈ lw_tbl := lw_at lw_m1 106 rfl
theorem q197 : (Jvm.Cond.fieldLinkNest "PetitionDesk" (219 : Nat) "PetitionDesk$Petition" "spoilt" "I" "PetitionDesk") ∈ lw_tbl := lw_at lw_m1 109 rfl
theorem q200 : (Jvm.Cond.fieldLinkNest "PetitionDesk" (222 : Nat) "PetitionDesk$Petition" "alpha" "I" "PetitionDesk") ∈ lw_tbl := lw_at lw_m1 112 rfl
theorem q222 : (Jvm.Cond.methodLink "PetitionDesk" (50 : Nat) ({ cls := "PetitionDesk$Petition", name := "ends", desc := "()LPetitionDesk$Petition;" } : Jvm.MethodName)) ∈ lw_all := lw_g (lw_at lw_m1 134 rfl) rfl
theorem q403 : (Jvm.Cond.static ({ cls := "PetitionDesk", name := "isIn", desc := "(JJJ)Z" } : Jvm.MethodName)) ∈ lw_all := lw_g (lw_at lw_m2 75 rfl) rfl
theorem q404 : (Jvm.Cond.code ({ cls := "PetitionDesk", name := "isIn", desc := "(JJJ)Z" } : Jvm.MethodName) prog_1_method_1_code (6 : Nat) (Option.some Jvm.ClassFile.FieldType.boolean)) ∈ lw_all := lw_g (lw_at lw_m2 76 rfl) rfl
theorem q486 : (Jvm.Cond.selects "PetitionDesk" ({ cls := "java/lang/Object", name := "equals", desc := "(Ljava/lang/Object;)Z" } : Jvm.MethodName) ({ cls := "java/lang/Object", name := "equals", desc := "(Ljava/lang/Object;)Z" } : Jvm.MethodName)) ∈ lw_all := lw_g (lw_at lw_m2 158 rfl) rfl
theorem q515 : (Jvm.Cond.fieldLink "PetitionDesk" (29 : Nat) "PetitionDesk" "ways" "[[J") ∈ lw_all := lw_g (lw_at lw_m2 187 rfl) rfl
theorem q517 : (Jvm.Cond.fieldLink "PetitionDesk" (32 : Nat) "PetitionDesk" "tape" "[B") ∈ lw_all := lw_g (lw_at lw_m2 189 rfl) rfl
theorem q518 : (Jvm.Cond.fieldLink "PetitionDesk" (36 : Nat) "PetitionDesk" "refused" "[I") ∈ lw_all := lw_g (lw_at lw_m2 190 rfl) rfl
theorem q519 : (Jvm.Cond.fieldLink "PetitionDesk" (43 : Nat) "PetitionDesk" "kept" "Ljava/util/List;") ∈ lw_all := lw_g (lw_at lw_m2 191 rfl) rfl
theorem q520 : (Jvm.Cond.fieldLink "PetitionDesk" (54 : Nat) "PetitionDesk" "now" "LPetitionDesk$Petition;") ∈ lw_all := lw_g (lw_at lw_m2 192 rfl) rfl
theorem q521 : (Jvm.Cond.fieldLink "PetitionDesk" (88 : Nat) "PetitionDesk" "taped" "I") ∈ lw_all := lw_g (lw_at lw_m2 193 rfl) rfl
theorem q522 : (Jvm.Cond.fieldLink "PetitionDesk" (58 : Nat) "PetitionDesk" "faultAt" "I") ∈ lw_all := lw_g (lw_at lw_m2 194 rfl) rfl
theorem q523 : (Jvm.Cond.laysFinal "PetitionDesk" "PetitionDesk" "ways" "[[J") ∈ lw_all := lw_g (lw_at lw_m2 195 rfl) rfl
theorem q524 : (Jvm.Cond.soleField "PetitionDesk" "ways") ∈ lw_all := lw_g (lw_at lw_m2 196 rfl) rfl
theorem q525 : (Jvm.Cond.laysFinal "PetitionDesk" "PetitionDesk" "tape" "[B") ∈ lw_all := lw_g (lw_at lw_m2 197 rfl) rfl
theorem q526 : (Jvm.Cond.soleField "PetitionDesk" "tape") ∈ lw_all := lw_g (lw_at lw_m2 198 rfl) rfl
theorem q527 : (Jvm.Cond.laysFinal "PetitionDesk" "PetitionDesk" "refused" "[I") ∈ lw_all := lw_g (lw_at lw_m2 199 rfl) rfl
theorem q528 : (Jvm.Cond.soleField "PetitionDesk" "refused") ∈ lw_all := lw_g (lw_at lw_m2 200 rfl) rfl
theorem q529 : (Jvm.Cond.laysFinal "PetitionDesk" "PetitionDesk" "kept" "Ljava/util/List;") ∈ lw_all := lw_g (lw_at lw_m2 201 rfl) rfl
theorem q530 : (Jvm.Cond.soleField "PetitionDesk" "kept") ∈ lw_all := lw_g (lw_at lw_m2 202 rfl) rfl
theorem q531 : (Jvm.Cond.lays "PetitionDesk" "PetitionDesk" "now" "LPetitionDesk$Petition;") ∈ lw_all := lw_g (lw_at lw_m2 203 rfl) rfl
theorem q532 : (Jvm.Cond.soleField "PetitionDesk" "now") ∈ lw_all := lw_g (lw_at lw_m2 204 rfl) rfl
theorem q533 : (Jvm.Cond.lays "PetitionDesk" "PetitionDesk" "taped" "I") ∈ lw_all := lw_g (lw_at lw_m2 205 rfl) rfl
theorem q534 : (Jvm.Cond.soleField "PetitionDesk" "taped") ∈ lw_all := lw_g (lw_at lw_m2 206 rfl) rfl
theorem q535 : (Jvm.Cond.lays "PetitionDesk" "PetitionDesk" "faultAt" "I") ∈ lw_all := lw_g (lw_at lw_m2 207 rfl) rfl
theorem q536 : (Jvm.Cond.soleField "PetitionDesk" "faultAt") ∈ lw_all := lw_g (lw_at lw_m2 208 rfl) rfl
theorem q537 : (Jvm.Cond.superclass "PetitionDesk" "java/lang/Object") ∈ lw_all := lw_g (lw_at lw_m2 209 rfl) rfl
theorem q539 : (Jvm.Cond.instanceMethod ({ cls := "PetitionDesk", name := "feed", desc := "(IIIII)I" } : Jvm.MethodName)) ∈ lw_all := lw_g (lw_at lw_m2 211 rfl) rfl
theorem q540 : (Jvm.Cond.selects "PetitionDesk" ({ cls := "PetitionDesk", name := "feed", desc := "(IIIII)I" } : Jvm.MethodName) ({ cls := "PetitionDesk", name := "feed", desc := "(IIIII)I" } : Jvm.MethodName)) ∈ lw_all := lw_g (lw_at lw_m2 212 rfl) rfl
theorem q541 : (Jvm.Cond.code ({ cls := "PetitionDesk", name := "feed", desc := "(IIIII)I" } : Jvm.MethodName) prog_1_method_13_code (6 : Nat) (Option.some Jvm.ClassFile.FieldType.int)) ∈ lw_all := lw_g (lw_at lw_m2 213 rfl) rfl
theorem q542 : (Jvm.Cond.methodLink "PetitionDesk" (91 : Nat) ({ cls := "PetitionDesk", name := "put", desc := "(I)V" } : Jvm.MethodName)) ∈ lw_all := lw_g (lw_at lw_m2 214 rfl) rfl
theorem q543 : (Jvm.Cond.privateMethod ({ cls := "PetitionDesk", name := "put", desc := "(I)V" } : Jvm.MethodName)) ∈ lw_tbl := lw_at lw_m2 215 rfl
theorem q544 : (Jvm.Cond.instanceMethod ({ cls := "PetitionDesk", name := "put", desc := "(I)V" } : Jvm.MethodName)) ∈ lw_all := lw_g (lw_at lw_m2 216 rfl) rfl
theorem q545 : (Jvm.Cond.code ({ cls := "PetitionDesk", name := "put", desc := "(I)V" } : Jvm.MethodName) prog_1_method_14_code (3 : Nat) (Option.none : Option Jvm.ClassFile.FieldType)) ∈ lw_all := lw_g (lw_at lw_m2 217 rfl) rfl
theorem q547 : (Jvm.Cond.instanceMethod ({ cls := "PetitionDesk", name := "fault", desc := "()I" } : Jvm.MethodName)) ∈ lw_all := lw_g (lw_at lw_m2 219 rfl) rfl
theorem q548 : (Jvm.Cond.selects "PetitionDesk" ({ cls := "PetitionDesk", name := "fault", desc := "()I" } : Jvm.MethodName) ({ cls := "PetitionDesk", name := "fault", desc := "()I" } : Jvm.MethodName)) ∈ lw_all := lw_g (lw_at lw_m2 220 rfl) rfl
theorem q549 : (Jvm.Cond.code ({ cls := "PetitionDesk", name := "fault", desc := "()I" } : Jvm.MethodName) prog_1_method_16_code (1 : Nat) (Option.some Jvm.ClassFile.FieldType.int)) ∈ lw_all := lw_g (lw_at lw_m2 221 rfl) rfl
theorem q551 : (Jvm.Cond.instanceMethod ({ cls := "PetitionDesk", name := "undo", desc := "()I" } : Jvm.MethodName)) ∈ lw_all := lw_g (lw_at lw_m2 223 rfl) rfl
theorem q552 : (Jvm.Cond.selects "PetitionDesk" ({ cls := "PetitionDesk", name := "undo", desc := "()I" } : Jvm.MethodName) ({ cls := "PetitionDesk", name := "undo", desc := "()I" } : Jvm.MethodName)) ∈ lw_all := lw_g (lw_at lw_m2 224 rfl) rfl
theorem q553 : (Jvm.Cond.code ({ cls := "PetitionDesk", name := "undo", desc := "()I" } : Jvm.MethodName) prog_1_method_27_code (1 : Nat) (Option.some Jvm.ClassFile.FieldType.int)) ∈ lw_all := lw_g (lw_at lw_m2 225 rfl) rfl
theorem q554 : (Jvm.Cond.interfaceEntry "PetitionDesk" (205 : Nat)) ∈ lw_tbl := lw_at lw_m2 226 rfl
theorem q555 : (Jvm.Cond.methodLink "PetitionDesk" (205 : Nat) ({ cls := "java/util/List", name := "isEmpty", desc := "()Z" } : Jvm.MethodName)) ∈ lw_all := lw_g (lw_at lw_m2 227 rfl) rfl
theorem q556 : (Jvm.Cond.interfaceEntry "PetitionDesk" (71 : Nat)) ∈ lw_tbl := lw_at lw_m2 228 rfl
theorem q557 : (Jvm.Cond.methodLink "PetitionDesk" (71 : Nat) ({ cls := "java/util/List", name := "size", desc := "()I" } : Jvm.MethodName)) ∈ lw_all := lw_g (lw_at lw_m2 229 rfl) rfl
theorem q558 : (Jvm.Cond.interfaceEntry "PetitionDesk" (77 : Nat)) ∈ lw_tbl := lw_at lw_m2 230 rfl
theorem q559 : (Jvm.Cond.methodLink "PetitionDesk" (77 : Nat) ({ cls := "java/util/List", name := "remove", desc := "(I)Ljava/lang/Object;" } : Jvm.MethodName)) ∈ lw_all := lw_g (lw_at lw_m2 231 rfl) rfl
theorem q575 : (Jvm.Cond.instanceMethod ({ cls := "PetitionDesk", name := "passes", desc := "()I" } : Jvm.MethodName)) ∈ lw_all := lw_g (lw_at lw_m3 7 rfl) rfl
theorem q576 : (Jvm.Cond.selects "PetitionDesk" ({ cls := "PetitionDesk", name := "passes", desc := "()I" } : Jvm.MethodName) ({ cls := "PetitionDesk", name := "passes", desc := "()I" } : Jvm.MethodName)) ∈ lw_all := lw_g (lw_at lw_m3 8 rfl) rfl
theorem q577 : (Jvm.Cond.code ({ cls := "PetitionDesk", name := "passes", desc := "()I" } : Jvm.MethodName) prog_1_method_35_code (1 : Nat) (Option.some Jvm.ClassFile.FieldType.int)) ∈ lw_all := lw_g (lw_at lw_m3 9 rfl) rfl
theorem q578 : (Jvm.Cond.methodLink "PetitionDesk" (279 : Nat) ({ cls := "PetitionDesk$Petition", name := "judgedSo", desc := "(I)I" } : Jvm.MethodName)) ∈ lw_all := lw_g (lw_at lw_m3 10 rfl) rfl
theorem q583 : (Jvm.Cond.instanceMethod ({ cls := "PetitionDesk", name := "fewest", desc := "()I" } : Jvm.MethodName)) ∈ lw_all := lw_g (lw_at lw_m3 15 rfl) rfl
theorem q584 : (Jvm.Cond.selects "PetitionDesk" ({ cls := "PetitionDesk", name := "fewest", desc := "()I" } : Jvm.MethodName) ({ cls := "PetitionDesk", name := "fewest", desc := "()I" } : Jvm.MethodName)) ∈ lw_all := lw_g (lw_at lw_m3 16 rfl) rfl
theorem q585 : (Jvm.Cond.code ({ cls := "PetitionDesk", name := "fewest", desc := "()I" } : Jvm.MethodName) prog_1_method_47_code (3 : Nat) (Option.some Jvm.ClassFile.FieldType.int)) ∈ lw_all := lw_g (lw_at lw_m3 17 rfl) rfl
theorem q586 : (Jvm.Cond.methodLink "PetitionDesk" (122 : Nat) ({ cls := "PetitionDesk$Petition", name := "lines", desc := "()I" } : Jvm.MethodName)) ∈ lw_all := lw_g (lw_at lw_m3 18 rfl) rfl
theorem q590 : (Jvm.Cond.methodLink "PetitionDesk" (316 : Nat) ({ cls := "PetitionDesk", name := "low", desc := "(III)I" } : Jvm.MethodName)) ∈ lw_all := lw_g (lw_at lw_m3 22 rfl) rfl
theorem q591 : (Jvm.Cond.privateMethod ({ cls := "PetitionDesk", name := "low", desc := "(III)I" } : Jvm.MethodName)) ∈ lw_tbl := lw_at lw_m3 23 rfl
theorem q592 : (Jvm.Cond.instanceMethod ({ cls := "PetitionDesk", name := "low", desc := "(III)I" } : Jvm.MethodName)) ∈ lw_all := lw_g (lw_at lw_m3 24 rfl) rfl
theorem q593 : (Jvm.Cond.code ({ cls := "PetitionDesk", name := "low", desc := "(III)I" } : Jvm.MethodName) prog_1_method_40_code (5 : Nat) (Option.some Jvm.ClassFile.FieldType.int)) ∈ lw_all := lw_g (lw_at lw_m3 25 rfl) rfl
theorem q594 : (Jvm.Cond.methodLink "PetitionDesk" (299 : Nat) ({ cls := "PetitionDesk", name := "waysOf", desc := "(IIIII)J" } : Jvm.MethodName)) ∈ lw_all := lw_g (lw_at lw_m3 26 rfl) rfl
theorem q595 : (Jvm.Cond.privateMethod ({ cls := "PetitionDesk", name := "waysOf", desc := "(IIIII)J" } : Jvm.MethodName)) ∈ lw_tbl := lw_at lw_m3 27 rfl
theorem q596 : (Jvm.Cond.instanceMethod ({ cls := "PetitionDesk", name := "waysOf", desc := "(IIIII)J" } : Jvm.MethodName)) ∈ lw_all := lw_g (lw_at lw_m3 28 rfl) rfl
theorem q597 : (Jvm.Cond.code ({ cls := "PetitionDesk", name := "waysOf", desc := "(IIIII)J" } : Jvm.MethodName) prog_1_method_38_code (9 : Nat) (Option.some Jvm.ClassFile.FieldType.long)) ∈ lw_all := lw_g (lw_at lw_m3 29 rfl) rfl
theorem q598 : (Jvm.Cond.methodLink "PetitionDesk" (290 : Nat) ({ cls := "java/lang/Math", name := "max", desc := "(II)I" } : Jvm.MethodName)) ∈ lw_all := lw_g (lw_at lw_m3 30 rfl) rfl
theorem q601 : (Jvm.Cond.methodLink "PetitionDesk" (294 : Nat) ({ cls := "java/lang/Math", name := "min", desc := "(II)I" } : Jvm.MethodName)) ∈ lw_all := lw_g (lw_at lw_m3 33 rfl) rfl
theorem q604 : (Jvm.Cond.methodLink "PetitionDesk" (303 : Nat) ({ cls := "PetitionDesk", name := "isLikely", desc := "(JII)Z" } : Jvm.MethodName)) ∈ lw_all := lw_g (lw_at lw_m3 36 rfl) rfl
theorem q605 : (Jvm.Cond.privateMethod ({ cls := "PetitionDesk", name := "isLikely", desc := "(JII)Z" } : Jvm.MethodName)) ∈ lw_tbl := lw_at lw_m3 37 rfl
theorem q606 : (Jvm.Cond.instanceMethod ({ cls := "PetitionDesk", name := "isLikely", desc := "(JII)Z" } : Jvm.MethodName)) ∈ lw_all := lw_g (lw_at lw_m3 38 rfl) rfl
theorem q607 : (Jvm.Cond.code ({ cls := "PetitionDesk", name := "isLikely", desc := "(JII)Z" } : Jvm.MethodName) prog_1_method_39_code (5 : Nat) (Option.some Jvm.ClassFile.FieldType.boolean)) ∈ lw_all := lw_g (lw_at lw_m3 39 rfl) rfl
theorem q608 : (Jvm.Cond.constantLong "PetitionDesk" (297 : Nat) (1000 : Int64)) ∈ lw_all := lw_g (lw_at lw_m3 40 rfl) rfl
theorem q610 : (Jvm.Cond.instanceMethod ({ cls := "PetitionDesk", name := "print", desc := "()J" } : Jvm.MethodName)) ∈ lw_all := lw_g (lw_at lw_m3 42 rfl) rfl
theorem q611 : (Jvm.Cond.selects "PetitionDesk" ({ cls := "PetitionDesk", name := "print", desc := "()J" } : Jvm.MethodName) ({ cls := "PetitionDesk", name := "print", desc := "()J" } : Jvm.MethodName)) ∈ lw_all := lw_g (lw_at lw_m3 43 rfl) rfl
theorem q612 : (Jvm.Cond.code ({ cls := "PetitionDesk", name := "print", desc := "()J" } : Jvm.MethodName) prog_1_method_51_code (5 : Nat) (Option.some Jvm.ClassFile.FieldType.long)) ∈ lw_all := lw_g (lw_at lw_m3 44 rfl) rfl
theorem q613 : (Jvm.Cond.methodLink "PetitionDesk" (233 : Nat) ({ cls := "PetitionDesk$Petition", name := "iterator", desc := "()Ljava/util/Iterator;" } : Jvm.MethodName)) ∈ lw_all := lw_g (lw_at lw_m3 45 rfl) rfl
theorem q614 : (Jvm.Cond.interfaceEntry "PetitionDesk" (237 : Nat)) ∈ lw_tbl := lw_at lw_m3 46 rfl
theorem q615 : (Jvm.Cond.methodLink "PetitionDesk" (237 : Nat) ({ cls := "java/util/Iterator", name := "hasNext", desc := "()Z" } : Jvm.MethodName)) ∈ lw_all := lw_g (lw_at lw_m3 47 rfl) rfl
theorem q616 : (Jvm.Cond.interfaceEntry "PetitionDesk" (242 : Nat)) ∈ lw_tbl := lw_at lw_m3 48 rfl
theorem q617 : (Jvm.Cond.methodLink "PetitionDesk" (242 : Nat) ({ cls := "java/util/Iterator", name := "next", desc := "()Ljava/lang/Object;" } : Jvm.MethodName)) ∈ lw_all := lw_g (lw_at lw_m3 49 rfl) rfl
theorem q618 : (Jvm.Cond.classLink "PetitionDesk" (162 : Nat) "PetitionDesk$Line") ∈ lw_all := lw_g (lw_at lw_m3 50 rfl) rfl
theorem q619 : (Jvm.Cond.constantLong "PetitionDesk" (349 : Nat) (31 : Int64)) ∈ lw_all := lw_g (lw_at lw_m3 51 rfl) rfl
theorem q621 : (Jvm.Cond.instanceMethod ({ cls := "PetitionDesk", name := "status", desc := "(I)I" } : Jvm.MethodName)) ∈ lw_all := lw_g (lw_at lw_m3 53 rfl) rfl
theorem q622 : (Jvm.Cond.selects "PetitionDesk" ({ cls := "PetitionDesk", name := "status", desc := "(I)I" } : Jvm.MethodName) ({ cls := "PetitionDesk", name := "status", desc := "(I)I" } : Jvm.MethodName)) ∈ lw_all := lw_g (lw_at lw_m3 54 rfl) rfl
theorem q623 : (Jvm.Cond.code ({ cls := "PetitionDesk", name := "status", desc := "(I)I" } : Jvm.MethodName) prog_1_method_52_code (2 : Nat) (Option.some Jvm.ClassFile.FieldType.int)) ∈ lw_all := lw_g (lw_at lw_m3 55 rfl) rfl
theorem q624 : (Jvm.Cond.constantLong "PetitionDesk" (323 : Nat) (2 : Int64)) ∈ lw_all := lw_g (lw_at lw_m3 56 rfl) rfl
theorem q625 : (Jvm.Cond.methodLink "PetitionDesk" (95 : Nat) ({ cls := "PetitionDesk", name := "isIn", desc := "(JJJ)Z" } : Jvm.MethodName)) ∈ lw_all := lw_g (lw_at lw_m3 57 rfl) rfl
theorem q631 : (Jvm.Cond.instanceMethod ({ cls := "PetitionDesk", name := "text", desc := "(I)I" } : Jvm.MethodName)) ∈ lw_all := lw_g (lw_at lw_m3 63 rfl) rfl
theorem q632 : (Jvm.Cond.selects "PetitionDesk" ({ cls := "PetitionDesk", name := "text", desc := "(I)I" } : Jvm.MethodName) ({ cls := "PetitionDesk", name := "text", desc := "(I)I" } : Jvm.MethodName)) ∈ lw_all := lw_g (lw_at lw_m3 64 rfl) rfl
theorem q633 : (Jvm.Cond.codeWith ({ cls := "PetitionDesk", name := "text", desc := "(I)I" } : Jvm.MethodName) prog_1_method_15_code (4 : Nat) (Option.some Jvm.ClassFile.FieldType.int) [((25 : Nat), (38 : Nat), (41 : Nat), (111 : Nat))]) ∈ lw_all := lw_g (lw_at lw_m3 65 rfl) rfl
theorem q634 : (Jvm.Cond.classLink "PetitionDesk" (111 : Nat) "PetitionDesk$Wrong") ∈ lw_all := lw_g (lw_at lw_m3 66 rfl) rfl
theorem q635 : (Jvm.Cond.methodLink "PetitionDesk" (99 : Nat) ({ cls := "PetitionDesk", name := "need", desc := "(Z)V" } : Jvm.MethodName)) ∈ lw_all := lw_g (lw_at lw_m3 67 rfl) rfl
theorem q636 : (Jvm.Cond.privateMethod ({ cls := "PetitionDesk", name := "need", desc := "(Z)V" } : Jvm.MethodName)) ∈ lw_tbl := lw_at lw_m3 68 rfl
theorem q637 : (Jvm.Cond.instanceMethod ({ cls := "PetitionDesk", name := "need", desc := "(Z)V" } : Jvm.MethodName)) ∈ lw_all := lw_g (lw_at lw_m3 69 rfl) rfl
theorem q638 : (Jvm.Cond.code ({ cls := "PetitionDesk", name := "need", desc := "(Z)V" } : Jvm.MethodName) prog_1_method_9_code (2 : Nat) (Option.none : Option Jvm.ClassFile.FieldType)) ∈ lw_all := lw_g (lw_at lw_m3 70 rfl) rfl
theorem q639 : (Jvm.Cond.classLink "PetitionDesk" (62 : Nat) "java/lang/IllegalArgumentException") ∈ lw_all := lw_g (lw_at lw_m3 71 rfl) rfl
theorem q648 : (Jvm.Cond.methodLink "PetitionDesk" (64 : Nat) ({ cls := "java/lang/IllegalArgumentException", name := "<init>", desc := "()V" } : Jvm.MethodName)) ∈ lw_all := lw_g (lw_at lw_m3 80 rfl) rfl
theorem q654 : (Jvm.Cond.classLink "PetitionDesk" (103 : Nat) "PetitionDesk$Reader") ∈ lw_all := lw_g (lw_at lw_m3 86 rfl) rfl
theorem q656 : (Jvm.Cond.methodLink "PetitionDesk" (105 : Nat) ({ cls := "PetitionDesk$Reader", name := "<init>", desc := "(LPetitionDesk;I)V" } : Jvm.MethodName)) ∈ lw_all := lw_g (lw_at lw_m3 88 rfl) rfl
theorem q681 : (Jvm.Cond.methodLink "PetitionDesk" (108 : Nat) ({ cls := "PetitionDesk$Reader", name := "all", desc := "()LPetitionDesk$Petition;" } : Jvm.MethodName)) ∈ lw_all := lw_g (lw_at lw_m3 113 rfl) rfl
theorem q1064 : (Jvm.Cond.fieldLinkNest "PetitionDesk" (116 : Nat) "PetitionDesk$Wrong" "kind" "I" "PetitionDesk") ∈ lw_tbl := lw_at lw_m5 16 rfl
theorem q1066 : (Jvm.Cond.fieldLinkNest "PetitionDesk" (113 : Nat) "PetitionDesk$Wrong" "place" "I" "PetitionDesk") ∈ lw_tbl := lw_at lw_m5 18 rfl
theorem q1113 : (Jvm.Cond.fieldLinkNest "PetitionDesk" (185 : Nat) "PetitionDesk$Voter" "name" "Ljava/lang/String;" "PetitionDesk") ∈ lw_tbl := lw_at lw_m5 65 rfl
theorem q1115 : (Jvm.Cond.fieldLinkNest "PetitionDesk" (189 : Nat) "PetitionDesk$Voter" "street" "I" "PetitionDesk") ∈ lw_tbl := lw_at lw_m5 67 rfl
theorem q1119 : (Jvm.Cond.fieldLinkNest "PetitionDesk" (230 : Nat) "PetitionDesk$Voter" "since" "I" "PetitionDesk") ∈ lw_tbl := lw_at lw_m5 71 rfl
theorem q1155 : (Jvm.Cond.selects "PetitionDesk" ({ cls := "java/lang/Object", name := "getClass", desc := "()Ljava/lang/Class;" } : Jvm.MethodName) ({ cls := "java/lang/Object", name := "getClass", desc := "()Ljava/lang/Class;" } : Jvm.MethodName)) ∈ lw_all := lw_g (lw_at lw_m5 107 rfl) rfl
theorem q1194 : (Jvm.Cond.fieldLinkNest "PetitionDesk" (160 : Nat) "PetitionDesk$Sheet" "lines" "Ljava/util/List;" "PetitionDesk") ∈ lw_tbl := lw_at lw_m5 146 rfl
theorem q1197 : (Jvm.Cond.fieldLinkNest "PetitionDesk" (169 : Nat) "PetitionDesk$Sheet" "byHand" "Z" "PetitionDesk") ∈ lw_tbl := lw_at lw_m5 149 rfl
theorem q1199 : (Jvm.Cond.fieldLinkNest "PetitionDesk" (261 : Nat) "PetitionDesk$Sheet" "isStruck" "Z" "PetitionDesk") ∈ lw_tbl := lw_at lw_m5 151 rfl
theorem q1226 : (Jvm.Cond.fieldLinkNest "PetitionDesk" (267 : Nat) "PetitionDesk$Line" "street" "I" "PetitionDesk") ∈ lw_tbl := lw_at lw_m5 178 rfl
theorem q1230 : (Jvm.Cond.fieldLinkNest "PetitionDesk" (268 : Nat) "PetitionDesk$Line" "day" "I" "PetitionDesk") ∈ lw_tbl := lw_at lw_m5 182 rfl
theorem q1234 : (Jvm.Cond.fieldLinkNest "PetitionDesk" (246 : Nat) "PetitionDesk$Line" "voter" "LPetitionDesk$Voter;" "PetitionDesk") ∈ lw_tbl := lw_at lw_m5 186 rfl
theorem q1239 : (Jvm.Cond.fieldLinkNest "PetitionDesk" (341 : Nat) "PetitionDesk$Line" "sheet" "I" "PetitionDesk") ∈ lw_tbl := lw_at lw_m5 191 rfl
theorem q1244 : (Jvm.Cond.fieldLinkNest "PetitionDesk" (202 : Nat) "PetitionDesk$Line" "judged" "I" "PetitionDesk") ∈ lw_tbl := lw_at lw_m5 196 rfl
theorem q1284 : (Jvm.Cond.static ({ cls := "PetitionDesk", name := "not", desc := "(LPetitionDesk$Rule;)LPetitionDesk$Rule;" } : Jvm.MethodName)) ∈ lw_all := lw_g (lw_at lw_m5 236 rfl) rfl
theorem q1285 : (Jvm.Cond.code ({ cls := "PetitionDesk", name := "not", desc := "(LPetitionDesk$Rule;)LPetitionDesk$Rule;" } : Jvm.MethodName) prog_1_method_6_code (1 : Nat) (Option.some (Jvm.ClassFile.FieldType.object "PetitionDesk$Rule"))) ∈ lw_all := lw_g (lw_at lw_m5 237 rfl) rfl
theorem q1286 : (Jvm.Cond.static ({ cls := "PetitionDesk", name := "lambda$not$2", desc := "(LPetitionDesk$Rule;LPetitionDesk$Line;)Z" } : Jvm.MethodName)) ∈ lw_all := lw_g (lw_at lw_m5 238 rfl) rfl
theorem q1287 : (Jvm.Cond.code ({ cls := "PetitionDesk", name := "lambda$not$2", desc := "(LPetitionDesk$Rule;LPetitionDesk$Line;)Z" } : Jvm.MethodName) prog_1_method_53_code (2 : Nat) (Option.some Jvm.ClassFile.FieldType.boolean)) ∈ lw_all := lw_g (lw_at lw_m5 239 rfl) rfl
theorem q1288 : (Jvm.Cond.interfaceEntry "PetitionDesk" (351 : Nat)) ∈ lw_tbl := lw_at lw_m6 0 rfl
theorem q1289 : (Jvm.Cond.methodLink "PetitionDesk" (351 : Nat) ({ cls := "PetitionDesk$Rule", name := "is", desc := "(LPetitionDesk$Line;)Z" } : Jvm.MethodName)) ∈ lw_all := lw_g (lw_at lw_m6 1 rfl) rfl
theorem q1333 : (Jvm.Cond.static ({ cls := "PetitionDesk", name := "both", desc := "(LPetitionDesk$Rule;LPetitionDesk$Rule;)LPetitionDesk$Rule;" } : Jvm.MethodName)) ∈ lw_all := lw_g (lw_at lw_m6 45 rfl) rfl
theorem q1334 : (Jvm.Cond.code ({ cls := "PetitionDesk", name := "both", desc := "(LPetitionDesk$Rule;LPetitionDesk$Rule;)LPetitionDesk$Rule;" } : Jvm.MethodName) prog_1_method_5_code (2 : Nat) (Option.some (Jvm.ClassFile.FieldType.object "PetitionDesk$Rule"))) ∈ lw_all := lw_g (lw_at lw_m6 46 rfl) rfl
theorem q1335 : (Jvm.Cond.static ({ cls := "PetitionDesk", name := "lambda$both$1", desc := "(LPetitionDesk$Rule;LPetitionDesk$Rule;LPetitionDesk$Line;)Z" } : Jvm.MethodName)) ∈ lw_all := lw_g (lw_at lw_m6 47 rfl) rfl
theorem q1336 : (Jvm.Cond.code ({ cls := "PetitionDesk", name := "lambda$both$1", desc := "(LPetitionDesk$Rule;LPetitionDesk$Rule;LPetitionDesk$Line;)Z" } : Jvm.MethodName) prog_1_method_54_code (3 : Nat) (Option.some Jvm.ClassFile.FieldType.boolean)) ∈ lw_all := lw_g (lw_at lw_m6 48 rfl) rfl
theorem q1339 : (Jvm.Cond.static ({ cls := "PetitionDesk", name := "either", desc := "(LPetitionDesk$Rule;LPetitionDesk$Rule;)LPetitionDesk$Rule;" } : Jvm.MethodName)) ∈ lw_all := lw_g (lw_at lw_m6 51 rfl) rfl
theorem q1340 : (Jvm.Cond.code ({ cls := "PetitionDesk", name := "either", desc := "(LPetitionDesk$Rule;LPetitionDesk$Rule;)LPetitionDesk$Rule;" } : Jvm.MethodName) prog_1_method_4_code (2 : Nat) (Option.some (Jvm.ClassFile.FieldType.object "PetitionDesk$Rule"))) ∈ lw_all := lw_g (lw_at lw_m6 52 rfl) rfl
theorem q1341 : (Jvm.Cond.static ({ cls := "PetitionDesk", name := "lambda$either$0", desc := "(LPetitionDesk$Rule;LPetitionDesk$Rule;LPetitionDesk$Line;)Z" } : Jvm.MethodName)) ∈ lw_all := lw_g (lw_at lw_m6 53 rfl) rfl
theorem q1342 : (Jvm.Cond.code ({ cls := "PetitionDesk", name := "lambda$either$0", desc := "(LPetitionDesk$Rule;LPetitionDesk$Rule;LPetitionDesk$Line;)Z" } : Jvm.MethodName) prog_1_method_55_code (3 : Nat) (Option.some Jvm.ClassFile.FieldType.boolean)) ∈ lw_all := lw_g (lw_at lw_m6 54 rfl) rfl
theorem q1359 : (Jvm.Cond.methodLink "PetitionDesk" (119 : Nat) ({ cls := "PetitionDesk", name := "keeps", desc := "()V" } : Jvm.MethodName)) ∈ lw_all := lw_g (lw_at lw_m6 71 rfl) rfl
theorem q1360 : (Jvm.Cond.privateMethod ({ cls := "PetitionDesk", name := "keeps", desc := "()V" } : Jvm.MethodName)) ∈ lw_tbl := lw_at lw_m6 72 rfl
theorem q1361 : (Jvm.Cond.instanceMethod ({ cls := "PetitionDesk", name := "keeps", desc := "()V" } : Jvm.MethodName)) ∈ lw_all := lw_g (lw_at lw_m6 73 rfl) rfl
theorem q1362 : (Jvm.Cond.code ({ cls := "PetitionDesk", name := "keeps", desc := "()V" } : Jvm.MethodName) prog_1_method_12_code (1 : Nat) (Option.none : Option Jvm.ClassFile.FieldType)) ∈ lw_all := lw_g (lw_at lw_m6 74 rfl) rfl
theorem q1363 : (Jvm.Cond.interfaceEntry "PetitionDesk" (81 : Nat)) ∈ lw_tbl := lw_at lw_m6 75 rfl
theorem q1364 : (Jvm.Cond.methodLink "PetitionDesk" (81 : Nat) ({ cls := "java/util/List", name := "add", desc := "(Ljava/lang/Object;)Z" } : Jvm.MethodName)) ∈ lw_all := lw_g (lw_at lw_m6 76 rfl) rfl
theorem q1365 : (Jvm.Cond.methodLink "PetitionDesk" (85 : Nat) ({ cls := "PetitionDesk$Petition", name := "copy", desc := "()LPetitionDesk$Petition;" } : Jvm.MethodName)) ∈ lw_all := lw_g (lw_at lw_m6 77 rfl) rfl
theorem q1390 : (Jvm.Cond.instanceMethod ({ cls := "PetitionDesk", name := "sample", desc := "(III)I" } : Jvm.MethodName)) ∈ lw_all := lw_g (lw_at lw_m6 102 rfl) rfl
theorem q1391 : (Jvm.Cond.selects "PetitionDesk" ({ cls := "PetitionDesk", name := "sample", desc := "(III)I" } : Jvm.MethodName) ({ cls := "PetitionDesk", name := "sample", desc := "(III)I" } : Jvm.MethodName)) ∈ lw_all := lw_g (lw_at lw_m6 103 rfl) rfl
theorem q1392 : (Jvm.Cond.code ({ cls := "PetitionDesk", name := "sample", desc := "(III)I" } : Jvm.MethodName) prog_1_method_18_code (9 : Nat) (Option.some Jvm.ClassFile.FieldType.int)) ∈ lw_all := lw_g (lw_at lw_m6 104 rfl) rfl
theorem q1393 : (Jvm.Cond.methodLink "PetitionDesk" (125 : Nat) ({ cls := "PetitionDesk", name := "needSample", desc := "(I)V" } : Jvm.MethodName)) ∈ lw_all := lw_g (lw_at lw_m6 105 rfl) rfl
theorem q1394 : (Jvm.Cond.privateMethod ({ cls := "PetitionDesk", name := "needSample", desc := "(I)V" } : Jvm.MethodName)) ∈ lw_tbl := lw_at lw_m6 106 rfl
theorem q1395 : (Jvm.Cond.instanceMethod ({ cls := "PetitionDesk", name := "needSample", desc := "(I)V" } : Jvm.MethodName)) ∈ lw_all := lw_g (lw_at lw_m6 107 rfl) rfl
theorem q1396 : (Jvm.Cond.code ({ cls := "PetitionDesk", name := "needSample", desc := "(I)V" } : Jvm.MethodName) prog_1_method_17_code (2 : Nat) (Option.none : Option Jvm.ClassFile.FieldType)) ∈ lw_all := lw_g (lw_at lw_m6 108 rfl) rfl
theorem q1397 : (Jvm.Cond.constant "PetitionDesk" (128 : Nat) (1103515245 : Int32)) ∈ lw_all := lw_g (lw_at lw_m6 109 rfl) rfl
theorem q1398 : (Jvm.Cond.methodLink "PetitionDesk" (129 : Nat) ({ cls := "PetitionDesk", name := "undrawn", desc := "(JI)I" } : Jvm.MethodName)) ∈ lw_all := lw_g (lw_at lw_m6 110 rfl) rfl
theorem q1399 : (Jvm.Cond.static ({ cls := "PetitionDesk", name := "undrawn", desc := "(JI)I" } : Jvm.MethodName)) ∈ lw_all := lw_g (lw_at lw_m6 111 rfl) rfl
theorem q1400 : (Jvm.Cond.code ({ cls := "PetitionDesk", name := "undrawn", desc := "(JI)I" } : Jvm.MethodName) prog_1_method_19_code (5 : Nat) (Option.some Jvm.ClassFile.FieldType.int)) ∈ lw_all := lw_g (lw_at lw_m6 112 rfl) rfl
theorem q1401 : (Jvm.Cond.methodLink "PetitionDesk" (141 : Nat) ({ cls := "PetitionDesk", name := "has", desc := "(JI)Z" } : Jvm.MethodName)) ∈ lw_all := lw_g (lw_at lw_m6 113 rfl) rfl
theorem q1402 : (Jvm.Cond.static ({ cls := "PetitionDesk", name := "has", desc := "(JI)Z" } : Jvm.MethodName)) ∈ lw_all := lw_g (lw_at lw_m6 114 rfl) rfl
theorem q1403 : (Jvm.Cond.code ({ cls := "PetitionDesk", name := "has", desc := "(JI)Z" } : Jvm.MethodName) prog_1_method_2_code (3 : Nat) (Option.some Jvm.ClassFile.FieldType.boolean)) ∈ lw_all := lw_g (lw_at lw_m6 115 rfl) rfl
theorem q1404 : (Jvm.Cond.methodLink "PetitionDesk" (137 : Nat) ({ cls := "PetitionDesk", name := "goodOf", desc := "(I)I" } : Jvm.MethodName)) ∈ lw_all := lw_g (lw_at lw_m6 116 rfl) rfl
theorem q1405 : (Jvm.Cond.privateMethod ({ cls := "PetitionDesk", name := "goodOf", desc := "(I)I" } : Jvm.MethodName)) ∈ lw_tbl := lw_at lw_m6 117 rfl
theorem q1406 : (Jvm.Cond.instanceMethod ({ cls := "PetitionDesk", name := "goodOf", desc := "(I)I" } : Jvm.MethodName)) ∈ lw_all := lw_g (lw_at lw_m6 118 rfl) rfl
theorem q1407 : (Jvm.Cond.code ({ cls := "PetitionDesk", name := "goodOf", desc := "(I)I" } : Jvm.MethodName) prog_1_method_36_code (2 : Nat) (Option.some Jvm.ClassFile.FieldType.int)) ∈ lw_all := lw_g (lw_at lw_m6 119 rfl) rfl
theorem q1408 : (Jvm.Cond.methodLink "PetitionDesk" (282 : Nat) ({ cls := "PetitionDesk$Petition", name := "goodBy", desc := "(J)[I" } : Jvm.MethodName)) ∈ lw_all := lw_g (lw_at lw_m6 120 rfl) rfl
theorem q1417 : (Jvm.Cond.methodLink "PetitionDesk" (286 : Nat) ({ cls := "PetitionDesk", name := "sum", desc := "([I)I" } : Jvm.MethodName)) ∈ lw_all := lw_g (lw_at lw_m6 129 rfl) rfl
theorem q1418 : (Jvm.Cond.static ({ cls := "PetitionDesk", name := "sum", desc := "([I)I" } : Jvm.MethodName)) ∈ lw_all := lw_g (lw_at lw_m6 130 rfl) rfl
theorem q1419 : (Jvm.Cond.code ({ cls := "PetitionDesk", name := "sum", desc := "([I)I" } : Jvm.MethodName) prog_1_method_7_code (6 : Nat) (Option.some Jvm.ClassFile.FieldType.int)) ∈ lw_all := lw_g (lw_at lw_m6 131 rfl) rfl
theorem q1425 : (Jvm.Cond.instanceMethod ({ cls := "PetitionDesk", name := "strike", desc := "(IZ)I" } : Jvm.MethodName)) ∈ lw_all := lw_g (lw_at lw_m6 137 rfl) rfl
theorem q1426 : (Jvm.Cond.selects "PetitionDesk" ({ cls := "PetitionDesk", name := "strike", desc := "(IZ)I" } : Jvm.MethodName) ({ cls := "PetitionDesk", name := "strike", desc := "(IZ)I" } : Jvm.MethodName)) ∈ lw_all := lw_g (lw_at lw_m6 138 rfl) rfl
theorem q1427 : (Jvm.Cond.code ({ cls := "PetitionDesk", name := "strike", desc := "(IZ)I" } : Jvm.MethodName) prog_1_method_23_code (4 : Nat) (Option.some Jvm.ClassFile.FieldType.int)) ∈ lw_all := lw_g (lw_at lw_m6 139 rfl) rfl
theorem q1428 : (Jvm.Cond.methodLink "PetitionDesk" (156 : Nat) ({ cls := "PetitionDesk", name := "sheetOf", desc := "(I)LPetitionDesk$Sheet;" } : Jvm.MethodName)) ∈ lw_all := lw_g (lw_at lw_m6 140 rfl) rfl
theorem q1429 : (Jvm.Cond.privateMethod ({ cls := "PetitionDesk", name := "sheetOf", desc := "(I)LPetitionDesk$Sheet;" } : Jvm.MethodName)) ∈ lw_tbl := lw_at lw_m6 141 rfl
theorem q1430 : (Jvm.Cond.instanceMethod ({ cls := "PetitionDesk", name := "sheetOf", desc := "(I)LPetitionDesk$Sheet;" } : Jvm.MethodName)) ∈ lw_all := lw_g (lw_at lw_m6 142 rfl) rfl
theorem q1431 : (Jvm.Cond.code ({ cls := "PetitionDesk", name := "sheetOf", desc := "(I)LPetitionDesk$Sheet;" } : Jvm.MethodName) prog_1_method_20_code (2 : Nat) (Option.some (Jvm.ClassFile.FieldType.object "PetitionDesk$Sheet"))) ∈ lw_all := lw_g (lw_at lw_m6 143 rfl) rfl
theorem q1432 : (Jvm.Cond.methodLink "PetitionDesk" (148 : Nat) ({ cls := "PetitionDesk", name := "needThere", desc := "(Z)V" } : Jvm.MethodName)) ∈ lw_all := lw_g (lw_at lw_m6 144 rfl) rfl
theorem q1433 : (Jvm.Cond.privateMethod ({ cls := "PetitionDesk", name := "needThere", desc := "(Z)V" } : Jvm.MethodName)) ∈ lw_tbl := lw_at lw_m6 145 rfl
theorem q1434 : (Jvm.Cond.instanceMethod ({ cls := "PetitionDesk", name := "needThere", desc := "(Z)V" } : Jvm.MethodName)) ∈ lw_all := lw_g (lw_at lw_m6 146 rfl) rfl
theorem q1435 : (Jvm.Cond.code ({ cls := "PetitionDesk", name := "needThere", desc := "(Z)V" } : Jvm.MethodName) prog_1_method_10_code (2 : Nat) (Option.none : Option Jvm.ClassFile.FieldType)) ∈ lw_all := lw_g (lw_at lw_m6 147 rfl) rfl
theorem q1436 : (Jvm.Cond.classLink "PetitionDesk" (65 : Nat) "java/util/NoSuchElementException") ∈ lw_all := lw_g (lw_at lw_m6 148 rfl) rfl
theorem q1437 : (Jvm.Cond.methodLink "PetitionDesk" (67 : Nat) ({ cls := "java/util/NoSuchElementException", name := "<init>", desc := "()V" } : Jvm.MethodName)) ∈ lw_all := lw_g (lw_at lw_m6 149 rfl) rfl
theorem q1438 : (Jvm.Cond.interfaceEntry "PetitionDesk" (151 : Nat)) ∈ lw_tbl := lw_at lw_m6 150 rfl
theorem q1439 : (Jvm.Cond.methodLink "PetitionDesk" (151 : Nat) ({ cls := "java/util/List", name := "get", desc := "(I)Ljava/lang/Object;" } : Jvm.MethodName)) ∈ lw_all := lw_g (lw_at lw_m6 151 rfl) rfl
theorem q1440 : (Jvm.Cond.classLink "PetitionDesk" (154 : Nat) "PetitionDesk$Sheet") ∈ lw_all := lw_g (lw_at lw_m6 152 rfl) rfl
theorem q1441 : (Jvm.Cond.methodLink "PetitionDesk" (173 : Nat) ({ cls := "PetitionDesk$Petition", name := "judges", desc := "()LPetitionDesk$Petition;" } : Jvm.MethodName)) ∈ lw_all := lw_g (lw_at lw_m6 153 rfl) rfl
theorem q1447 : (Jvm.Cond.instanceMethod ({ cls := "PetitionDesk", name := "sign", desc := "(III)I" } : Jvm.MethodName)) ∈ lw_all := lw_g (lw_at lw_m6 159 rfl) rfl
theorem q1448 : (Jvm.Cond.selects "PetitionDesk" ({ cls := "PetitionDesk", name := "sign", desc := "(III)I" } : Jvm.MethodName) ({ cls := "PetitionDesk", name := "sign", desc := "(III)I" } : Jvm.MethodName)) ∈ lw_all := lw_g (lw_at lw_m6 160 rfl) rfl
theorem q1449 : (Jvm.Cond.code ({ cls := "PetitionDesk", name := "sign", desc := "(III)I" } : Jvm.MethodName) prog_1_method_25_code (5 : Nat) (Option.some Jvm.ClassFile.FieldType.int)) ∈ lw_all := lw_g (lw_at lw_m6 161 rfl) rfl
theorem q1450 : (Jvm.Cond.methodLink "PetitionDesk" (176 : Nat) ({ cls := "PetitionDesk", name := "voterOf", desc := "(I)LPetitionDesk$Voter;" } : Jvm.MethodName)) ∈ lw_all := lw_g (lw_at lw_m6 162 rfl) rfl
theorem q1451 : (Jvm.Cond.privateMethod ({ cls := "PetitionDesk", name := "voterOf", desc := "(I)LPetitionDesk$Voter;" } : Jvm.MethodName)) ∈ lw_tbl := lw_at lw_m6 163 rfl
theorem q1452 : (Jvm.Cond.instanceMethod ({ cls := "PetitionDesk", name := "voterOf", desc := "(I)LPetitionDesk$Voter;" } : Jvm.MethodName)) ∈ lw_all := lw_g (lw_at lw_m6 164 rfl) rfl
theorem q1453 : (Jvm.Cond.code ({ cls := "PetitionDesk", name := "voterOf", desc := "(I)LPetitionDesk$Voter;" } : Jvm.MethodName) prog_1_method_22_code (2 : Nat) (Option.some (Jvm.ClassFile.FieldType.object "PetitionDesk$Voter"))) ∈ lw_all := lw_g (lw_at lw_m6 165 rfl) rfl
theorem q1454 : (Jvm.Cond.classLink "PetitionDesk" (167 : Nat) "PetitionDesk$Voter") ∈ lw_all := lw_g (lw_at lw_m6 166 rfl) rfl
theorem q1455 : (Jvm.Cond.constantLong "PetitionDesk" (180 : Nat) (999 : Int64)) ∈ lw_all := lw_g (lw_at lw_m6 167 rfl) rfl
theorem q1456 : (Jvm.Cond.methodLink "PetitionDesk" (182 : Nat) ({ cls := "PetitionDesk", name := "needNow", desc := "(Z)V" } : Jvm.MethodName)) ∈ lw_all := lw_g (lw_at lw_m6 168 rfl) rfl
theorem q1457 : (Jvm.Cond.privateMethod ({ cls := "PetitionDesk", name := "needNow", desc := "(Z)V" } : Jvm.MethodName)) ∈ lw_tbl := lw_at lw_m6 169 rfl
theorem q1458 : (Jvm.Cond.instanceMethod ({ cls := "PetitionDesk", name := "needNow", desc := "(Z)V" } : Jvm.MethodName)) ∈ lw_all := lw_g (lw_at lw_m6 170 rfl) rfl
theorem q1459 : (Jvm.Cond.code ({ cls := "PetitionDesk", name := "needNow", desc := "(Z)V" } : Jvm.MethodName) prog_1_method_11_code (2 : Nat) (Option.none : Option Jvm.ClassFile.FieldType)) ∈ lw_all := lw_g (lw_at lw_m6 171 rfl) rfl
theorem q1460 : (Jvm.Cond.classLink "PetitionDesk" (68 : Nat) "java/lang/IllegalStateException") ∈ lw_all := lw_g (lw_at lw_m6 172 rfl) rfl
theorem q1469 : (Jvm.Cond.methodLink "PetitionDesk" (70 : Nat) ({ cls := "java/lang/IllegalStateException", name := "<init>", desc := "()V" } : Jvm.MethodName)) ∈ lw_all := lw_g (lw_at lw_m6 181 rfl) rfl
theorem q1475 : (Jvm.Cond.methodLink "PetitionDesk" (192 : Nat) ({ cls := "PetitionDesk$Line", name := "<init>", desc := "(Ljava/lang/String;IILPetitionDesk$Voter;)V" } : Jvm.MethodName)) ∈ lw_all := lw_g (lw_at lw_m6 187 rfl) rfl
theorem q1476 : (Jvm.Cond.methodLink "PetitionDesk" (195 : Nat) ({ cls := "PetitionDesk", name := "empties", desc := "()V" } : Jvm.MethodName)) ∈ lw_all := lw_g (lw_at lw_m6 188 rfl) rfl
theorem q1477 : (Jvm.Cond.privateMethod ({ cls := "PetitionDesk", name := "empties", desc := "()V" } : Jvm.MethodName)) ∈ lw_tbl := lw_at lw_m6 189 rfl
theorem q1478 : (Jvm.Cond.instanceMethod ({ cls := "PetitionDesk", name := "empties", desc := "()V" } : Jvm.MethodName)) ∈ lw_all := lw_g (lw_at lw_m6 190 rfl) rfl
theorem q1479 : (Jvm.Cond.code ({ cls := "PetitionDesk", name := "empties", desc := "()V" } : Jvm.MethodName) prog_1_method_24_code (1 : Nat) (Option.none : Option Jvm.ClassFile.FieldType)) ∈ lw_all := lw_g (lw_at lw_m6 191 rfl) rfl
theorem q1484 : (Jvm.Cond.instanceMethod ({ cls := "PetitionDesk", name := "erase", desc := "(II)I" } : Jvm.MethodName)) ∈ lw_all := lw_g (lw_at lw_m6 196 rfl) rfl
theorem q1485 : (Jvm.Cond.selects "PetitionDesk" ({ cls := "PetitionDesk", name := "erase", desc := "(II)I" } : Jvm.MethodName) ({ cls := "PetitionDesk", name := "erase", desc := "(II)I" } : Jvm.MethodName)) ∈ lw_all := lw_g (lw_at lw_m6 197 rfl) rfl
theorem q1486 : (Jvm.Cond.code ({ cls := "PetitionDesk", name := "erase", desc := "(II)I" } : Jvm.MethodName) prog_1_method_26_code (4 : Nat) (Option.some Jvm.ClassFile.FieldType.int)) ∈ lw_all := lw_g (lw_at lw_m6 198 rfl) rfl
theorem q1487 : (Jvm.Cond.methodLink "PetitionDesk" (198 : Nat) ({ cls := "PetitionDesk", name := "lineOf", desc := "(II)LPetitionDesk$Line;" } : Jvm.MethodName)) ∈ lw_all := lw_g (lw_at lw_m6 199 rfl) rfl
theorem q1488 : (Jvm.Cond.privateMethod ({ cls := "PetitionDesk", name := "lineOf", desc := "(II)LPetitionDesk$Line;" } : Jvm.MethodName)) ∈ lw_tbl := lw_at lw_m6 200 rfl
theorem q1489 : (Jvm.Cond.instanceMethod ({ cls := "PetitionDesk", name := "lineOf", desc := "(II)LPetitionDesk$Line;" } : Jvm.MethodName)) ∈ lw_all := lw_g (lw_at lw_m6 201 rfl) rfl
theorem q1490 : (Jvm.Cond.code ({ cls := "PetitionDesk", name := "lineOf", desc := "(II)LPetitionDesk$Line;" } : Jvm.MethodName) prog_1_method_21_code (4 : Nat) (Option.some (Jvm.ClassFile.FieldType.object "PetitionDesk$Line"))) ∈ lw_all := lw_g (lw_at lw_m6 202 rfl) rfl
theorem q1495 : (Jvm.Cond.instanceMethod ({ cls := "PetitionDesk", name := "told", desc := "(I)I" } : Jvm.MethodName)) ∈ lw_all := lw_g (lw_at lw_m6 207 rfl) rfl
theorem q1496 : (Jvm.Cond.selects "PetitionDesk" ({ cls := "PetitionDesk", name := "told", desc := "(I)I" } : Jvm.MethodName) ({ cls := "PetitionDesk", name := "told", desc := "(I)I" } : Jvm.MethodName)) ∈ lw_all := lw_g (lw_at lw_m6 208 rfl) rfl
theorem q1497 : (Jvm.Cond.code ({ cls := "PetitionDesk", name := "told", desc := "(I)I" } : Jvm.MethodName) prog_1_method_28_code (2 : Nat) (Option.some Jvm.ClassFile.FieldType.int)) ∈ lw_all := lw_g (lw_at lw_m6 209 rfl) rfl
theorem q1498 : (Jvm.Cond.constantLong "PetitionDesk" (209 : Nat) (10 : Int64)) ∈ lw_all := lw_g (lw_at lw_m6 210 rfl) rfl
theorem q1499 : (Jvm.Cond.methodLink "PetitionDesk" (225 : Nat) ({ cls := "PetitionDesk$Petition", name := "struck", desc := "()I" } : Jvm.MethodName)) ∈ lw_all := lw_g (lw_at lw_m6 211 rfl) rfl
theorem q1507 : (Jvm.Cond.instanceMethod ({ cls := "PetitionDesk", name := "voter", desc := "(II)I" } : Jvm.MethodName)) ∈ lw_all := lw_g (lw_at lw_m6 219 rfl) rfl
theorem q1508 : (Jvm.Cond.selects "PetitionDesk" ({ cls := "PetitionDesk", name := "voter", desc := "(II)I" } : Jvm.MethodName) ({ cls := "PetitionDesk", name := "voter", desc := "(II)I" } : Jvm.MethodName)) ∈ lw_all := lw_g (lw_at lw_m6 220 rfl) rfl
theorem q1509 : (Jvm.Cond.code ({ cls := "PetitionDesk", name := "voter", desc := "(II)I" } : Jvm.MethodName) prog_1_method_29_code (7 : Nat) (Option.some Jvm.ClassFile.FieldType.int)) ∈ lw_all := lw_g (lw_at lw_m6 221 rfl) rfl
theorem q1510 : (Jvm.Cond.constantLong "PetitionDesk" (228 : Nat) (3 : Int64)) ∈ lw_all := lw_g (lw_at lw_m6 222 rfl) rfl
theorem q1515 : (Jvm.Cond.instanceMethod ({ cls := "PetitionDesk", name := "letter", desc := "(II)I" } : Jvm.MethodName)) ∈ lw_all := lw_g (lw_at lw_m6 227 rfl) rfl
theorem q1516 : (Jvm.Cond.selects "PetitionDesk" ({ cls := "PetitionDesk", name := "letter", desc := "(II)I" } : Jvm.MethodName) ({ cls := "PetitionDesk", name := "letter", desc := "(II)I" } : Jvm.MethodName)) ∈ lw_all := lw_g (lw_at lw_m6 228 rfl) rfl
theorem q1517 : (Jvm.Cond.code ({ cls := "PetitionDesk", name := "letter", desc := "(II)I" } : Jvm.MethodName) prog_1_method_30_code (4 : Nat) (Option.some Jvm.ClassFile.FieldType.int)) ∈ lw_all := lw_g (lw_at lw_m6 229 rfl) rfl
theorem q1518 : (Jvm.Cond.methodLink "PetitionDesk" (250 : Nat) ({ cls := "java/lang/String", name := "length", desc := "()I" } : Jvm.MethodName)) ∈ lw_all := lw_g (lw_at lw_m6 230 rfl) rfl
theorem q1519 : (Jvm.Cond.methodLink "PetitionDesk" (255 : Nat) ({ cls := "java/lang/String", name := "charAt", desc := "(I)C" } : Jvm.MethodName)) ∈ lw_all := lw_g (lw_at lw_m6 231 rfl) rfl
theorem q1534 : (Jvm.Cond.instanceMethod ({ cls := "PetitionDesk", name := "sheet", desc := "(II)I" } : Jvm.MethodName)) ∈ lw_all := lw_g (lw_at lw_m7 6 rfl) rfl
theorem q1535 : (Jvm.Cond.selects "PetitionDesk" ({ cls := "PetitionDesk", name := "sheet", desc := "(II)I" } : Jvm.MethodName) ({ cls := "PetitionDesk", name := "sheet", desc := "(II)I" } : Jvm.MethodName)) ∈ lw_all := lw_g (lw_at lw_m7 7 rfl) rfl
theorem q1536 : (Jvm.Cond.code ({ cls := "PetitionDesk", name := "sheet", desc := "(II)I" } : Jvm.MethodName) prog_1_method_31_code (7 : Nat) (Option.some Jvm.ClassFile.FieldType.int)) ∈ lw_all := lw_g (lw_at lw_m7 8 rfl) rfl
theorem q1537 : (Jvm.Cond.constantLong "PetitionDesk" (259 : Nat) (8 : Int64)) ∈ lw_all := lw_g (lw_at lw_m7 9 rfl) rfl
theorem q1538 : (Jvm.Cond.interfaceEntry "PetitionDesk" (264 : Nat)) ∈ lw_tbl := lw_at lw_m7 10 rfl
theorem q1539 : (Jvm.Cond.methodLink "PetitionDesk" (264 : Nat) ({ cls := "java/util/List", name := "iterator", desc := "()Ljava/util/Iterator;" } : Jvm.MethodName)) ∈ lw_all := lw_g (lw_at lw_m7 11 rfl) rfl
theorem q1544 : (Jvm.Cond.instanceMethod ({ cls := "PetitionDesk", name := "line", desc := "(III)I" } : Jvm.MethodName)) ∈ lw_all := lw_g (lw_at lw_m7 16 rfl) rfl
theorem q1545 : (Jvm.Cond.selects "PetitionDesk" ({ cls := "PetitionDesk", name := "line", desc := "(III)I" } : Jvm.MethodName) ({ cls := "PetitionDesk", name := "line", desc := "(III)I" } : Jvm.MethodName)) ∈ lw_all := lw_g (lw_at lw_m7 17 rfl) rfl
theorem q1546 : (Jvm.Cond.code ({ cls := "PetitionDesk", name := "line", desc := "(III)I" } : Jvm.MethodName) prog_1_method_33_code (5 : Nat) (Option.some Jvm.ClassFile.FieldType.int)) ∈ lw_all := lw_g (lw_at lw_m7 18 rfl) rfl
theorem q1547 : (Jvm.Cond.constantLong "PetitionDesk" (265 : Nat) (5 : Int64)) ∈ lw_all := lw_g (lw_at lw_m7 19 rfl) rfl
theorem q1548 : (Jvm.Cond.interfaceEntry "PetitionDesk" (271 : Nat)) ∈ lw_tbl := lw_at lw_m7 20 rfl
theorem q1549 : (Jvm.Cond.methodLink "PetitionDesk" (271 : Nat) ({ cls := "java/util/List", name := "indexOf", desc := "(Ljava/lang/Object;)I" } : Jvm.MethodName)) ∈ lw_all := lw_g (lw_at lw_m7 21 rfl) rfl
theorem q1550 : (Jvm.Cond.methodLink "PetitionDesk" (275 : Nat) ({ cls := "PetitionDesk", name := "placeOf", desc := "(LPetitionDesk$Line;)I" } : Jvm.MethodName)) ∈ lw_all := lw_g (lw_at lw_m7 22 rfl) rfl
theorem q1551 : (Jvm.Cond.privateMethod ({ cls := "PetitionDesk", name := "placeOf", desc := "(LPetitionDesk$Line;)I" } : Jvm.MethodName)) ∈ lw_tbl := lw_at lw_m7 23 rfl
theorem q1552 : (Jvm.Cond.instanceMethod ({ cls := "PetitionDesk", name := "placeOf", desc := "(LPetitionDesk$Line;)I" } : Jvm.MethodName)) ∈ lw_all := lw_g (lw_at lw_m7 24 rfl) rfl
theorem q1553 : (Jvm.Cond.code ({ cls := "PetitionDesk", name := "placeOf", desc := "(LPetitionDesk$Line;)I" } : Jvm.MethodName) prog_1_method_32_code (5 : Nat) (Option.some Jvm.ClassFile.FieldType.int)) ∈ lw_all := lw_g (lw_at lw_m7 25 rfl) rfl
theorem q1558 : (Jvm.Cond.instanceMethod ({ cls := "PetitionDesk", name := "judged", desc := "(I)I" } : Jvm.MethodName)) ∈ lw_all := lw_g (lw_at lw_m7 30 rfl) rfl
theorem q1559 : (Jvm.Cond.selects "PetitionDesk" ({ cls := "PetitionDesk", name := "judged", desc := "(I)I" } : Jvm.MethodName) ({ cls := "PetitionDesk", name := "judged", desc := "(I)I" } : Jvm.MethodName)) ∈ lw_all := lw_g (lw_at lw_m7 31 rfl) rfl
theorem q1560 : (Jvm.Cond.code ({ cls := "PetitionDesk", name := "judged", desc := "(I)I" } : Jvm.MethodName) prog_1_method_34_code (2 : Nat) (Option.some Jvm.ClassFile.FieldType.int)) ∈ lw_all := lw_g (lw_at lw_m7 32 rfl) rfl
theorem q1565 : (Jvm.Cond.instanceMethod ({ cls := "PetitionDesk", name := "drawn", desc := "(II)I" } : Jvm.MethodName)) ∈ lw_all := lw_g (lw_at lw_m7 37 rfl) rfl
theorem q1566 : (Jvm.Cond.selects "PetitionDesk" ({ cls := "PetitionDesk", name := "drawn", desc := "(II)I" } : Jvm.MethodName) ({ cls := "PetitionDesk", name := "drawn", desc := "(II)I" } : Jvm.MethodName)) ∈ lw_all := lw_g (lw_at lw_m7 38 rfl) rfl
theorem q1567 : (Jvm.Cond.code ({ cls := "PetitionDesk", name := "drawn", desc := "(II)I" } : Jvm.MethodName) prog_1_method_42_code (7 : Nat) (Option.some Jvm.ClassFile.FieldType.int)) ∈ lw_all := lw_g (lw_at lw_m7 39 rfl) rfl
theorem q1568 : (Jvm.Cond.methodLink "PetitionDesk" (307 : Nat) ({ cls := "java/lang/Long", name := "bitCount", desc := "(J)I" } : Jvm.MethodName)) ∈ lw_all := lw_g (lw_at lw_m7 40 rfl) rfl
theorem q1574 : (Jvm.Cond.methodLink "PetitionDesk" (313 : Nat) ({ cls := "PetitionDesk", name := "pairsOf", desc := "(I)I" } : Jvm.MethodName)) ∈ lw_all := lw_g (lw_at lw_m7 46 rfl) rfl
theorem q1575 : (Jvm.Cond.privateMethod ({ cls := "PetitionDesk", name := "pairsOf", desc := "(I)I" } : Jvm.MethodName)) ∈ lw_tbl := lw_at lw_m7 47 rfl
theorem q1576 : (Jvm.Cond.instanceMethod ({ cls := "PetitionDesk", name := "pairsOf", desc := "(I)I" } : Jvm.MethodName)) ∈ lw_all := lw_g (lw_at lw_m7 48 rfl) rfl
theorem q1577 : (Jvm.Cond.code ({ cls := "PetitionDesk", name := "pairsOf", desc := "(I)I" } : Jvm.MethodName) prog_1_method_37_code (7 : Nat) (Option.some Jvm.ClassFile.FieldType.int)) ∈ lw_all := lw_g (lw_at lw_m7 49 rfl) rfl
theorem q1578 : (Jvm.Cond.methodLink "PetitionDesk" (320 : Nat) ({ cls := "PetitionDesk", name := "high", desc := "(III)I" } : Jvm.MethodName)) ∈ lw_all := lw_g (lw_at lw_m7 50 rfl) rfl
theorem q1579 : (Jvm.Cond.privateMethod ({ cls := "PetitionDesk", name := "high", desc := "(III)I" } : Jvm.MethodName)) ∈ lw_tbl := lw_at lw_m7 51 rfl
theorem q1580 : (Jvm.Cond.instanceMethod ({ cls := "PetitionDesk", name := "high", desc := "(III)I" } : Jvm.MethodName)) ∈ lw_all := lw_g (lw_at lw_m7 52 rfl) rfl
theorem q1581 : (Jvm.Cond.code ({ cls := "PetitionDesk", name := "high", desc := "(III)I" } : Jvm.MethodName) prog_1_method_41_code (5 : Nat) (Option.some Jvm.ClassFile.FieldType.int)) ∈ lw_all := lw_g (lw_at lw_m7 53 rfl) rfl
theorem q1586 : (Jvm.Cond.instanceMethod ({ cls := "PetitionDesk", name := "estimate", desc := "(II)J" } : Jvm.MethodName)) ∈ lw_all := lw_g (lw_at lw_m7 58 rfl) rfl
theorem q1587 : (Jvm.Cond.selects "PetitionDesk" ({ cls := "PetitionDesk", name := "estimate", desc := "(II)J" } : Jvm.MethodName) ({ cls := "PetitionDesk", name := "estimate", desc := "(II)J" } : Jvm.MethodName)) ∈ lw_all := lw_g (lw_at lw_m7 59 rfl) rfl
theorem q1588 : (Jvm.Cond.code ({ cls := "PetitionDesk", name := "estimate", desc := "(II)J" } : Jvm.MethodName) prog_1_method_44_code (7 : Nat) (Option.some Jvm.ClassFile.FieldType.long)) ∈ lw_all := lw_g (lw_at lw_m7 60 rfl) rfl
theorem q1589 : (Jvm.Cond.methodLink "PetitionDesk" (325 : Nat) ({ cls := "PetitionDesk", name := "part", desc := "(JJI)J" } : Jvm.MethodName)) ∈ lw_all := lw_g (lw_at lw_m7 61 rfl) rfl
theorem q1590 : (Jvm.Cond.static ({ cls := "PetitionDesk", name := "part", desc := "(JJI)J" } : Jvm.MethodName)) ∈ lw_all := lw_g (lw_at lw_m7 62 rfl) rfl
theorem q1591 : (Jvm.Cond.code ({ cls := "PetitionDesk", name := "part", desc := "(JJI)J" } : Jvm.MethodName) prog_1_method_43_code (5 : Nat) (Option.some Jvm.ClassFile.FieldType.long)) ∈ lw_all := lw_g (lw_at lw_m7 63 rfl) rfl
theorem q1592 : (Jvm.Cond.methodLink "PetitionDesk" (7 : Nat) ({ cls := "PetitionDesk", name := "divisor", desc := "(JJ)J" } : Jvm.MethodName)) ∈ lw_all := lw_g (lw_at lw_m7 64 rfl) rfl
theorem q1593 : (Jvm.Cond.static ({ cls := "PetitionDesk", name := "divisor", desc := "(JJ)J" } : Jvm.MethodName)) ∈ lw_all := lw_g (lw_at lw_m7 65 rfl) rfl
theorem q1594 : (Jvm.Cond.code ({ cls := "PetitionDesk", name := "divisor", desc := "(JJ)J" } : Jvm.MethodName) prog_1_method_3_code (4 : Nat) (Option.some Jvm.ClassFile.FieldType.long)) ∈ lw_all := lw_g (lw_at lw_m7 66 rfl) rfl
theorem q1595 : (Jvm.Cond.methodLink "PetitionDesk" (1 : Nat) ({ cls := "java/lang/Math", name := "abs", desc := "(J)J" } : Jvm.MethodName)) ∈ lw_all := lw_g (lw_at lw_m7 67 rfl) rfl
theorem q1602 : (Jvm.Cond.instanceMethod ({ cls := "PetitionDesk", name := "unlike", desc := "(I)I" } : Jvm.MethodName)) ∈ lw_all := lw_g (lw_at lw_m7 74 rfl) rfl
theorem q1603 : (Jvm.Cond.selects "PetitionDesk" ({ cls := "PetitionDesk", name := "unlike", desc := "(I)I" } : Jvm.MethodName) ({ cls := "PetitionDesk", name := "unlike", desc := "(I)I" } : Jvm.MethodName)) ∈ lw_all := lw_g (lw_at lw_m7 75 rfl) rfl
theorem q1604 : (Jvm.Cond.code ({ cls := "PetitionDesk", name := "unlike", desc := "(I)I" } : Jvm.MethodName) prog_1_method_45_code (8 : Nat) (Option.some Jvm.ClassFile.FieldType.int)) ∈ lw_all := lw_g (lw_at lw_m7 76 rfl) rfl
theorem q1609 : (Jvm.Cond.instanceMethod ({ cls := "PetitionDesk", name := "unseen", desc := "(II)J" } : Jvm.MethodName)) ∈ lw_all := lw_g (lw_at lw_m7 81 rfl) rfl
theorem q1610 : (Jvm.Cond.selects "PetitionDesk" ({ cls := "PetitionDesk", name := "unseen", desc := "(II)J" } : Jvm.MethodName) ({ cls := "PetitionDesk", name := "unseen", desc := "(II)J" } : Jvm.MethodName)) ∈ lw_all := lw_g (lw_at lw_m7 82 rfl) rfl
theorem q1611 : (Jvm.Cond.code ({ cls := "PetitionDesk", name := "unseen", desc := "(II)J" } : Jvm.MethodName) prog_1_method_46_code (12 : Nat) (Option.some Jvm.ClassFile.FieldType.long)) ∈ lw_all := lw_g (lw_at lw_m7 83 rfl) rfl
theorem q1612 : (Jvm.Cond.constantLong "PetitionDesk" (329 : Nat) (-1 : Int64)) ∈ lw_all := lw_g (lw_at lw_m7 84 rfl) rfl
theorem q1617 : (Jvm.Cond.instanceMethod ({ cls := "PetitionDesk", name := "worst", desc := "(II)I" } : Jvm.MethodName)) ∈ lw_all := lw_g (lw_at lw_m7 89 rfl) rfl
theorem q1618 : (Jvm.Cond.selects "PetitionDesk" ({ cls := "PetitionDesk", name := "worst", desc := "(II)I" } : Jvm.MethodName) ({ cls := "PetitionDesk", name := "worst", desc := "(II)I" } : Jvm.MethodName)) ∈ lw_all := lw_g (lw_at lw_m7 90 rfl) rfl
theorem q1619 : (Jvm.Cond.code ({ cls := "PetitionDesk", name := "worst", desc := "(II)I" } : Jvm.MethodName) prog_1_method_48_code (8 : Nat) (Option.some Jvm.ClassFile.FieldType.int)) ∈ lw_all := lw_g (lw_at lw_m7 91 rfl) rfl
theorem q1620 : (Jvm.Cond.methodLink "PetitionDesk" (331 : Nat) ({ cls := "java/lang/Integer", name := "bitCount", desc := "(I)I" } : Jvm.MethodName)) ∈ lw_all := lw_g (lw_at lw_m7 92 rfl) rfl
theorem q1626 : (Jvm.Cond.methodLink "PetitionDesk" (335 : Nat) ({ cls := "PetitionDesk", name := "trueWithout", desc := "(I)I" } : Jvm.MethodName)) ∈ lw_all := lw_g (lw_at lw_m7 98 rfl) rfl
theorem q1627 : (Jvm.Cond.privateMethod ({ cls := "PetitionDesk", name := "trueWithout", desc := "(I)I" } : Jvm.MethodName)) ∈ lw_tbl := lw_at lw_m7 99 rfl
theorem q1628 : (Jvm.Cond.instanceMethod ({ cls := "PetitionDesk", name := "trueWithout", desc := "(I)I" } : Jvm.MethodName)) ∈ lw_all := lw_g (lw_at lw_m7 100 rfl) rfl
theorem q1629 : (Jvm.Cond.code ({ cls := "PetitionDesk", name := "trueWithout", desc := "(I)I" } : Jvm.MethodName) prog_1_method_49_code (5 : Nat) (Option.some Jvm.ClassFile.FieldType.int)) ∈ lw_all := lw_g (lw_at lw_m7 101 rfl) rfl
theorem q1630 : (Jvm.Cond.methodLink "PetitionDesk" (338 : Nat) ({ cls := "PetitionDesk$Line", name := "isGood", desc := "()Z" } : Jvm.MethodName)) ∈ lw_all := lw_g (lw_at lw_m7 102 rfl) rfl
theorem q1635 : (Jvm.Cond.instanceMethod ({ cls := "PetitionDesk", name := "cost", desc := "(I)I" } : Jvm.MethodName)) ∈ lw_all := lw_g (lw_at lw_m7 107 rfl) rfl
theorem q1636 : (Jvm.Cond.selects "PetitionDesk" ({ cls := "PetitionDesk", name := "cost", desc := "(I)I" } : Jvm.MethodName) ({ cls := "PetitionDesk", name := "cost", desc := "(I)I" } : Jvm.MethodName)) ∈ lw_all := lw_g (lw_at lw_m7 108 rfl) rfl
theorem q1637 : (Jvm.Cond.codeWith ({ cls := "PetitionDesk", name := "cost", desc := "(I)I" } : Jvm.MethodName) prog_1_method_50_code (3 : Nat) (Option.some Jvm.ClassFile.FieldType.int) [((13 : Nat), (24 : Nat), (25 : Nat), (347 : Nat))]) ∈ lw_all := lw_g (lw_at lw_m7 109 rfl) rfl
theorem q1638 : (Jvm.Cond.classLink "PetitionDesk" (347 : Nat) "java/lang/ArithmeticException") ∈ lw_all := lw_g (lw_at lw_m7 110 rfl) rfl
theorem q1652 : (Jvm.Cond.methodLink "PetitionDesk" (344 : Nat) ({ cls := "java/lang/Math", name := "multiplyExact", desc := "(II)I" } : Jvm.MethodName)) ∈ lw_all := lw_g (lw_at lw_m7 124 rfl) rfl
theorem q2089 : (Jvm.Cond.castable "PetitionDesk" "java/lang/Object") ∈ lw_tbl := lw_at lw_m9 81 rfl
theorem in_X1 : ∀ w ∈ wsX10, w ∈ lw_all := lw_in wsX10 [523, 525, 527, 529, 531, 533, 535] (by decide +kernel) (by decide +kernel)
