/-! PetitionDeskModel -/
set_option maxRecDepth 100000
def RX4 : String := "PetitionDeskModel"
def TX4 : u_T := fun k => match k with
  | 0 => ("PetitionDeskModel", "thrown", "I", false)
  | 1 => ("PetitionDeskModel", "refused", "[I", true)
  | 2 => ("PetitionDeskModel", "tape", "I", false)
  | 3 => ("PetitionDeskModel", "size", "I", false)
  | 4 => ("PetitionDeskModel", "at", "I", false)
  | 5 => ("PetitionDeskModel", "place", "I", false)
  | 6 => ("PetitionDeskModel", "fault", "I", false)
  | 7 => ("PetitionDeskModel", "faultAt", "I", false)
  | 8 => ("PetitionDeskModel", "fed", "[I", true)
  | 9 => ("PetitionDeskModel", "now", "[I", true)
  | 10 => ("PetitionDeskModel", "told", "[I", true)
  | 11 => ("PetitionDeskModel", "past", "[[I", true)
  | 12 => ("PetitionDeskModel", "backs", "I", false)
  | 13 => ("PetitionDeskModel", "codes", "I", false)
  | 14 => ("PetitionDeskModel", "open", "I", false)
  | 15 => ("PetitionDeskModel", "once", "I", false)
  | 16 => ("PetitionDeskModel", "how", "[I", true)
  | 17 => ("PetitionDeskModel", "whose", "[I", true)
  | 18 => ("PetitionDeskModel", "stack", "[I", true)
  | 19 => ("PetitionDeskModel", "struck", "I", false)
  | _ => ("PetitionDeskModel", "apart", "[J", true)
def tyX4 : Nat → FieldType := fun k => match k with
  | 0 => .int
  | 1 => .array .int
  | 2 => .int
  | 3 => .int
  | 4 => .int
  | 5 => .int
  | 6 => .int
  | 7 => .int
  | 8 => .array .int
  | 9 => .array .int
  | 10 => .array .int
  | 11 => .array (.array .int)
  | 12 => .int
  | 13 => .int
  | 14 => .int
  | 15 => .int
  | 16 => .array .int
  | 17 => .array .int
  | 18 => .array .int
  | 19 => .int
  | _ => .array .long
abbrev wsX40 : List Cond := u_ws RX4 TX4 21
set_option maxRecDepth 100000 in
theorem nmX4 : ∀ a, a < 21 → ∀ b, b < 21 → a ≠ b → (TX4 a).2.1 ≠ (TX4 b).2.1 := by decide +kernel
set_option maxRecDepth 100000 in
theorem tyX4_ok : ∀ k, k < 21 → parseFieldDescriptor (TX4 k).2.2.1 = some (tyX4 k) := by decide +kernel
abbrev cX4_init : ByteArray := prog_12_method_1_code
def yX4_init : MethodName := ⟨RX4, "<init>", "()V"⟩
def dkwX4_init_4 : List UInt8 := [184, 0, 44, 177]
abbrev dktX4_init_4 : List UInt8 := dkwX4_init_4 ++ []
def dkwX4_init_3 : List UInt8 := [181, 0, 34, 42, 17, 3, 32, 188, 10, 181, 0, 37, 42, 16, 41, 188, 11, 181, 0, 40, 42, 180, 0, 20]
abbrev dktX4_init_3 : List UInt8 := dkwX4_init_3 ++ dktX4_init_4
def dkwX4_init_2 : List UInt8 := [17, 4, 81, 197, 0, 26, 2, 181, 0, 28, 42, 16, 40, 188, 10, 181, 0, 31, 42, 16, 40, 188, 10]
abbrev dktX4_init_2 : List UInt8 := dkwX4_init_2 ++ dktX4_init_3
def dkwX4_init_1 : List UInt8 := [181, 0, 17, 42, 17, 4, 81, 188, 10, 181, 0, 20, 42, 17, 4, 81, 188, 10, 181, 0, 23, 42, 16, 8]
abbrev dktX4_init_1 : List UInt8 := dkwX4_init_1 ++ dktX4_init_2
def dkwX4_init_0 : List UInt8 := [42, 183, 0, 3, 42, 6, 188, 10, 181, 0, 9, 42, 2, 181, 0, 13, 42, 17, 2, 88, 188, 10]
abbrev dktX4_init_0 : List UInt8 := dkwX4_init_0 ++ dktX4_init_1
theorem dksX4_init_0 : cX4_init.data.toList.drop 0 = dktX4_init_0 := by decide +kernel
theorem dksX4_init_1 : cX4_init.data.toList.drop 22 = dktX4_init_1 := dk_seg dksX4_init_0 22 rfl rfl
theorem dksX4_init_2 : cX4_init.data.toList.drop 46 = dktX4_init_2 := dk_seg dksX4_init_1 24 rfl rfl
theorem dksX4_init_3 : cX4_init.data.toList.drop 69 = dktX4_init_3 := dk_seg dksX4_init_2 23 rfl rfl
theorem dksX4_init_4 : cX4_init.data.toList.drop 93 = dktX4_init_4 := dk_seg dksX4_init_3 24 rfl rfl
theorem dX4_init_0 : decode cX4_init 0 = .ok (.aload_n 0, 1) := dk_42 (dk_at dksX4_init_0 0 rfl rfl)
theorem dX4_init_1 : decode cX4_init 1 = .ok (.invokespecial 3, 3) := dk_183 0 3 (dk_at dksX4_init_0 1 rfl rfl)
theorem dX4_init_4 : decode cX4_init 4 = .ok (.aload_n 0, 1) := dk_42 (dk_at dksX4_init_0 4 rfl rfl)
theorem dX4_init_5 : decode cX4_init 5 = .ok (.iconst 3, 1) := dk_6 (dk_at dksX4_init_0 5 rfl rfl)
theorem dX4_init_6 : decode cX4_init 6 = .ok (.newarray .int, 2) := dk_188_10 (dk_at dksX4_init_0 6 rfl rfl)
theorem dX4_init_8 : decode cX4_init 8 = .ok (.putfield 9, 3) := dk_181 0 9 (dk_at dksX4_init_0 8 rfl rfl)
theorem dX4_init_11 : decode cX4_init 11 = .ok (.aload_n 0, 1) := dk_42 (dk_at dksX4_init_0 11 rfl rfl)
theorem dX4_init_12 : decode cX4_init 12 = .ok (.iconst (-1), 1) := dk_2 (dk_at dksX4_init_0 12 rfl rfl)
theorem dX4_init_13 : decode cX4_init 13 = .ok (.putfield 13, 3) := dk_181 0 13 (dk_at dksX4_init_0 13 rfl rfl)
theorem dX4_init_16 : decode cX4_init 16 = .ok (.aload_n 0, 1) := dk_42 (dk_at dksX4_init_0 16 rfl rfl)
theorem dX4_init_17 : decode cX4_init 17 = .ok (.sipush 600, 3) := dk_17 2 88 (dk_at dksX4_init_0 17 rfl rfl)
theorem dX4_init_20 : decode cX4_init 20 = .ok (.newarray .int, 2) := dk_188_10 (dk_at dksX4_init_0 20 rfl rfl)
theorem dX4_init_22 : decode cX4_init 22 = .ok (.putfield 17, 3) := dk_181 0 17 (dk_at dksX4_init_1 0 rfl rfl)
theorem dX4_init_25 : decode cX4_init 25 = .ok (.aload_n 0, 1) := dk_42 (dk_at dksX4_init_1 3 rfl rfl)
theorem dX4_init_26 : decode cX4_init 26 = .ok (.sipush 1105, 3) := dk_17 4 81 (dk_at dksX4_init_1 4 rfl rfl)
theorem dX4_init_29 : decode cX4_init 29 = .ok (.newarray .int, 2) := dk_188_10 (dk_at dksX4_init_1 7 rfl rfl)
theorem dX4_init_31 : decode cX4_init 31 = .ok (.putfield 20, 3) := dk_181 0 20 (dk_at dksX4_init_1 9 rfl rfl)
theorem dX4_init_34 : decode cX4_init 34 = .ok (.aload_n 0, 1) := dk_42 (dk_at dksX4_init_1 12 rfl rfl)
theorem dX4_init_35 : decode cX4_init 35 = .ok (.sipush 1105, 3) := dk_17 4 81 (dk_at dksX4_init_1 13 rfl rfl)
theorem dX4_init_38 : decode cX4_init 38 = .ok (.newarray .int, 2) := dk_188_10 (dk_at dksX4_init_1 16 rfl rfl)
theorem dX4_init_40 : decode cX4_init 40 = .ok (.putfield 23, 3) := dk_181 0 23 (dk_at dksX4_init_1 18 rfl rfl)
theorem dX4_init_43 : decode cX4_init 43 = .ok (.aload_n 0, 1) := dk_42 (dk_at dksX4_init_1 21 rfl rfl)
theorem dX4_init_44 : decode cX4_init 44 = .ok (.bipush 8, 2) := dk_16 8 (dk_at dksX4_init_1 22 rfl rfl)
theorem dX4_init_46 : decode cX4_init 46 = .ok (.sipush 1105, 3) := dk_17 4 81 (dk_at dksX4_init_2 0 rfl rfl)
theorem dX4_init_49 : decode cX4_init 49 = .ok (.multianewarray 26 2, 4) := by decide +kernel
theorem dX4_init_53 : decode cX4_init 53 = .ok (.putfield 28, 3) := dk_181 0 28 (dk_at dksX4_init_2 7 rfl rfl)
theorem dX4_init_56 : decode cX4_init 56 = .ok (.aload_n 0, 1) := dk_42 (dk_at dksX4_init_2 10 rfl rfl)
theorem dX4_init_57 : decode cX4_init 57 = .ok (.bipush 40, 2) := dk_16 40 (dk_at dksX4_init_2 11 rfl rfl)
theorem dX4_init_59 : decode cX4_init 59 = .ok (.newarray .int, 2) := dk_188_10 (dk_at dksX4_init_2 13 rfl rfl)
theorem dX4_init_61 : decode cX4_init 61 = .ok (.putfield 31, 3) := dk_181 0 31 (dk_at dksX4_init_2 15 rfl rfl)
theorem dX4_init_64 : decode cX4_init 64 = .ok (.aload_n 0, 1) := dk_42 (dk_at dksX4_init_2 18 rfl rfl)
theorem dX4_init_65 : decode cX4_init 65 = .ok (.bipush 40, 2) := dk_16 40 (dk_at dksX4_init_2 19 rfl rfl)
theorem dX4_init_67 : decode cX4_init 67 = .ok (.newarray .int, 2) := dk_188_10 (dk_at dksX4_init_2 21 rfl rfl)
theorem dX4_init_69 : decode cX4_init 69 = .ok (.putfield 34, 3) := dk_181 0 34 (dk_at dksX4_init_3 0 rfl rfl)
theorem dX4_init_72 : decode cX4_init 72 = .ok (.aload_n 0, 1) := dk_42 (dk_at dksX4_init_3 3 rfl rfl)
theorem dX4_init_73 : decode cX4_init 73 = .ok (.sipush 800, 3) := dk_17 3 32 (dk_at dksX4_init_3 4 rfl rfl)
theorem dX4_init_76 : decode cX4_init 76 = .ok (.newarray .int, 2) := dk_188_10 (dk_at dksX4_init_3 7 rfl rfl)
theorem dX4_init_78 : decode cX4_init 78 = .ok (.putfield 37, 3) := dk_181 0 37 (dk_at dksX4_init_3 9 rfl rfl)
theorem dX4_init_81 : decode cX4_init 81 = .ok (.aload_n 0, 1) := dk_42 (dk_at dksX4_init_3 12 rfl rfl)
theorem dX4_init_82 : decode cX4_init 82 = .ok (.bipush 41, 2) := dk_16 41 (dk_at dksX4_init_3 13 rfl rfl)
theorem dX4_init_84 : decode cX4_init 84 = .ok (.newarray .long, 2) := dk_188_11 (dk_at dksX4_init_3 15 rfl rfl)
theorem dX4_init_86 : decode cX4_init 86 = .ok (.putfield 40, 3) := dk_181 0 40 (dk_at dksX4_init_3 17 rfl rfl)
theorem dX4_init_89 : decode cX4_init 89 = .ok (.aload_n 0, 1) := dk_42 (dk_at dksX4_init_3 20 rfl rfl)
theorem dX4_init_90 : decode cX4_init 90 = .ok (.getfield 20, 3) := dk_180 0 20 (dk_at dksX4_init_3 21 rfl rfl)
theorem dX4_init_93 : decode cX4_init 93 = .ok (.invokestatic 44, 3) := dk_184 0 44 (dk_at dksX4_init_4 0 rfl rfl)
theorem dX4_init_96 : decode cX4_init 96 = .ok (.return_, 1) := dk_177 (dk_at dksX4_init_4 3 rfl rfl)
abbrev cX4_begins : ByteArray := prog_12_method_2_code
def yX4_begins : MethodName := ⟨RX4, "begins", "([I)V"⟩
def dkwX4_begins_1 : List UInt8 := [8, 17, 3, 231, 79, 42, 16, 6, 16, 100, 79, 42, 16, 7, 16, 50, 79, 177]
abbrev dktX4_begins_1 : List UInt8 := dkwX4_begins_1 ++ []
def dkwX4_begins_0 : List UInt8 := [3, 60, 27, 17, 4, 81, 162, 0, 13, 42, 27, 3, 79, 132, 1, 1, 167, 255, 242, 42, 6, 4, 79, 42]
abbrev dktX4_begins_0 : List UInt8 := dkwX4_begins_0 ++ dktX4_begins_1
theorem dksX4_begins_0 : cX4_begins.data.toList.drop 0 = dktX4_begins_0 := by decide +kernel
theorem dksX4_begins_1 : cX4_begins.data.toList.drop 24 = dktX4_begins_1 := dk_seg dksX4_begins_0 24 rfl rfl
theorem dX4_begins_0 : decode cX4_begins 0 = .ok (.iconst 0, 1) := dk_3 (dk_at dksX4_begins_0 0 rfl rfl)
theorem dX4_begins_1 : decode cX4_begins 1 = .ok (.istore_n 1, 1) := dk_60 (dk_at dksX4_begins_0 1 rfl rfl)
theorem dX4_begins_2 : decode cX4_begins 2 = .ok (.iload_n 1, 1) := dk_27 (dk_at dksX4_begins_0 2 rfl rfl)
theorem dX4_begins_3 : decode cX4_begins 3 = .ok (.sipush 1105, 3) := dk_17 4 81 (dk_at dksX4_begins_0 3 rfl rfl)
theorem dX4_begins_6 : decode cX4_begins 6 = .ok (.if_icmp .ge 13, 3) := dk_162 0 13 (dk_at dksX4_begins_0 6 rfl rfl)
theorem dX4_begins_9 : decode cX4_begins 9 = .ok (.aload_n 0, 1) := dk_42 (dk_at dksX4_begins_0 9 rfl rfl)
theorem dX4_begins_10 : decode cX4_begins 10 = .ok (.iload_n 1, 1) := dk_27 (dk_at dksX4_begins_0 10 rfl rfl)
theorem dX4_begins_11 : decode cX4_begins 11 = .ok (.iconst 0, 1) := dk_3 (dk_at dksX4_begins_0 11 rfl rfl)
theorem dX4_begins_12 : decode cX4_begins 12 = .ok (.iastore, 1) := dk_79 (dk_at dksX4_begins_0 12 rfl rfl)
theorem dX4_begins_13 : decode cX4_begins 13 = .ok (.iinc 1 1, 3) := dk_132 1 1 (dk_at dksX4_begins_0 13 rfl rfl)
theorem dX4_begins_16 : decode cX4_begins 16 = .ok (.goto (-14), 3) := dk_167 255 242 (dk_at dksX4_begins_0 16 rfl rfl)
theorem dX4_begins_19 : decode cX4_begins 19 = .ok (.aload_n 0, 1) := dk_42 (dk_at dksX4_begins_0 19 rfl rfl)
theorem dX4_begins_20 : decode cX4_begins 20 = .ok (.iconst 3, 1) := dk_6 (dk_at dksX4_begins_0 20 rfl rfl)
theorem dX4_begins_21 : decode cX4_begins 21 = .ok (.iconst 1, 1) := dk_4 (dk_at dksX4_begins_0 21 rfl rfl)
theorem dX4_begins_22 : decode cX4_begins 22 = .ok (.iastore, 1) := dk_79 (dk_at dksX4_begins_0 22 rfl rfl)
theorem dX4_begins_23 : decode cX4_begins 23 = .ok (.aload_n 0, 1) := dk_42 (dk_at dksX4_begins_0 23 rfl rfl)
theorem dX4_begins_24 : decode cX4_begins 24 = .ok (.iconst 5, 1) := dk_8 (dk_at dksX4_begins_1 0 rfl rfl)
theorem dX4_begins_25 : decode cX4_begins 25 = .ok (.sipush 999, 3) := dk_17 3 231 (dk_at dksX4_begins_1 1 rfl rfl)
theorem dX4_begins_28 : decode cX4_begins 28 = .ok (.iastore, 1) := dk_79 (dk_at dksX4_begins_1 4 rfl rfl)
theorem dX4_begins_29 : decode cX4_begins 29 = .ok (.aload_n 0, 1) := dk_42 (dk_at dksX4_begins_1 5 rfl rfl)
theorem dX4_begins_30 : decode cX4_begins 30 = .ok (.bipush 6, 2) := dk_16 6 (dk_at dksX4_begins_1 6 rfl rfl)
theorem dX4_begins_32 : decode cX4_begins 32 = .ok (.bipush 100, 2) := dk_16 100 (dk_at dksX4_begins_1 8 rfl rfl)
theorem dX4_begins_34 : decode cX4_begins 34 = .ok (.iastore, 1) := dk_79 (dk_at dksX4_begins_1 10 rfl rfl)
theorem dX4_begins_35 : decode cX4_begins 35 = .ok (.aload_n 0, 1) := dk_42 (dk_at dksX4_begins_1 11 rfl rfl)
theorem dX4_begins_36 : decode cX4_begins 36 = .ok (.bipush 7, 2) := dk_16 7 (dk_at dksX4_begins_1 12 rfl rfl)
theorem dX4_begins_38 : decode cX4_begins 38 = .ok (.bipush 50, 2) := dk_16 50 (dk_at dksX4_begins_1 14 rfl rfl)
theorem dX4_begins_40 : decode cX4_begins 40 = .ok (.iastore, 1) := dk_79 (dk_at dksX4_begins_1 16 rfl rfl)
theorem dX4_begins_41 : decode cX4_begins 41 = .ok (.return_, 1) := dk_177 (dk_at dksX4_begins_1 17 rfl rfl)
abbrev cX4_thrown : ByteArray := prog_12_method_3_code
def yX4_thrown : MethodName := ⟨RX4, "thrown", "()I"⟩
theorem dX4_thrown_0 : decode cX4_thrown 0 = .ok (.aload_n 0, 1) := by decide +kernel
theorem dX4_thrown_1 : decode cX4_thrown 1 = .ok (.getfield 48, 3) := by decide +kernel
theorem dX4_thrown_4 : decode cX4_thrown 4 = .ok (.ireturn, 1) := by decide +kernel
abbrev cX4_feed : ByteArray := prog_12_method_7_code
def yX4_feed : MethodName := ⟨RX4, "feed", "(IIIII)I"⟩
def dkwX4_feed_5 : List UInt8 := [167, 255, 162, 42, 180, 0, 51, 172]
abbrev dktX4_feed_5 : List UInt8 := dkwX4_feed_5 ++ []
def dkwX4_feed_4 : List UInt8 := [112, 104, 100, 122, 17, 0, 255, 126, 79, 42, 89, 180, 0, 51, 4, 96, 181, 0, 51, 132, 6, 1]
abbrev dktX4_feed_4 : List UInt8 := dkwX4_feed_4 ++ dktX4_feed_5
def dkwX4_feed_3 : List UInt8 := [167, 0, 5, 21, 5, 54, 7, 42, 180, 0, 17, 42, 180, 0, 51, 21, 7, 16, 24, 16, 8, 21, 6, 7]
abbrev dktX4_feed_3 : List UInt8 := dkwX4_feed_3 ++ dktX4_feed_4
def dkwX4_feed_2 : List UInt8 := [28, 167, 0, 28, 21, 6, 16, 12, 162, 0, 7, 29, 167, 0, 17, 21, 6, 16, 16, 162, 0, 8, 21, 4]
abbrev dktX4_feed_2 : List UInt8 := dkwX4_feed_2 ++ dktX4_feed_3
def dkwX4_feed_1 : List UInt8 := [21, 6, 16, 20, 162, 0, 93, 21, 6, 7, 162, 0, 7, 27, 167, 0, 39, 21, 6, 16, 8, 162, 0, 7]
abbrev dktX4_feed_1 : List UInt8 := dkwX4_feed_1 ++ dktX4_feed_2
def dkwX4_feed_0 : List UInt8 := [42, 3, 181, 0, 48, 42, 180, 0, 51, 16, 20, 96, 17, 2, 88, 164, 0, 5, 2, 172, 3, 54, 6]
abbrev dktX4_feed_0 : List UInt8 := dkwX4_feed_0 ++ dktX4_feed_1
theorem dksX4_feed_0 : cX4_feed.data.toList.drop 0 = dktX4_feed_0 := by decide +kernel
theorem dksX4_feed_1 : cX4_feed.data.toList.drop 23 = dktX4_feed_1 := dk_seg dksX4_feed_0 23 rfl rfl
theorem dksX4_feed_2 : cX4_feed.data.toList.drop 47 = dktX4_feed_2 := dk_seg dksX4_feed_1 24 rfl rfl
theorem dksX4_feed_3 : cX4_feed.data.toList.drop 71 = dktX4_feed_3 := dk_seg dksX4_feed_2 24 rfl rfl
theorem dksX4_feed_4 : cX4_feed.data.toList.drop 95 = dktX4_feed_4 := dk_seg dksX4_feed_3 24 rfl rfl
theorem dksX4_feed_5 : cX4_feed.data.toList.drop 117 = dktX4_feed_5 := dk_seg dksX4_feed_4 22 rfl rfl
theorem dX4_feed_0 : decode cX4_feed 0 = .ok (.aload_n 0, 1) := dk_42 (dk_at dksX4_feed_0 0 rfl rfl)
theorem dX4_feed_1 : decode cX4_feed 1 = .ok (.iconst 0, 1) := dk_3 (dk_at dksX4_feed_0 1 rfl rfl)
theorem dX4_feed_2 : decode cX4_feed 2 = .ok (.putfield 48, 3) := dk_181 0 48 (dk_at dksX4_feed_0 2 rfl rfl)
theorem dX4_feed_5 : decode cX4_feed 5 = .ok (.aload_n 0, 1) := dk_42 (dk_at dksX4_feed_0 5 rfl rfl)
theorem dX4_feed_6 : decode cX4_feed 6 = .ok (.getfield 51, 3) := dk_180 0 51 (dk_at dksX4_feed_0 6 rfl rfl)
theorem dX4_feed_9 : decode cX4_feed 9 = .ok (.bipush 20, 2) := dk_16 20 (dk_at dksX4_feed_0 9 rfl rfl)
theorem dX4_feed_11 : decode cX4_feed 11 = .ok (.iadd, 1) := dk_96 (dk_at dksX4_feed_0 11 rfl rfl)
theorem dX4_feed_12 : decode cX4_feed 12 = .ok (.sipush 600, 3) := dk_17 2 88 (dk_at dksX4_feed_0 12 rfl rfl)
theorem dX4_feed_15 : decode cX4_feed 15 = .ok (.if_icmp .le 5, 3) := dk_164 0 5 (dk_at dksX4_feed_0 15 rfl rfl)
theorem dX4_feed_18 : decode cX4_feed 18 = .ok (.iconst (-1), 1) := dk_2 (dk_at dksX4_feed_0 18 rfl rfl)
theorem dX4_feed_19 : decode cX4_feed 19 = .ok (.ireturn, 1) := dk_172 (dk_at dksX4_feed_0 19 rfl rfl)
theorem dX4_feed_20 : decode cX4_feed 20 = .ok (.iconst 0, 1) := dk_3 (dk_at dksX4_feed_0 20 rfl rfl)
theorem dX4_feed_21 : decode cX4_feed 21 = .ok (.istore 6, 2) := dk_54 6 (dk_at dksX4_feed_0 21 rfl rfl)
theorem dX4_feed_23 : decode cX4_feed 23 = .ok (.iload 6, 2) := dk_21 6 (dk_at dksX4_feed_1 0 rfl rfl)
theorem dX4_feed_25 : decode cX4_feed 25 = .ok (.bipush 20, 2) := dk_16 20 (dk_at dksX4_feed_1 2 rfl rfl)
theorem dX4_feed_27 : decode cX4_feed 27 = .ok (.if_icmp .ge 93, 3) := dk_162 0 93 (dk_at dksX4_feed_1 4 rfl rfl)
theorem dX4_feed_30 : decode cX4_feed 30 = .ok (.iload 6, 2) := dk_21 6 (dk_at dksX4_feed_1 7 rfl rfl)
theorem dX4_feed_32 : decode cX4_feed 32 = .ok (.iconst 4, 1) := dk_7 (dk_at dksX4_feed_1 9 rfl rfl)
theorem dX4_feed_33 : decode cX4_feed 33 = .ok (.if_icmp .ge 7, 3) := dk_162 0 7 (dk_at dksX4_feed_1 10 rfl rfl)
theorem dX4_feed_36 : decode cX4_feed 36 = .ok (.iload_n 1, 1) := dk_27 (dk_at dksX4_feed_1 13 rfl rfl)
theorem dX4_feed_37 : decode cX4_feed 37 = .ok (.goto 39, 3) := dk_167 0 39 (dk_at dksX4_feed_1 14 rfl rfl)
theorem dX4_feed_40 : decode cX4_feed 40 = .ok (.iload 6, 2) := dk_21 6 (dk_at dksX4_feed_1 17 rfl rfl)
theorem dX4_feed_42 : decode cX4_feed 42 = .ok (.bipush 8, 2) := dk_16 8 (dk_at dksX4_feed_1 19 rfl rfl)
theorem dX4_feed_44 : decode cX4_feed 44 = .ok (.if_icmp .ge 7, 3) := dk_162 0 7 (dk_at dksX4_feed_1 21 rfl rfl)
theorem dX4_feed_47 : decode cX4_feed 47 = .ok (.iload_n 2, 1) := dk_28 (dk_at dksX4_feed_2 0 rfl rfl)
theorem dX4_feed_48 : decode cX4_feed 48 = .ok (.goto 28, 3) := dk_167 0 28 (dk_at dksX4_feed_2 1 rfl rfl)
theorem dX4_feed_51 : decode cX4_feed 51 = .ok (.iload 6, 2) := dk_21 6 (dk_at dksX4_feed_2 4 rfl rfl)
theorem dX4_feed_53 : decode cX4_feed 53 = .ok (.bipush 12, 2) := dk_16 12 (dk_at dksX4_feed_2 6 rfl rfl)
theorem dX4_feed_55 : decode cX4_feed 55 = .ok (.if_icmp .ge 7, 3) := dk_162 0 7 (dk_at dksX4_feed_2 8 rfl rfl)
theorem dX4_feed_58 : decode cX4_feed 58 = .ok (.iload_n 3, 1) := dk_29 (dk_at dksX4_feed_2 11 rfl rfl)
theorem dX4_feed_59 : decode cX4_feed 59 = .ok (.goto 17, 3) := dk_167 0 17 (dk_at dksX4_feed_2 12 rfl rfl)
theorem dX4_feed_62 : decode cX4_feed 62 = .ok (.iload 6, 2) := dk_21 6 (dk_at dksX4_feed_2 15 rfl rfl)
theorem dX4_feed_64 : decode cX4_feed 64 = .ok (.bipush 16, 2) := dk_16 16 (dk_at dksX4_feed_2 17 rfl rfl)
theorem dX4_feed_66 : decode cX4_feed 66 = .ok (.if_icmp .ge 8, 3) := dk_162 0 8 (dk_at dksX4_feed_2 19 rfl rfl)
theorem dX4_feed_69 : decode cX4_feed 69 = .ok (.iload 4, 2) := dk_21 4 (dk_at dksX4_feed_2 22 rfl rfl)
theorem dX4_feed_71 : decode cX4_feed 71 = .ok (.goto 5, 3) := dk_167 0 5 (dk_at dksX4_feed_3 0 rfl rfl)
theorem dX4_feed_74 : decode cX4_feed 74 = .ok (.iload 5, 2) := dk_21 5 (dk_at dksX4_feed_3 3 rfl rfl)
theorem dX4_feed_76 : decode cX4_feed 76 = .ok (.istore 7, 2) := dk_54 7 (dk_at dksX4_feed_3 5 rfl rfl)
theorem dX4_feed_78 : decode cX4_feed 78 = .ok (.aload_n 0, 1) := dk_42 (dk_at dksX4_feed_3 7 rfl rfl)
theorem dX4_feed_79 : decode cX4_feed 79 = .ok (.getfield 17, 3) := dk_180 0 17 (dk_at dksX4_feed_3 8 rfl rfl)
theorem dX4_feed_82 : decode cX4_feed 82 = .ok (.aload_n 0, 1) := dk_42 (dk_at dksX4_feed_3 11 rfl rfl)
theorem dX4_feed_83 : decode cX4_feed 83 = .ok (.getfield 51, 3) := dk_180 0 51 (dk_at dksX4_feed_3 12 rfl rfl)
theorem dX4_feed_86 : decode cX4_feed 86 = .ok (.iload 7, 2) := dk_21 7 (dk_at dksX4_feed_3 15 rfl rfl)
theorem dX4_feed_88 : decode cX4_feed 88 = .ok (.bipush 24, 2) := dk_16 24 (dk_at dksX4_feed_3 17 rfl rfl)
theorem dX4_feed_90 : decode cX4_feed 90 = .ok (.bipush 8, 2) := dk_16 8 (dk_at dksX4_feed_3 19 rfl rfl)
theorem dX4_feed_92 : decode cX4_feed 92 = .ok (.iload 6, 2) := dk_21 6 (dk_at dksX4_feed_3 21 rfl rfl)
theorem dX4_feed_94 : decode cX4_feed 94 = .ok (.iconst 4, 1) := dk_7 (dk_at dksX4_feed_3 23 rfl rfl)
theorem dX4_feed_95 : decode cX4_feed 95 = .ok (.irem, 1) := dk_112 (dk_at dksX4_feed_4 0 rfl rfl)
theorem dX4_feed_96 : decode cX4_feed 96 = .ok (.imul, 1) := dk_104 (dk_at dksX4_feed_4 1 rfl rfl)
theorem dX4_feed_97 : decode cX4_feed 97 = .ok (.isub, 1) := dk_100 (dk_at dksX4_feed_4 2 rfl rfl)
theorem dX4_feed_98 : decode cX4_feed 98 = .ok (.ishr, 1) := dk_122 (dk_at dksX4_feed_4 3 rfl rfl)
theorem dX4_feed_99 : decode cX4_feed 99 = .ok (.sipush 255, 3) := dk_17 0 255 (dk_at dksX4_feed_4 4 rfl rfl)
theorem dX4_feed_102 : decode cX4_feed 102 = .ok (.iand, 1) := dk_126 (dk_at dksX4_feed_4 7 rfl rfl)
theorem dX4_feed_103 : decode cX4_feed 103 = .ok (.iastore, 1) := dk_79 (dk_at dksX4_feed_4 8 rfl rfl)
theorem dX4_feed_104 : decode cX4_feed 104 = .ok (.aload_n 0, 1) := dk_42 (dk_at dksX4_feed_4 9 rfl rfl)
theorem dX4_feed_105 : decode cX4_feed 105 = .ok (.dup, 1) := dk_89 (dk_at dksX4_feed_4 10 rfl rfl)
theorem dX4_feed_106 : decode cX4_feed 106 = .ok (.getfield 51, 3) := dk_180 0 51 (dk_at dksX4_feed_4 11 rfl rfl)
theorem dX4_feed_109 : decode cX4_feed 109 = .ok (.iconst 1, 1) := dk_4 (dk_at dksX4_feed_4 14 rfl rfl)
theorem dX4_feed_110 : decode cX4_feed 110 = .ok (.iadd, 1) := dk_96 (dk_at dksX4_feed_4 15 rfl rfl)
theorem dX4_feed_111 : decode cX4_feed 111 = .ok (.putfield 51, 3) := dk_181 0 51 (dk_at dksX4_feed_4 16 rfl rfl)
theorem dX4_feed_114 : decode cX4_feed 114 = .ok (.iinc 6 1, 3) := dk_132 6 1 (dk_at dksX4_feed_4 19 rfl rfl)
theorem dX4_feed_117 : decode cX4_feed 117 = .ok (.goto (-94), 3) := dk_167 255 162 (dk_at dksX4_feed_5 0 rfl rfl)
theorem dX4_feed_120 : decode cX4_feed 120 = .ok (.aload_n 0, 1) := dk_42 (dk_at dksX4_feed_5 3 rfl rfl)
theorem dX4_feed_121 : decode cX4_feed 121 = .ok (.getfield 51, 3) := dk_180 0 51 (dk_at dksX4_feed_5 4 rfl rfl)
theorem dX4_feed_124 : decode cX4_feed 124 = .ok (.ireturn, 1) := dk_172 (dk_at dksX4_feed_5 7 rfl rfl)
abbrev cX4_text : ByteArray := prog_12_method_34_code
def yX4_text : MethodName := ⟨RX4, "text", "(I)I"⟩
def dkwX4_text_6 : List UInt8 := [184, 0, 214, 42, 182, 0, 218, 172]
abbrev dktX4_text_6 : List UInt8 := dkwX4_text_6 ++ []
def dkwX4_text_5 : List UInt8 := [154, 0, 11, 42, 180, 0, 64, 16, 10, 100, 172, 42, 182, 0, 211, 42, 180, 0, 23, 42, 180, 0, 20]
abbrev dktX4_text_5 : List UInt8 := dkwX4_text_5 ++ dktX4_text_6
def dkwX4_text_4 : List UInt8 := [159, 0, 10, 42, 182, 0, 208, 167, 255, 237, 42, 42, 180, 0, 67, 181, 0, 13, 42, 182, 0, 87]
abbrev dktX4_text_4 : List UInt8 := dkwX4_text_4 ++ dktX4_text_5
def dkwX4_text_3 : List UInt8 := [3, 181, 0, 177, 42, 180, 0, 23, 184, 0, 44, 42, 182, 0, 87, 153, 0, 18, 42, 182, 0, 70, 2]
abbrev dktX4_text_3 : List UInt8 := dkwX4_text_3 ++ dktX4_text_4
def dkwX4_text_2 : List UInt8 := [181, 0, 57, 42, 3, 181, 0, 64, 42, 2, 181, 0, 67, 42, 3, 181, 0, 127, 42, 3, 181, 0, 158, 42]
abbrev dktX4_text_2 : List UInt8 := dkwX4_text_2 ++ dktX4_text_3
def dkwX4_text_1 : List UInt8 := [3, 4, 4, 182, 0, 204, 153, 0, 5, 3, 172, 42, 3, 181, 0, 51, 42, 27, 181, 0, 54, 42, 3]
abbrev dktX4_text_1 : List UInt8 := dkwX4_text_1 ++ dktX4_text_2
def dkwX4_text_0 : List UInt8 := [42, 3, 181, 0, 48, 42, 27, 133, 9, 42, 180, 0, 51, 133, 184, 0, 107, 154, 0, 7, 4, 167, 0, 4]
abbrev dktX4_text_0 : List UInt8 := dkwX4_text_0 ++ dktX4_text_1
theorem dksX4_text_0 : cX4_text.data.toList.drop 0 = dktX4_text_0 := by decide +kernel
theorem dksX4_text_1 : cX4_text.data.toList.drop 24 = dktX4_text_1 := dk_seg dksX4_text_0 24 rfl rfl
theorem dksX4_text_2 : cX4_text.data.toList.drop 47 = dktX4_text_2 := dk_seg dksX4_text_1 23 rfl rfl
theorem dksX4_text_3 : cX4_text.data.toList.drop 71 = dktX4_text_3 := dk_seg dksX4_text_2 24 rfl rfl
theorem dksX4_text_4 : cX4_text.data.toList.drop 94 = dktX4_text_4 := dk_seg dksX4_text_3 23 rfl rfl
theorem dksX4_text_5 : cX4_text.data.toList.drop 116 = dktX4_text_5 := dk_seg dksX4_text_4 22 rfl rfl
theorem dksX4_text_6 : cX4_text.data.toList.drop 139 = dktX4_text_6 := dk_seg dksX4_text_5 23 rfl rfl
theorem dX4_text_0 : decode cX4_text 0 = .ok (.aload_n 0, 1) := dk_42 (dk_at dksX4_text_0 0 rfl rfl)
theorem dX4_text_1 : decode cX4_text 1 = .ok (.iconst 0, 1) := dk_3 (dk_at dksX4_text_0 1 rfl rfl)
theorem dX4_text_2 : decode cX4_text 2 = .ok (.putfield 48, 3) := dk_181 0 48 (dk_at dksX4_text_0 2 rfl rfl)
theorem dX4_text_5 : decode cX4_text 5 = .ok (.aload_n 0, 1) := dk_42 (dk_at dksX4_text_0 5 rfl rfl)
theorem dX4_text_6 : decode cX4_text 6 = .ok (.iload_n 1, 1) := dk_27 (dk_at dksX4_text_0 6 rfl rfl)
theorem dX4_text_7 : decode cX4_text 7 = .ok (.i2l, 1) := dk_133 (dk_at dksX4_text_0 7 rfl rfl)
theorem dX4_text_8 : decode cX4_text 8 = .ok (.lconst 0, 1) := dk_9 (dk_at dksX4_text_0 8 rfl rfl)
theorem dX4_text_9 : decode cX4_text 9 = .ok (.aload_n 0, 1) := dk_42 (dk_at dksX4_text_0 9 rfl rfl)
theorem dX4_text_10 : decode cX4_text 10 = .ok (.getfield 51, 3) := dk_180 0 51 (dk_at dksX4_text_0 10 rfl rfl)
theorem dX4_text_13 : decode cX4_text 13 = .ok (.i2l, 1) := dk_133 (dk_at dksX4_text_0 13 rfl rfl)
theorem dX4_text_14 : decode cX4_text 14 = .ok (.invokestatic 107, 3) := dk_184 0 107 (dk_at dksX4_text_0 14 rfl rfl)
theorem dX4_text_17 : decode cX4_text 17 = .ok (.ifCond .ne 7, 3) := dk_154 0 7 (dk_at dksX4_text_0 17 rfl rfl)
theorem dX4_text_20 : decode cX4_text 20 = .ok (.iconst 1, 1) := dk_4 (dk_at dksX4_text_0 20 rfl rfl)
theorem dX4_text_21 : decode cX4_text 21 = .ok (.goto 4, 3) := dk_167 0 4 (dk_at dksX4_text_0 21 rfl rfl)
theorem dX4_text_24 : decode cX4_text 24 = .ok (.iconst 0, 1) := dk_3 (dk_at dksX4_text_1 0 rfl rfl)
theorem dX4_text_25 : decode cX4_text 25 = .ok (.iconst 1, 1) := dk_4 (dk_at dksX4_text_1 1 rfl rfl)
theorem dX4_text_26 : decode cX4_text 26 = .ok (.iconst 1, 1) := dk_4 (dk_at dksX4_text_1 2 rfl rfl)
theorem dX4_text_27 : decode cX4_text 27 = .ok (.invokevirtual 204, 3) := dk_182 0 204 (dk_at dksX4_text_1 3 rfl rfl)
theorem dX4_text_30 : decode cX4_text 30 = .ok (.ifCond .eq 5, 3) := dk_153 0 5 (dk_at dksX4_text_1 6 rfl rfl)
theorem dX4_text_33 : decode cX4_text 33 = .ok (.iconst 0, 1) := dk_3 (dk_at dksX4_text_1 9 rfl rfl)
theorem dX4_text_34 : decode cX4_text 34 = .ok (.ireturn, 1) := dk_172 (dk_at dksX4_text_1 10 rfl rfl)
theorem dX4_text_35 : decode cX4_text 35 = .ok (.aload_n 0, 1) := dk_42 (dk_at dksX4_text_1 11 rfl rfl)
theorem dX4_text_36 : decode cX4_text 36 = .ok (.iconst 0, 1) := dk_3 (dk_at dksX4_text_1 12 rfl rfl)
theorem dX4_text_37 : decode cX4_text 37 = .ok (.putfield 51, 3) := dk_181 0 51 (dk_at dksX4_text_1 13 rfl rfl)
theorem dX4_text_40 : decode cX4_text 40 = .ok (.aload_n 0, 1) := dk_42 (dk_at dksX4_text_1 16 rfl rfl)
theorem dX4_text_41 : decode cX4_text 41 = .ok (.iload_n 1, 1) := dk_27 (dk_at dksX4_text_1 17 rfl rfl)
theorem dX4_text_42 : decode cX4_text 42 = .ok (.putfield 54, 3) := dk_181 0 54 (dk_at dksX4_text_1 18 rfl rfl)
theorem dX4_text_45 : decode cX4_text 45 = .ok (.aload_n 0, 1) := dk_42 (dk_at dksX4_text_1 21 rfl rfl)
theorem dX4_text_46 : decode cX4_text 46 = .ok (.iconst 0, 1) := dk_3 (dk_at dksX4_text_1 22 rfl rfl)
theorem dX4_text_47 : decode cX4_text 47 = .ok (.putfield 57, 3) := dk_181 0 57 (dk_at dksX4_text_2 0 rfl rfl)
theorem dX4_text_50 : decode cX4_text 50 = .ok (.aload_n 0, 1) := dk_42 (dk_at dksX4_text_2 3 rfl rfl)
theorem dX4_text_51 : decode cX4_text 51 = .ok (.iconst 0, 1) := dk_3 (dk_at dksX4_text_2 4 rfl rfl)
theorem dX4_text_52 : decode cX4_text 52 = .ok (.putfield 64, 3) := dk_181 0 64 (dk_at dksX4_text_2 5 rfl rfl)
theorem dX4_text_55 : decode cX4_text 55 = .ok (.aload_n 0, 1) := dk_42 (dk_at dksX4_text_2 8 rfl rfl)
theorem dX4_text_56 : decode cX4_text 56 = .ok (.iconst (-1), 1) := dk_2 (dk_at dksX4_text_2 9 rfl rfl)
theorem dX4_text_57 : decode cX4_text 57 = .ok (.putfield 67, 3) := dk_181 0 67 (dk_at dksX4_text_2 10 rfl rfl)
theorem dX4_text_60 : decode cX4_text 60 = .ok (.aload_n 0, 1) := dk_42 (dk_at dksX4_text_2 13 rfl rfl)
theorem dX4_text_61 : decode cX4_text 61 = .ok (.iconst 0, 1) := dk_3 (dk_at dksX4_text_2 14 rfl rfl)
theorem dX4_text_62 : decode cX4_text 62 = .ok (.putfield 127, 3) := dk_181 0 127 (dk_at dksX4_text_2 15 rfl rfl)
theorem dX4_text_65 : decode cX4_text 65 = .ok (.aload_n 0, 1) := dk_42 (dk_at dksX4_text_2 18 rfl rfl)
theorem dX4_text_66 : decode cX4_text 66 = .ok (.iconst 0, 1) := dk_3 (dk_at dksX4_text_2 19 rfl rfl)
theorem dX4_text_67 : decode cX4_text 67 = .ok (.putfield 158, 3) := dk_181 0 158 (dk_at dksX4_text_2 20 rfl rfl)
theorem dX4_text_70 : decode cX4_text 70 = .ok (.aload_n 0, 1) := dk_42 (dk_at dksX4_text_2 23 rfl rfl)
theorem dX4_text_71 : decode cX4_text 71 = .ok (.iconst 0, 1) := dk_3 (dk_at dksX4_text_3 0 rfl rfl)
theorem dX4_text_72 : decode cX4_text 72 = .ok (.putfield 177, 3) := dk_181 0 177 (dk_at dksX4_text_3 1 rfl rfl)
theorem dX4_text_75 : decode cX4_text 75 = .ok (.aload_n 0, 1) := dk_42 (dk_at dksX4_text_3 4 rfl rfl)
theorem dX4_text_76 : decode cX4_text 76 = .ok (.getfield 23, 3) := dk_180 0 23 (dk_at dksX4_text_3 5 rfl rfl)
theorem dX4_text_79 : decode cX4_text 79 = .ok (.invokestatic 44, 3) := dk_184 0 44 (dk_at dksX4_text_3 8 rfl rfl)
theorem dX4_text_82 : decode cX4_text 82 = .ok (.aload_n 0, 1) := dk_42 (dk_at dksX4_text_3 11 rfl rfl)
theorem dX4_text_83 : decode cX4_text 83 = .ok (.invokevirtual 87, 3) := dk_182 0 87 (dk_at dksX4_text_3 12 rfl rfl)
theorem dX4_text_86 : decode cX4_text 86 = .ok (.ifCond .eq 18, 3) := dk_153 0 18 (dk_at dksX4_text_3 15 rfl rfl)
theorem dX4_text_89 : decode cX4_text 89 = .ok (.aload_n 0, 1) := dk_42 (dk_at dksX4_text_3 18 rfl rfl)
theorem dX4_text_90 : decode cX4_text 90 = .ok (.invokevirtual 70, 3) := dk_182 0 70 (dk_at dksX4_text_3 19 rfl rfl)
theorem dX4_text_93 : decode cX4_text 93 = .ok (.iconst (-1), 1) := dk_2 (dk_at dksX4_text_3 22 rfl rfl)
theorem dX4_text_94 : decode cX4_text 94 = .ok (.if_icmp .eq 10, 3) := dk_159 0 10 (dk_at dksX4_text_4 0 rfl rfl)
theorem dX4_text_97 : decode cX4_text 97 = .ok (.aload_n 0, 1) := dk_42 (dk_at dksX4_text_4 3 rfl rfl)
theorem dX4_text_98 : decode cX4_text 98 = .ok (.invokevirtual 208, 3) := dk_182 0 208 (dk_at dksX4_text_4 4 rfl rfl)
theorem dX4_text_101 : decode cX4_text 101 = .ok (.goto (-19), 3) := dk_167 255 237 (dk_at dksX4_text_4 7 rfl rfl)
theorem dX4_text_104 : decode cX4_text 104 = .ok (.aload_n 0, 1) := dk_42 (dk_at dksX4_text_4 10 rfl rfl)
theorem dX4_text_105 : decode cX4_text 105 = .ok (.aload_n 0, 1) := dk_42 (dk_at dksX4_text_4 11 rfl rfl)
theorem dX4_text_106 : decode cX4_text 106 = .ok (.getfield 67, 3) := dk_180 0 67 (dk_at dksX4_text_4 12 rfl rfl)
theorem dX4_text_109 : decode cX4_text 109 = .ok (.putfield 13, 3) := dk_181 0 13 (dk_at dksX4_text_4 15 rfl rfl)
theorem dX4_text_112 : decode cX4_text 112 = .ok (.aload_n 0, 1) := dk_42 (dk_at dksX4_text_4 18 rfl rfl)
theorem dX4_text_113 : decode cX4_text 113 = .ok (.invokevirtual 87, 3) := dk_182 0 87 (dk_at dksX4_text_4 19 rfl rfl)
theorem dX4_text_116 : decode cX4_text 116 = .ok (.ifCond .ne 11, 3) := dk_154 0 11 (dk_at dksX4_text_5 0 rfl rfl)
theorem dX4_text_119 : decode cX4_text 119 = .ok (.aload_n 0, 1) := dk_42 (dk_at dksX4_text_5 3 rfl rfl)
theorem dX4_text_120 : decode cX4_text 120 = .ok (.getfield 64, 3) := dk_180 0 64 (dk_at dksX4_text_5 4 rfl rfl)
theorem dX4_text_123 : decode cX4_text 123 = .ok (.bipush 10, 2) := dk_16 10 (dk_at dksX4_text_5 7 rfl rfl)
theorem dX4_text_125 : decode cX4_text 125 = .ok (.isub, 1) := dk_100 (dk_at dksX4_text_5 9 rfl rfl)
theorem dX4_text_126 : decode cX4_text 126 = .ok (.ireturn, 1) := dk_172 (dk_at dksX4_text_5 10 rfl rfl)
theorem dX4_text_127 : decode cX4_text 127 = .ok (.aload_n 0, 1) := dk_42 (dk_at dksX4_text_5 11 rfl rfl)
theorem dX4_text_128 : decode cX4_text 128 = .ok (.invokevirtual 211, 3) := dk_182 0 211 (dk_at dksX4_text_5 12 rfl rfl)
theorem dX4_text_131 : decode cX4_text 131 = .ok (.aload_n 0, 1) := dk_42 (dk_at dksX4_text_5 15 rfl rfl)
theorem dX4_text_132 : decode cX4_text 132 = .ok (.getfield 23, 3) := dk_180 0 23 (dk_at dksX4_text_5 16 rfl rfl)
theorem dX4_text_135 : decode cX4_text 135 = .ok (.aload_n 0, 1) := dk_42 (dk_at dksX4_text_5 19 rfl rfl)
theorem dX4_text_136 : decode cX4_text 136 = .ok (.getfield 20, 3) := dk_180 0 20 (dk_at dksX4_text_5 20 rfl rfl)
theorem dX4_text_139 : decode cX4_text 139 = .ok (.invokestatic 214, 3) := dk_184 0 214 (dk_at dksX4_text_6 0 rfl rfl)
theorem dX4_text_142 : decode cX4_text 142 = .ok (.aload_n 0, 1) := dk_42 (dk_at dksX4_text_6 3 rfl rfl)
theorem dX4_text_143 : decode cX4_text 143 = .ok (.invokevirtual 218, 3) := dk_182 0 218 (dk_at dksX4_text_6 4 rfl rfl)
theorem dX4_text_146 : decode cX4_text 146 = .ok (.ireturn, 1) := dk_172 (dk_at dksX4_text_6 7 rfl rfl)
abbrev cX4_in : ByteArray := prog_12_method_5_code
def yX4_in : MethodName := ⟨RX4, "in", "(JJJ)Z"⟩
def dkwX4_in_0 : List UInt8 := [30, 32, 148, 155, 0, 14, 30, 22, 4, 148, 157, 0, 7, 4, 167, 0, 4, 3, 172]
abbrev dktX4_in_0 : List UInt8 := dkwX4_in_0 ++ []
theorem dksX4_in_0 : cX4_in.data.toList.drop 0 = dktX4_in_0 := by decide +kernel
theorem dX4_in_0 : decode cX4_in 0 = .ok (.lload_n 0, 1) := dk_30 (dk_at dksX4_in_0 0 rfl rfl)
theorem dX4_in_1 : decode cX4_in 1 = .ok (.lload_n 2, 1) := dk_32 (dk_at dksX4_in_0 1 rfl rfl)
theorem dX4_in_2 : decode cX4_in 2 = .ok (.lcmp, 1) := dk_148 (dk_at dksX4_in_0 2 rfl rfl)
theorem dX4_in_3 : decode cX4_in 3 = .ok (.ifCond .lt 14, 3) := dk_155 0 14 (dk_at dksX4_in_0 3 rfl rfl)
theorem dX4_in_6 : decode cX4_in 6 = .ok (.lload_n 0, 1) := dk_30 (dk_at dksX4_in_0 6 rfl rfl)
theorem dX4_in_7 : decode cX4_in 7 = .ok (.lload 4, 2) := dk_22 4 (dk_at dksX4_in_0 7 rfl rfl)
theorem dX4_in_9 : decode cX4_in 9 = .ok (.lcmp, 1) := dk_148 (dk_at dksX4_in_0 9 rfl rfl)
theorem dX4_in_10 : decode cX4_in 10 = .ok (.ifCond .gt 7, 3) := dk_157 0 7 (dk_at dksX4_in_0 10 rfl rfl)
theorem dX4_in_13 : decode cX4_in 13 = .ok (.iconst 1, 1) := dk_4 (dk_at dksX4_in_0 13 rfl rfl)
theorem dX4_in_14 : decode cX4_in 14 = .ok (.goto 4, 3) := dk_167 0 4 (dk_at dksX4_in_0 14 rfl rfl)
theorem dX4_in_17 : decode cX4_in 17 = .ok (.iconst 0, 1) := dk_3 (dk_at dksX4_in_0 17 rfl rfl)
theorem dX4_in_18 : decode cX4_in 18 = .ok (.ireturn, 1) := dk_172 (dk_at dksX4_in_0 18 rfl rfl)
abbrev cX4_bad : ByteArray := prog_12_method_4_code
def yX4_bad : MethodName := ⟨RX4, "bad", "(ZII)Z"⟩
def dkwX4_bad_1 : List UInt8 := [96, 79, 42, 180, 0, 48, 153, 0, 7, 4, 167, 0, 4, 3, 172]
abbrev dktX4_bad_1 : List UInt8 := dkwX4_bad_1 ++ []
def dkwX4_bad_0 : List UInt8 := [27, 153, 0, 25, 42, 180, 0, 48, 154, 0, 18, 42, 28, 181, 0, 48, 42, 180, 0, 9, 29, 92, 46, 4]
abbrev dktX4_bad_0 : List UInt8 := dkwX4_bad_0 ++ dktX4_bad_1
theorem dksX4_bad_0 : cX4_bad.data.toList.drop 0 = dktX4_bad_0 := by decide +kernel
theorem dksX4_bad_1 : cX4_bad.data.toList.drop 24 = dktX4_bad_1 := dk_seg dksX4_bad_0 24 rfl rfl
theorem dX4_bad_0 : decode cX4_bad 0 = .ok (.iload_n 1, 1) := dk_27 (dk_at dksX4_bad_0 0 rfl rfl)
theorem dX4_bad_1 : decode cX4_bad 1 = .ok (.ifCond .eq 25, 3) := dk_153 0 25 (dk_at dksX4_bad_0 1 rfl rfl)
theorem dX4_bad_4 : decode cX4_bad 4 = .ok (.aload_n 0, 1) := dk_42 (dk_at dksX4_bad_0 4 rfl rfl)
theorem dX4_bad_5 : decode cX4_bad 5 = .ok (.getfield 48, 3) := dk_180 0 48 (dk_at dksX4_bad_0 5 rfl rfl)
theorem dX4_bad_8 : decode cX4_bad 8 = .ok (.ifCond .ne 18, 3) := dk_154 0 18 (dk_at dksX4_bad_0 8 rfl rfl)
theorem dX4_bad_11 : decode cX4_bad 11 = .ok (.aload_n 0, 1) := dk_42 (dk_at dksX4_bad_0 11 rfl rfl)
theorem dX4_bad_12 : decode cX4_bad 12 = .ok (.iload_n 2, 1) := dk_28 (dk_at dksX4_bad_0 12 rfl rfl)
theorem dX4_bad_13 : decode cX4_bad 13 = .ok (.putfield 48, 3) := dk_181 0 48 (dk_at dksX4_bad_0 13 rfl rfl)
theorem dX4_bad_16 : decode cX4_bad 16 = .ok (.aload_n 0, 1) := dk_42 (dk_at dksX4_bad_0 16 rfl rfl)
theorem dX4_bad_17 : decode cX4_bad 17 = .ok (.getfield 9, 3) := dk_180 0 9 (dk_at dksX4_bad_0 17 rfl rfl)
theorem dX4_bad_20 : decode cX4_bad 20 = .ok (.iload_n 3, 1) := dk_29 (dk_at dksX4_bad_0 20 rfl rfl)
theorem dX4_bad_21 : decode cX4_bad 21 = .ok (.dup2, 1) := dk_92 (dk_at dksX4_bad_0 21 rfl rfl)
theorem dX4_bad_22 : decode cX4_bad 22 = .ok (.iaload, 1) := dk_46 (dk_at dksX4_bad_0 22 rfl rfl)
theorem dX4_bad_23 : decode cX4_bad 23 = .ok (.iconst 1, 1) := dk_4 (dk_at dksX4_bad_0 23 rfl rfl)
theorem dX4_bad_24 : decode cX4_bad 24 = .ok (.iadd, 1) := dk_96 (dk_at dksX4_bad_1 0 rfl rfl)
theorem dX4_bad_25 : decode cX4_bad 25 = .ok (.iastore, 1) := dk_79 (dk_at dksX4_bad_1 1 rfl rfl)
theorem dX4_bad_26 : decode cX4_bad 26 = .ok (.aload_n 0, 1) := dk_42 (dk_at dksX4_bad_1 2 rfl rfl)
theorem dX4_bad_27 : decode cX4_bad 27 = .ok (.getfield 48, 3) := dk_180 0 48 (dk_at dksX4_bad_1 3 rfl rfl)
theorem dX4_bad_30 : decode cX4_bad 30 = .ok (.ifCond .eq 7, 3) := dk_153 0 7 (dk_at dksX4_bad_1 6 rfl rfl)
theorem dX4_bad_33 : decode cX4_bad 33 = .ok (.iconst 1, 1) := dk_4 (dk_at dksX4_bad_1 9 rfl rfl)
theorem dX4_bad_34 : decode cX4_bad 34 = .ok (.goto 4, 3) := dk_167 0 4 (dk_at dksX4_bad_1 10 rfl rfl)
theorem dX4_bad_37 : decode cX4_bad 37 = .ok (.iconst 0, 1) := dk_3 (dk_at dksX4_bad_1 13 rfl rfl)
theorem dX4_bad_38 : decode cX4_bad 38 = .ok (.ireturn, 1) := dk_172 (dk_at dksX4_bad_1 14 rfl rfl)
abbrev cX4_fine : ByteArray := prog_12_method_14_code
def yX4_fine : MethodName := ⟨RX4, "fine", "()Z"⟩
def dkwX4_fine_0 : List UInt8 := [42, 180, 0, 64, 154, 0, 7, 4, 167, 0, 4, 3, 172]
abbrev dktX4_fine_0 : List UInt8 := dkwX4_fine_0 ++ []
theorem dksX4_fine_0 : cX4_fine.data.toList.drop 0 = dktX4_fine_0 := by decide +kernel
theorem dX4_fine_0 : decode cX4_fine 0 = .ok (.aload_n 0, 1) := dk_42 (dk_at dksX4_fine_0 0 rfl rfl)
theorem dX4_fine_1 : decode cX4_fine 1 = .ok (.getfield 64, 3) := dk_180 0 64 (dk_at dksX4_fine_0 1 rfl rfl)
theorem dX4_fine_4 : decode cX4_fine 4 = .ok (.ifCond .ne 7, 3) := dk_154 0 7 (dk_at dksX4_fine_0 4 rfl rfl)
theorem dX4_fine_7 : decode cX4_fine 7 = .ok (.iconst 1, 1) := dk_4 (dk_at dksX4_fine_0 7 rfl rfl)
theorem dX4_fine_8 : decode cX4_fine 8 = .ok (.goto 4, 3) := dk_167 0 4 (dk_at dksX4_fine_0 8 rfl rfl)
theorem dX4_fine_11 : decode cX4_fine 11 = .ok (.iconst 0, 1) := dk_3 (dk_at dksX4_fine_0 11 rfl rfl)
theorem dX4_fine_12 : decode cX4_fine 12 = .ok (.ireturn, 1) := dk_172 (dk_at dksX4_fine_0 12 rfl rfl)
abbrev cX4_here : ByteArray := prog_12_method_13_code
def yX4_here : MethodName := ⟨RX4, "here", "()I"⟩
def dkwX4_here_1 : List UInt8 := [167, 255, 233, 42, 42, 180, 0, 57, 182, 0, 60, 172]
abbrev dktX4_here_1 : List UInt8 := dkwX4_here_1 ++ []
def dkwX4_here_0 : List UInt8 := [42, 42, 180, 0, 57, 182, 0, 60, 16, 32, 160, 0, 16, 42, 89, 180, 0, 57, 4, 96, 181, 0, 57]
abbrev dktX4_here_0 : List UInt8 := dkwX4_here_0 ++ dktX4_here_1
theorem dksX4_here_0 : cX4_here.data.toList.drop 0 = dktX4_here_0 := by decide +kernel
theorem dksX4_here_1 : cX4_here.data.toList.drop 23 = dktX4_here_1 := dk_seg dksX4_here_0 23 rfl rfl
theorem dX4_here_0 : decode cX4_here 0 = .ok (.aload_n 0, 1) := dk_42 (dk_at dksX4_here_0 0 rfl rfl)
theorem dX4_here_1 : decode cX4_here 1 = .ok (.aload_n 0, 1) := dk_42 (dk_at dksX4_here_0 1 rfl rfl)
theorem dX4_here_2 : decode cX4_here 2 = .ok (.getfield 57, 3) := dk_180 0 57 (dk_at dksX4_here_0 2 rfl rfl)
theorem dX4_here_5 : decode cX4_here 5 = .ok (.invokevirtual 60, 3) := dk_182 0 60 (dk_at dksX4_here_0 5 rfl rfl)
theorem dX4_here_8 : decode cX4_here 8 = .ok (.bipush 32, 2) := dk_16 32 (dk_at dksX4_here_0 8 rfl rfl)
theorem dX4_here_10 : decode cX4_here 10 = .ok (.if_icmp .ne 16, 3) := dk_160 0 16 (dk_at dksX4_here_0 10 rfl rfl)
theorem dX4_here_13 : decode cX4_here 13 = .ok (.aload_n 0, 1) := dk_42 (dk_at dksX4_here_0 13 rfl rfl)
theorem dX4_here_14 : decode cX4_here 14 = .ok (.dup, 1) := dk_89 (dk_at dksX4_here_0 14 rfl rfl)
theorem dX4_here_15 : decode cX4_here 15 = .ok (.getfield 57, 3) := dk_180 0 57 (dk_at dksX4_here_0 15 rfl rfl)
theorem dX4_here_18 : decode cX4_here 18 = .ok (.iconst 1, 1) := dk_4 (dk_at dksX4_here_0 18 rfl rfl)
theorem dX4_here_19 : decode cX4_here 19 = .ok (.iadd, 1) := dk_96 (dk_at dksX4_here_0 19 rfl rfl)
theorem dX4_here_20 : decode cX4_here 20 = .ok (.putfield 57, 3) := dk_181 0 57 (dk_at dksX4_here_0 20 rfl rfl)
theorem dX4_here_23 : decode cX4_here 23 = .ok (.goto (-23), 3) := dk_167 255 233 (dk_at dksX4_here_1 0 rfl rfl)
theorem dX4_here_26 : decode cX4_here 26 = .ok (.aload_n 0, 1) := dk_42 (dk_at dksX4_here_1 3 rfl rfl)
theorem dX4_here_27 : decode cX4_here 27 = .ok (.aload_n 0, 1) := dk_42 (dk_at dksX4_here_1 4 rfl rfl)
theorem dX4_here_28 : decode cX4_here 28 = .ok (.getfield 57, 3) := dk_180 0 57 (dk_at dksX4_here_1 5 rfl rfl)
theorem dX4_here_31 : decode cX4_here 31 = .ok (.invokevirtual 60, 3) := dk_182 0 60 (dk_at dksX4_here_1 8 rfl rfl)
theorem dX4_here_34 : decode cX4_here 34 = .ok (.ireturn, 1) := dk_172 (dk_at dksX4_here_1 11 rfl rfl)
abbrev cX4_byteAt : ByteArray := prog_12_method_12_code
def yX4_byteAt : MethodName := ⟨RX4, "byteAt", "(I)I"⟩
def dkwX4_byteAt_0 : List UInt8 := [27, 42, 180, 0, 54, 161, 0, 7, 2, 167, 0, 9, 42, 180, 0, 17, 27, 46, 172]
abbrev dktX4_byteAt_0 : List UInt8 := dkwX4_byteAt_0 ++ []
theorem dksX4_byteAt_0 : cX4_byteAt.data.toList.drop 0 = dktX4_byteAt_0 := by decide +kernel
theorem dX4_byteAt_0 : decode cX4_byteAt 0 = .ok (.iload_n 1, 1) := dk_27 (dk_at dksX4_byteAt_0 0 rfl rfl)
theorem dX4_byteAt_1 : decode cX4_byteAt 1 = .ok (.aload_n 0, 1) := dk_42 (dk_at dksX4_byteAt_0 1 rfl rfl)
theorem dX4_byteAt_2 : decode cX4_byteAt 2 = .ok (.getfield 54, 3) := dk_180 0 54 (dk_at dksX4_byteAt_0 2 rfl rfl)
theorem dX4_byteAt_5 : decode cX4_byteAt 5 = .ok (.if_icmp .lt 7, 3) := dk_161 0 7 (dk_at dksX4_byteAt_0 5 rfl rfl)
theorem dX4_byteAt_8 : decode cX4_byteAt 8 = .ok (.iconst (-1), 1) := dk_2 (dk_at dksX4_byteAt_0 8 rfl rfl)
theorem dX4_byteAt_9 : decode cX4_byteAt 9 = .ok (.goto 9, 3) := dk_167 0 9 (dk_at dksX4_byteAt_0 9 rfl rfl)
theorem dX4_byteAt_12 : decode cX4_byteAt 12 = .ok (.aload_n 0, 1) := dk_42 (dk_at dksX4_byteAt_0 12 rfl rfl)
theorem dX4_byteAt_13 : decode cX4_byteAt 13 = .ok (.getfield 17, 3) := dk_180 0 17 (dk_at dksX4_byteAt_0 13 rfl rfl)
theorem dX4_byteAt_16 : decode cX4_byteAt 16 = .ok (.iload_n 1, 1) := dk_27 (dk_at dksX4_byteAt_0 16 rfl rfl)
theorem dX4_byteAt_17 : decode cX4_byteAt 17 = .ok (.iaload, 1) := dk_46 (dk_at dksX4_byteAt_0 17 rfl rfl)
theorem dX4_byteAt_18 : decode cX4_byteAt 18 = .ok (.ireturn, 1) := dk_172 (dk_at dksX4_byteAt_0 18 rfl rfl)
abbrev cX4_readsLine : ByteArray := prog_12_method_33_code
def yX4_readsLine : MethodName := ⟨RX4, "readsLine", "()V"⟩
def dkwX4_readsLine_10 : List UInt8 := [167, 0, 9, 42, 4, 27, 182, 0, 95, 42, 16, 59, 182, 0, 167, 177]
abbrev dktX4_readsLine_10 : List UInt8 := dkwX4_readsLine_10 ++ []
def dkwX4_readsLine_9 : List UInt8 := [42, 18, 202, 7, 182, 0, 192, 153, 0, 18, 42, 182, 0, 164, 42, 180, 0, 23, 16, 8, 4, 79]
abbrev dktX4_readsLine_9 : List UInt8 := dkwX4_readsLine_9 ++ dktX4_readsLine_10
def dkwX4_readsLine_8 : List UInt8 := [182, 0, 192, 153, 0, 21, 42, 180, 0, 23, 16, 7, 42, 4, 17, 1, 243, 182, 0, 117, 79, 167, 0, 34]
abbrev dktX4_readsLine_8 : List UInt8 := dkwX4_readsLine_8 ++ dktX4_readsLine_9
def dkwX4_readsLine_7 : List UInt8 := [153, 0, 20, 42, 180, 0, 23, 16, 6, 42, 3, 16, 100, 182, 0, 117, 79, 167, 0, 62, 42, 18, 200, 6]
abbrev dktX4_readsLine_7 : List UInt8 := dkwX4_readsLine_7 ++ dktX4_readsLine_8
def dkwX4_readsLine_6 : List UInt8 := [180, 0, 23, 7, 46, 17, 3, 231, 182, 0, 117, 79, 167, 0, 89, 42, 18, 198, 5, 182, 0, 192]
abbrev dktX4_readsLine_6 : List UInt8 := dkwX4_readsLine_6 ++ dktX4_readsLine_7
def dkwX4_readsLine_5 : List UInt8 := [153, 0, 39, 42, 180, 0, 23, 7, 42, 3, 17, 3, 231, 182, 0, 117, 79, 42, 180, 0, 23, 8, 42, 42]
abbrev dktX4_readsLine_5 : List UInt8 := dkwX4_readsLine_5 ++ dktX4_readsLine_6
def dkwX4_readsLine_4 : List UInt8 := [42, 180, 0, 23, 6, 42, 3, 16, 40, 182, 0, 117, 79, 167, 0, 135, 42, 18, 196, 4, 182, 0, 192]
abbrev dktX4_readsLine_4 : List UInt8 := dkwX4_readsLine_4 ++ dktX4_readsLine_5
def dkwX4_readsLine_3 : List UInt8 := [182, 0, 150, 153, 0, 11, 42, 27, 182, 0, 187, 167, 0, 161, 42, 18, 190, 3, 182, 0, 192, 153, 0, 19]
abbrev dktX4_readsLine_3 : List UInt8 := dkwX4_readsLine_3 ++ dktX4_readsLine_4
def dkwX4_readsLine_2 : List UInt8 := [7, 27, 182, 0, 95, 167, 0, 191, 42, 180, 0, 23, 4, 92, 46, 4, 96, 79, 167, 0, 178, 42, 18, 185]
abbrev dktX4_readsLine_2 : List UInt8 := dkwX4_readsLine_2 ++ dktX4_readsLine_3
def dkwX4_readsLine_1 : List UInt8 := [167, 0, 220, 42, 18, 136, 182, 0, 150, 153, 0, 36, 42, 180, 0, 23, 4, 46, 16, 8, 160, 0, 12, 42]
abbrev dktX4_readsLine_1 : List UInt8 := dkwX4_readsLine_1 ++ dktX4_readsLine_2
def dkwX4_readsLine_0 : List UInt8 := [42, 182, 0, 70, 87, 42, 180, 0, 57, 60, 42, 18, 180, 182, 0, 150, 153, 0, 11, 42, 27, 182, 0, 182]
abbrev dktX4_readsLine_0 : List UInt8 := dkwX4_readsLine_0 ++ dktX4_readsLine_1
theorem dksX4_readsLine_0 : cX4_readsLine.data.toList.drop 0 = dktX4_readsLine_0 := by decide +kernel
theorem dksX4_readsLine_1 : cX4_readsLine.data.toList.drop 24 = dktX4_readsLine_1 := dk_seg dksX4_readsLine_0 24 rfl rfl
theorem dksX4_readsLine_2 : cX4_readsLine.data.toList.drop 48 = dktX4_readsLine_2 := dk_seg dksX4_readsLine_1 24 rfl rfl
theorem dksX4_readsLine_3 : cX4_readsLine.data.toList.drop 72 = dktX4_readsLine_3 := dk_seg dksX4_readsLine_2 24 rfl rfl
theorem dksX4_readsLine_4 : cX4_readsLine.data.toList.drop 96 = dktX4_readsLine_4 := dk_seg dksX4_readsLine_3 24 rfl rfl
theorem dksX4_readsLine_5 : cX4_readsLine.data.toList.drop 119 = dktX4_readsLine_5 := dk_seg dksX4_readsLine_4 23 rfl rfl
theorem dksX4_readsLine_6 : cX4_readsLine.data.toList.drop 143 = dktX4_readsLine_6 := dk_seg dksX4_readsLine_5 24 rfl rfl
theorem dksX4_readsLine_7 : cX4_readsLine.data.toList.drop 165 = dktX4_readsLine_7 := dk_seg dksX4_readsLine_6 22 rfl rfl
theorem dksX4_readsLine_8 : cX4_readsLine.data.toList.drop 189 = dktX4_readsLine_8 := dk_seg dksX4_readsLine_7 24 rfl rfl
theorem dksX4_readsLine_9 : cX4_readsLine.data.toList.drop 213 = dktX4_readsLine_9 := dk_seg dksX4_readsLine_8 24 rfl rfl
theorem dksX4_readsLine_10 : cX4_readsLine.data.toList.drop 235 = dktX4_readsLine_10 := dk_seg dksX4_readsLine_9 22 rfl rfl
theorem dX4_readsLine_0 : decode cX4_readsLine 0 = .ok (.aload_n 0, 1) := dk_42 (dk_at dksX4_readsLine_0 0 rfl rfl)
theorem dX4_readsLine_1 : decode cX4_readsLine 1 = .ok (.invokevirtual 70, 3) := dk_182 0 70 (dk_at dksX4_readsLine_0 1 rfl rfl)
theorem dX4_readsLine_4 : decode cX4_readsLine 4 = .ok (.pop, 1) := dk_87 (dk_at dksX4_readsLine_0 4 rfl rfl)
theorem dX4_readsLine_5 : decode cX4_readsLine 5 = .ok (.aload_n 0, 1) := dk_42 (dk_at dksX4_readsLine_0 5 rfl rfl)
theorem dX4_readsLine_6 : decode cX4_readsLine 6 = .ok (.getfield 57, 3) := dk_180 0 57 (dk_at dksX4_readsLine_0 6 rfl rfl)
theorem dX4_readsLine_9 : decode cX4_readsLine 9 = .ok (.istore_n 1, 1) := dk_60 (dk_at dksX4_readsLine_0 9 rfl rfl)
theorem dX4_readsLine_10 : decode cX4_readsLine 10 = .ok (.aload_n 0, 1) := dk_42 (dk_at dksX4_readsLine_0 10 rfl rfl)
theorem dX4_readsLine_11 : decode cX4_readsLine 11 = .ok (.ldc 180, 2) := dk_18 180 (dk_at dksX4_readsLine_0 11 rfl rfl)
theorem dX4_readsLine_13 : decode cX4_readsLine 13 = .ok (.invokevirtual 150, 3) := dk_182 0 150 (dk_at dksX4_readsLine_0 13 rfl rfl)
theorem dX4_readsLine_16 : decode cX4_readsLine 16 = .ok (.ifCond .eq 11, 3) := dk_153 0 11 (dk_at dksX4_readsLine_0 16 rfl rfl)
theorem dX4_readsLine_19 : decode cX4_readsLine 19 = .ok (.aload_n 0, 1) := dk_42 (dk_at dksX4_readsLine_0 19 rfl rfl)
theorem dX4_readsLine_20 : decode cX4_readsLine 20 = .ok (.iload_n 1, 1) := dk_27 (dk_at dksX4_readsLine_0 20 rfl rfl)
theorem dX4_readsLine_21 : decode cX4_readsLine 21 = .ok (.invokevirtual 182, 3) := dk_182 0 182 (dk_at dksX4_readsLine_0 21 rfl rfl)
theorem dX4_readsLine_24 : decode cX4_readsLine 24 = .ok (.goto 220, 3) := dk_167 0 220 (dk_at dksX4_readsLine_1 0 rfl rfl)
theorem dX4_readsLine_27 : decode cX4_readsLine 27 = .ok (.aload_n 0, 1) := dk_42 (dk_at dksX4_readsLine_1 3 rfl rfl)
theorem dX4_readsLine_28 : decode cX4_readsLine 28 = .ok (.ldc 136, 2) := dk_18 136 (dk_at dksX4_readsLine_1 4 rfl rfl)
theorem dX4_readsLine_30 : decode cX4_readsLine 30 = .ok (.invokevirtual 150, 3) := dk_182 0 150 (dk_at dksX4_readsLine_1 6 rfl rfl)
theorem dX4_readsLine_33 : decode cX4_readsLine 33 = .ok (.ifCond .eq 36, 3) := dk_153 0 36 (dk_at dksX4_readsLine_1 9 rfl rfl)
theorem dX4_readsLine_36 : decode cX4_readsLine 36 = .ok (.aload_n 0, 1) := dk_42 (dk_at dksX4_readsLine_1 12 rfl rfl)
theorem dX4_readsLine_37 : decode cX4_readsLine 37 = .ok (.getfield 23, 3) := dk_180 0 23 (dk_at dksX4_readsLine_1 13 rfl rfl)
theorem dX4_readsLine_40 : decode cX4_readsLine 40 = .ok (.iconst 1, 1) := dk_4 (dk_at dksX4_readsLine_1 16 rfl rfl)
theorem dX4_readsLine_41 : decode cX4_readsLine 41 = .ok (.iaload, 1) := dk_46 (dk_at dksX4_readsLine_1 17 rfl rfl)
theorem dX4_readsLine_42 : decode cX4_readsLine 42 = .ok (.bipush 8, 2) := dk_16 8 (dk_at dksX4_readsLine_1 18 rfl rfl)
theorem dX4_readsLine_44 : decode cX4_readsLine 44 = .ok (.if_icmp .ne 12, 3) := dk_160 0 12 (dk_at dksX4_readsLine_1 20 rfl rfl)
theorem dX4_readsLine_47 : decode cX4_readsLine 47 = .ok (.aload_n 0, 1) := dk_42 (dk_at dksX4_readsLine_1 23 rfl rfl)
theorem dX4_readsLine_48 : decode cX4_readsLine 48 = .ok (.iconst 4, 1) := dk_7 (dk_at dksX4_readsLine_2 0 rfl rfl)
theorem dX4_readsLine_49 : decode cX4_readsLine 49 = .ok (.iload_n 1, 1) := dk_27 (dk_at dksX4_readsLine_2 1 rfl rfl)
theorem dX4_readsLine_50 : decode cX4_readsLine 50 = .ok (.invokevirtual 95, 3) := dk_182 0 95 (dk_at dksX4_readsLine_2 2 rfl rfl)
theorem dX4_readsLine_53 : decode cX4_readsLine 53 = .ok (.goto 191, 3) := dk_167 0 191 (dk_at dksX4_readsLine_2 5 rfl rfl)
theorem dX4_readsLine_56 : decode cX4_readsLine 56 = .ok (.aload_n 0, 1) := dk_42 (dk_at dksX4_readsLine_2 8 rfl rfl)
theorem dX4_readsLine_57 : decode cX4_readsLine 57 = .ok (.getfield 23, 3) := dk_180 0 23 (dk_at dksX4_readsLine_2 9 rfl rfl)
theorem dX4_readsLine_60 : decode cX4_readsLine 60 = .ok (.iconst 1, 1) := dk_4 (dk_at dksX4_readsLine_2 12 rfl rfl)
theorem dX4_readsLine_61 : decode cX4_readsLine 61 = .ok (.dup2, 1) := dk_92 (dk_at dksX4_readsLine_2 13 rfl rfl)
theorem dX4_readsLine_62 : decode cX4_readsLine 62 = .ok (.iaload, 1) := dk_46 (dk_at dksX4_readsLine_2 14 rfl rfl)
theorem dX4_readsLine_63 : decode cX4_readsLine 63 = .ok (.iconst 1, 1) := dk_4 (dk_at dksX4_readsLine_2 15 rfl rfl)
theorem dX4_readsLine_64 : decode cX4_readsLine 64 = .ok (.iadd, 1) := dk_96 (dk_at dksX4_readsLine_2 16 rfl rfl)
theorem dX4_readsLine_65 : decode cX4_readsLine 65 = .ok (.iastore, 1) := dk_79 (dk_at dksX4_readsLine_2 17 rfl rfl)
theorem dX4_readsLine_66 : decode cX4_readsLine 66 = .ok (.goto 178, 3) := dk_167 0 178 (dk_at dksX4_readsLine_2 18 rfl rfl)
theorem dX4_readsLine_69 : decode cX4_readsLine 69 = .ok (.aload_n 0, 1) := dk_42 (dk_at dksX4_readsLine_2 21 rfl rfl)
theorem dX4_readsLine_70 : decode cX4_readsLine 70 = .ok (.ldc 185, 2) := dk_18 185 (dk_at dksX4_readsLine_2 22 rfl rfl)
theorem dX4_readsLine_72 : decode cX4_readsLine 72 = .ok (.invokevirtual 150, 3) := dk_182 0 150 (dk_at dksX4_readsLine_3 0 rfl rfl)
theorem dX4_readsLine_75 : decode cX4_readsLine 75 = .ok (.ifCond .eq 11, 3) := dk_153 0 11 (dk_at dksX4_readsLine_3 3 rfl rfl)
theorem dX4_readsLine_78 : decode cX4_readsLine 78 = .ok (.aload_n 0, 1) := dk_42 (dk_at dksX4_readsLine_3 6 rfl rfl)
theorem dX4_readsLine_79 : decode cX4_readsLine 79 = .ok (.iload_n 1, 1) := dk_27 (dk_at dksX4_readsLine_3 7 rfl rfl)
theorem dX4_readsLine_80 : decode cX4_readsLine 80 = .ok (.invokevirtual 187, 3) := dk_182 0 187 (dk_at dksX4_readsLine_3 8 rfl rfl)
theorem dX4_readsLine_83 : decode cX4_readsLine 83 = .ok (.goto 161, 3) := dk_167 0 161 (dk_at dksX4_readsLine_3 11 rfl rfl)
theorem dX4_readsLine_86 : decode cX4_readsLine 86 = .ok (.aload_n 0, 1) := dk_42 (dk_at dksX4_readsLine_3 14 rfl rfl)
theorem dX4_readsLine_87 : decode cX4_readsLine 87 = .ok (.ldc 190, 2) := dk_18 190 (dk_at dksX4_readsLine_3 15 rfl rfl)
theorem dX4_readsLine_89 : decode cX4_readsLine 89 = .ok (.iconst 0, 1) := dk_3 (dk_at dksX4_readsLine_3 17 rfl rfl)
theorem dX4_readsLine_90 : decode cX4_readsLine 90 = .ok (.invokevirtual 192, 3) := dk_182 0 192 (dk_at dksX4_readsLine_3 18 rfl rfl)
theorem dX4_readsLine_93 : decode cX4_readsLine 93 = .ok (.ifCond .eq 19, 3) := dk_153 0 19 (dk_at dksX4_readsLine_3 21 rfl rfl)
theorem dX4_readsLine_96 : decode cX4_readsLine 96 = .ok (.aload_n 0, 1) := dk_42 (dk_at dksX4_readsLine_4 0 rfl rfl)
theorem dX4_readsLine_97 : decode cX4_readsLine 97 = .ok (.getfield 23, 3) := dk_180 0 23 (dk_at dksX4_readsLine_4 1 rfl rfl)
theorem dX4_readsLine_100 : decode cX4_readsLine 100 = .ok (.iconst 3, 1) := dk_6 (dk_at dksX4_readsLine_4 4 rfl rfl)
theorem dX4_readsLine_101 : decode cX4_readsLine 101 = .ok (.aload_n 0, 1) := dk_42 (dk_at dksX4_readsLine_4 5 rfl rfl)
theorem dX4_readsLine_102 : decode cX4_readsLine 102 = .ok (.iconst 0, 1) := dk_3 (dk_at dksX4_readsLine_4 6 rfl rfl)
theorem dX4_readsLine_103 : decode cX4_readsLine 103 = .ok (.bipush 40, 2) := dk_16 40 (dk_at dksX4_readsLine_4 7 rfl rfl)
theorem dX4_readsLine_105 : decode cX4_readsLine 105 = .ok (.invokevirtual 117, 3) := dk_182 0 117 (dk_at dksX4_readsLine_4 9 rfl rfl)
theorem dX4_readsLine_108 : decode cX4_readsLine 108 = .ok (.iastore, 1) := dk_79 (dk_at dksX4_readsLine_4 12 rfl rfl)
theorem dX4_readsLine_109 : decode cX4_readsLine 109 = .ok (.goto 135, 3) := dk_167 0 135 (dk_at dksX4_readsLine_4 13 rfl rfl)
theorem dX4_readsLine_112 : decode cX4_readsLine 112 = .ok (.aload_n 0, 1) := dk_42 (dk_at dksX4_readsLine_4 16 rfl rfl)
theorem dX4_readsLine_113 : decode cX4_readsLine 113 = .ok (.ldc 196, 2) := dk_18 196 (dk_at dksX4_readsLine_4 17 rfl rfl)
theorem dX4_readsLine_115 : decode cX4_readsLine 115 = .ok (.iconst 1, 1) := dk_4 (dk_at dksX4_readsLine_4 19 rfl rfl)
theorem dX4_readsLine_116 : decode cX4_readsLine 116 = .ok (.invokevirtual 192, 3) := dk_182 0 192 (dk_at dksX4_readsLine_4 20 rfl rfl)
theorem dX4_readsLine_119 : decode cX4_readsLine 119 = .ok (.ifCond .eq 39, 3) := dk_153 0 39 (dk_at dksX4_readsLine_5 0 rfl rfl)
theorem dX4_readsLine_122 : decode cX4_readsLine 122 = .ok (.aload_n 0, 1) := dk_42 (dk_at dksX4_readsLine_5 3 rfl rfl)
theorem dX4_readsLine_123 : decode cX4_readsLine 123 = .ok (.getfield 23, 3) := dk_180 0 23 (dk_at dksX4_readsLine_5 4 rfl rfl)
theorem dX4_readsLine_126 : decode cX4_readsLine 126 = .ok (.iconst 4, 1) := dk_7 (dk_at dksX4_readsLine_5 7 rfl rfl)
theorem dX4_readsLine_127 : decode cX4_readsLine 127 = .ok (.aload_n 0, 1) := dk_42 (dk_at dksX4_readsLine_5 8 rfl rfl)
theorem dX4_readsLine_128 : decode cX4_readsLine 128 = .ok (.iconst 0, 1) := dk_3 (dk_at dksX4_readsLine_5 9 rfl rfl)
theorem dX4_readsLine_129 : decode cX4_readsLine 129 = .ok (.sipush 999, 3) := dk_17 3 231 (dk_at dksX4_readsLine_5 10 rfl rfl)
theorem dX4_readsLine_132 : decode cX4_readsLine 132 = .ok (.invokevirtual 117, 3) := dk_182 0 117 (dk_at dksX4_readsLine_5 13 rfl rfl)
theorem dX4_readsLine_135 : decode cX4_readsLine 135 = .ok (.iastore, 1) := dk_79 (dk_at dksX4_readsLine_5 16 rfl rfl)
theorem dX4_readsLine_136 : decode cX4_readsLine 136 = .ok (.aload_n 0, 1) := dk_42 (dk_at dksX4_readsLine_5 17 rfl rfl)
theorem dX4_readsLine_137 : decode cX4_readsLine 137 = .ok (.getfield 23, 3) := dk_180 0 23 (dk_at dksX4_readsLine_5 18 rfl rfl)
theorem dX4_readsLine_140 : decode cX4_readsLine 140 = .ok (.iconst 5, 1) := dk_8 (dk_at dksX4_readsLine_5 21 rfl rfl)
theorem dX4_readsLine_141 : decode cX4_readsLine 141 = .ok (.aload_n 0, 1) := dk_42 (dk_at dksX4_readsLine_5 22 rfl rfl)
theorem dX4_readsLine_142 : decode cX4_readsLine 142 = .ok (.aload_n 0, 1) := dk_42 (dk_at dksX4_readsLine_5 23 rfl rfl)
theorem dX4_readsLine_143 : decode cX4_readsLine 143 = .ok (.getfield 23, 3) := dk_180 0 23 (dk_at dksX4_readsLine_6 0 rfl rfl)
theorem dX4_readsLine_146 : decode cX4_readsLine 146 = .ok (.iconst 4, 1) := dk_7 (dk_at dksX4_readsLine_6 3 rfl rfl)
theorem dX4_readsLine_147 : decode cX4_readsLine 147 = .ok (.iaload, 1) := dk_46 (dk_at dksX4_readsLine_6 4 rfl rfl)
theorem dX4_readsLine_148 : decode cX4_readsLine 148 = .ok (.sipush 999, 3) := dk_17 3 231 (dk_at dksX4_readsLine_6 5 rfl rfl)
theorem dX4_readsLine_151 : decode cX4_readsLine 151 = .ok (.invokevirtual 117, 3) := dk_182 0 117 (dk_at dksX4_readsLine_6 8 rfl rfl)
theorem dX4_readsLine_154 : decode cX4_readsLine 154 = .ok (.iastore, 1) := dk_79 (dk_at dksX4_readsLine_6 11 rfl rfl)
theorem dX4_readsLine_155 : decode cX4_readsLine 155 = .ok (.goto 89, 3) := dk_167 0 89 (dk_at dksX4_readsLine_6 12 rfl rfl)
theorem dX4_readsLine_158 : decode cX4_readsLine 158 = .ok (.aload_n 0, 1) := dk_42 (dk_at dksX4_readsLine_6 15 rfl rfl)
theorem dX4_readsLine_159 : decode cX4_readsLine 159 = .ok (.ldc 198, 2) := dk_18 198 (dk_at dksX4_readsLine_6 16 rfl rfl)
theorem dX4_readsLine_161 : decode cX4_readsLine 161 = .ok (.iconst 2, 1) := dk_5 (dk_at dksX4_readsLine_6 18 rfl rfl)
theorem dX4_readsLine_162 : decode cX4_readsLine 162 = .ok (.invokevirtual 192, 3) := dk_182 0 192 (dk_at dksX4_readsLine_6 19 rfl rfl)
theorem dX4_readsLine_165 : decode cX4_readsLine 165 = .ok (.ifCond .eq 20, 3) := dk_153 0 20 (dk_at dksX4_readsLine_7 0 rfl rfl)
theorem dX4_readsLine_168 : decode cX4_readsLine 168 = .ok (.aload_n 0, 1) := dk_42 (dk_at dksX4_readsLine_7 3 rfl rfl)
theorem dX4_readsLine_169 : decode cX4_readsLine 169 = .ok (.getfield 23, 3) := dk_180 0 23 (dk_at dksX4_readsLine_7 4 rfl rfl)
theorem dX4_readsLine_172 : decode cX4_readsLine 172 = .ok (.bipush 6, 2) := dk_16 6 (dk_at dksX4_readsLine_7 7 rfl rfl)
theorem dX4_readsLine_174 : decode cX4_readsLine 174 = .ok (.aload_n 0, 1) := dk_42 (dk_at dksX4_readsLine_7 9 rfl rfl)
theorem dX4_readsLine_175 : decode cX4_readsLine 175 = .ok (.iconst 0, 1) := dk_3 (dk_at dksX4_readsLine_7 10 rfl rfl)
theorem dX4_readsLine_176 : decode cX4_readsLine 176 = .ok (.bipush 100, 2) := dk_16 100 (dk_at dksX4_readsLine_7 11 rfl rfl)
theorem dX4_readsLine_178 : decode cX4_readsLine 178 = .ok (.invokevirtual 117, 3) := dk_182 0 117 (dk_at dksX4_readsLine_7 13 rfl rfl)
theorem dX4_readsLine_181 : decode cX4_readsLine 181 = .ok (.iastore, 1) := dk_79 (dk_at dksX4_readsLine_7 16 rfl rfl)
theorem dX4_readsLine_182 : decode cX4_readsLine 182 = .ok (.goto 62, 3) := dk_167 0 62 (dk_at dksX4_readsLine_7 17 rfl rfl)
theorem dX4_readsLine_185 : decode cX4_readsLine 185 = .ok (.aload_n 0, 1) := dk_42 (dk_at dksX4_readsLine_7 20 rfl rfl)
theorem dX4_readsLine_186 : decode cX4_readsLine 186 = .ok (.ldc 200, 2) := dk_18 200 (dk_at dksX4_readsLine_7 21 rfl rfl)
theorem dX4_readsLine_188 : decode cX4_readsLine 188 = .ok (.iconst 3, 1) := dk_6 (dk_at dksX4_readsLine_7 23 rfl rfl)
theorem dX4_readsLine_189 : decode cX4_readsLine 189 = .ok (.invokevirtual 192, 3) := dk_182 0 192 (dk_at dksX4_readsLine_8 0 rfl rfl)
theorem dX4_readsLine_192 : decode cX4_readsLine 192 = .ok (.ifCond .eq 21, 3) := dk_153 0 21 (dk_at dksX4_readsLine_8 3 rfl rfl)
theorem dX4_readsLine_195 : decode cX4_readsLine 195 = .ok (.aload_n 0, 1) := dk_42 (dk_at dksX4_readsLine_8 6 rfl rfl)
theorem dX4_readsLine_196 : decode cX4_readsLine 196 = .ok (.getfield 23, 3) := dk_180 0 23 (dk_at dksX4_readsLine_8 7 rfl rfl)
theorem dX4_readsLine_199 : decode cX4_readsLine 199 = .ok (.bipush 7, 2) := dk_16 7 (dk_at dksX4_readsLine_8 10 rfl rfl)
theorem dX4_readsLine_201 : decode cX4_readsLine 201 = .ok (.aload_n 0, 1) := dk_42 (dk_at dksX4_readsLine_8 12 rfl rfl)
theorem dX4_readsLine_202 : decode cX4_readsLine 202 = .ok (.iconst 1, 1) := dk_4 (dk_at dksX4_readsLine_8 13 rfl rfl)
theorem dX4_readsLine_203 : decode cX4_readsLine 203 = .ok (.sipush 499, 3) := dk_17 1 243 (dk_at dksX4_readsLine_8 14 rfl rfl)
theorem dX4_readsLine_206 : decode cX4_readsLine 206 = .ok (.invokevirtual 117, 3) := dk_182 0 117 (dk_at dksX4_readsLine_8 17 rfl rfl)
theorem dX4_readsLine_209 : decode cX4_readsLine 209 = .ok (.iastore, 1) := dk_79 (dk_at dksX4_readsLine_8 20 rfl rfl)
theorem dX4_readsLine_210 : decode cX4_readsLine 210 = .ok (.goto 34, 3) := dk_167 0 34 (dk_at dksX4_readsLine_8 21 rfl rfl)
theorem dX4_readsLine_213 : decode cX4_readsLine 213 = .ok (.aload_n 0, 1) := dk_42 (dk_at dksX4_readsLine_9 0 rfl rfl)
theorem dX4_readsLine_214 : decode cX4_readsLine 214 = .ok (.ldc 202, 2) := dk_18 202 (dk_at dksX4_readsLine_9 1 rfl rfl)
theorem dX4_readsLine_216 : decode cX4_readsLine 216 = .ok (.iconst 4, 1) := dk_7 (dk_at dksX4_readsLine_9 3 rfl rfl)
theorem dX4_readsLine_217 : decode cX4_readsLine 217 = .ok (.invokevirtual 192, 3) := dk_182 0 192 (dk_at dksX4_readsLine_9 4 rfl rfl)
theorem dX4_readsLine_220 : decode cX4_readsLine 220 = .ok (.ifCond .eq 18, 3) := dk_153 0 18 (dk_at dksX4_readsLine_9 7 rfl rfl)
theorem dX4_readsLine_223 : decode cX4_readsLine 223 = .ok (.aload_n 0, 1) := dk_42 (dk_at dksX4_readsLine_9 10 rfl rfl)
theorem dX4_readsLine_224 : decode cX4_readsLine 224 = .ok (.invokevirtual 164, 3) := dk_182 0 164 (dk_at dksX4_readsLine_9 11 rfl rfl)
theorem dX4_readsLine_227 : decode cX4_readsLine 227 = .ok (.aload_n 0, 1) := dk_42 (dk_at dksX4_readsLine_9 14 rfl rfl)
theorem dX4_readsLine_228 : decode cX4_readsLine 228 = .ok (.getfield 23, 3) := dk_180 0 23 (dk_at dksX4_readsLine_9 15 rfl rfl)
theorem dX4_readsLine_231 : decode cX4_readsLine 231 = .ok (.bipush 8, 2) := dk_16 8 (dk_at dksX4_readsLine_9 18 rfl rfl)
theorem dX4_readsLine_233 : decode cX4_readsLine 233 = .ok (.iconst 1, 1) := dk_4 (dk_at dksX4_readsLine_9 20 rfl rfl)
theorem dX4_readsLine_234 : decode cX4_readsLine 234 = .ok (.iastore, 1) := dk_79 (dk_at dksX4_readsLine_9 21 rfl rfl)
theorem dX4_readsLine_235 : decode cX4_readsLine 235 = .ok (.goto 9, 3) := dk_167 0 9 (dk_at dksX4_readsLine_10 0 rfl rfl)
theorem dX4_readsLine_238 : decode cX4_readsLine 238 = .ok (.aload_n 0, 1) := dk_42 (dk_at dksX4_readsLine_10 3 rfl rfl)
theorem dX4_readsLine_239 : decode cX4_readsLine 239 = .ok (.iconst 1, 1) := dk_4 (dk_at dksX4_readsLine_10 4 rfl rfl)
theorem dX4_readsLine_240 : decode cX4_readsLine 240 = .ok (.iload_n 1, 1) := dk_27 (dk_at dksX4_readsLine_10 5 rfl rfl)
theorem dX4_readsLine_241 : decode cX4_readsLine 241 = .ok (.invokevirtual 95, 3) := dk_182 0 95 (dk_at dksX4_readsLine_10 6 rfl rfl)
theorem dX4_readsLine_244 : decode cX4_readsLine 244 = .ok (.aload_n 0, 1) := dk_42 (dk_at dksX4_readsLine_10 9 rfl rfl)
theorem dX4_readsLine_245 : decode cX4_readsLine 245 = .ok (.bipush 59, 2) := dk_16 59 (dk_at dksX4_readsLine_10 10 rfl rfl)
theorem dX4_readsLine_247 : decode cX4_readsLine 247 = .ok (.invokevirtual 167, 3) := dk_182 0 167 (dk_at dksX4_readsLine_10 12 rfl rfl)
theorem dX4_readsLine_250 : decode cX4_readsLine 250 = .ok (.return_, 1) := dk_177 (dk_at dksX4_readsLine_10 15 rfl rfl)
abbrev cX4_takes : ByteArray := prog_12_method_19_code
def yX4_takes : MethodName := ⟨RX4, "takes", "(Ljava/lang/String;)Z"⟩
def dkwX4_takes_1 : List UInt8 := [182, 0, 74, 96, 181, 0, 57, 4, 172]
abbrev dktX4_takes_1 : List UInt8 := dkwX4_takes_1 ++ []
def dkwX4_takes_0 : List UInt8 := [42, 182, 0, 87, 153, 0, 11, 42, 43, 182, 0, 91, 154, 0, 5, 3, 172, 42, 89, 180, 0, 57, 43]
abbrev dktX4_takes_0 : List UInt8 := dkwX4_takes_0 ++ dktX4_takes_1
theorem dksX4_takes_0 : cX4_takes.data.toList.drop 0 = dktX4_takes_0 := by decide +kernel
theorem dksX4_takes_1 : cX4_takes.data.toList.drop 23 = dktX4_takes_1 := dk_seg dksX4_takes_0 23 rfl rfl
theorem dX4_takes_0 : decode cX4_takes 0 = .ok (.aload_n 0, 1) := dk_42 (dk_at dksX4_takes_0 0 rfl rfl)
theorem dX4_takes_1 : decode cX4_takes 1 = .ok (.invokevirtual 87, 3) := dk_182 0 87 (dk_at dksX4_takes_0 1 rfl rfl)
theorem dX4_takes_4 : decode cX4_takes 4 = .ok (.ifCond .eq 11, 3) := dk_153 0 11 (dk_at dksX4_takes_0 4 rfl rfl)
theorem dX4_takes_7 : decode cX4_takes 7 = .ok (.aload_n 0, 1) := dk_42 (dk_at dksX4_takes_0 7 rfl rfl)
theorem dX4_takes_8 : decode cX4_takes 8 = .ok (.aload_n 1, 1) := dk_43 (dk_at dksX4_takes_0 8 rfl rfl)
theorem dX4_takes_9 : decode cX4_takes 9 = .ok (.invokevirtual 91, 3) := dk_182 0 91 (dk_at dksX4_takes_0 9 rfl rfl)
theorem dX4_takes_12 : decode cX4_takes 12 = .ok (.ifCond .ne 5, 3) := dk_154 0 5 (dk_at dksX4_takes_0 12 rfl rfl)
theorem dX4_takes_15 : decode cX4_takes 15 = .ok (.iconst 0, 1) := dk_3 (dk_at dksX4_takes_0 15 rfl rfl)
theorem dX4_takes_16 : decode cX4_takes 16 = .ok (.ireturn, 1) := dk_172 (dk_at dksX4_takes_0 16 rfl rfl)
theorem dX4_takes_17 : decode cX4_takes 17 = .ok (.aload_n 0, 1) := dk_42 (dk_at dksX4_takes_0 17 rfl rfl)
theorem dX4_takes_18 : decode cX4_takes 18 = .ok (.dup, 1) := dk_89 (dk_at dksX4_takes_0 18 rfl rfl)
theorem dX4_takes_19 : decode cX4_takes 19 = .ok (.getfield 57, 3) := dk_180 0 57 (dk_at dksX4_takes_0 19 rfl rfl)
theorem dX4_takes_22 : decode cX4_takes 22 = .ok (.aload_n 1, 1) := dk_43 (dk_at dksX4_takes_0 22 rfl rfl)
theorem dX4_takes_23 : decode cX4_takes 23 = .ok (.invokevirtual 74, 3) := dk_182 0 74 (dk_at dksX4_takes_1 0 rfl rfl)
theorem dX4_takes_26 : decode cX4_takes 26 = .ok (.iadd, 1) := dk_96 (dk_at dksX4_takes_1 3 rfl rfl)
theorem dX4_takes_27 : decode cX4_takes 27 = .ok (.putfield 57, 3) := dk_181 0 57 (dk_at dksX4_takes_1 4 rfl rfl)
theorem dX4_takes_30 : decode cX4_takes 30 = .ok (.iconst 1, 1) := dk_4 (dk_at dksX4_takes_1 7 rfl rfl)
theorem dX4_takes_31 : decode cX4_takes 31 = .ok (.ireturn, 1) := dk_172 (dk_at dksX4_takes_1 8 rfl rfl)
abbrev cX4_isWord : ByteArray := prog_12_method_18_code
def yX4_isWord : MethodName := ⟨RX4, "isWord", "(Ljava/lang/String;)Z"⟩
def dkwX4_isWord_3 : List UInt8 := [172]
abbrev dktX4_isWord_3 : List UInt8 := dkwX4_isWord_3 ++ []
def dkwX4_isWord_2 : List UInt8 := [160, 0, 23, 42, 42, 180, 0, 57, 28, 96, 182, 0, 60, 184, 0, 83, 154, 0, 7, 4, 167, 0, 4, 3]
abbrev dktX4_isWord_2 : List UInt8 := dkwX4_isWord_2 ++ dktX4_isWord_3
def dkwX4_isWord_1 : List UInt8 := [182, 0, 60, 43, 28, 182, 0, 79, 160, 0, 9, 132, 2, 1, 167, 255, 227, 28, 43, 182, 0, 74]
abbrev dktX4_isWord_1 : List UInt8 := dkwX4_isWord_1 ++ dktX4_isWord_2
def dkwX4_isWord_0 : List UInt8 := [42, 182, 0, 70, 87, 3, 61, 28, 43, 182, 0, 74, 162, 0, 27, 42, 42, 180, 0, 57, 28, 96]
abbrev dktX4_isWord_0 : List UInt8 := dkwX4_isWord_0 ++ dktX4_isWord_1
theorem dksX4_isWord_0 : cX4_isWord.data.toList.drop 0 = dktX4_isWord_0 := by decide +kernel
theorem dksX4_isWord_1 : cX4_isWord.data.toList.drop 22 = dktX4_isWord_1 := dk_seg dksX4_isWord_0 22 rfl rfl
theorem dksX4_isWord_2 : cX4_isWord.data.toList.drop 44 = dktX4_isWord_2 := dk_seg dksX4_isWord_1 22 rfl rfl
theorem dksX4_isWord_3 : cX4_isWord.data.toList.drop 68 = dktX4_isWord_3 := dk_seg dksX4_isWord_2 24 rfl rfl
theorem dX4_isWord_0 : decode cX4_isWord 0 = .ok (.aload_n 0, 1) := dk_42 (dk_at dksX4_isWord_0 0 rfl rfl)
theorem dX4_isWord_1 : decode cX4_isWord 1 = .ok (.invokevirtual 70, 3) := dk_182 0 70 (dk_at dksX4_isWord_0 1 rfl rfl)
theorem dX4_isWord_4 : decode cX4_isWord 4 = .ok (.pop, 1) := dk_87 (dk_at dksX4_isWord_0 4 rfl rfl)
theorem dX4_isWord_5 : decode cX4_isWord 5 = .ok (.iconst 0, 1) := dk_3 (dk_at dksX4_isWord_0 5 rfl rfl)
theorem dX4_isWord_6 : decode cX4_isWord 6 = .ok (.istore_n 2, 1) := dk_61 (dk_at dksX4_isWord_0 6 rfl rfl)
theorem dX4_isWord_7 : decode cX4_isWord 7 = .ok (.iload_n 2, 1) := dk_28 (dk_at dksX4_isWord_0 7 rfl rfl)
theorem dX4_isWord_8 : decode cX4_isWord 8 = .ok (.aload_n 1, 1) := dk_43 (dk_at dksX4_isWord_0 8 rfl rfl)
theorem dX4_isWord_9 : decode cX4_isWord 9 = .ok (.invokevirtual 74, 3) := dk_182 0 74 (dk_at dksX4_isWord_0 9 rfl rfl)
theorem dX4_isWord_12 : decode cX4_isWord 12 = .ok (.if_icmp .ge 27, 3) := dk_162 0 27 (dk_at dksX4_isWord_0 12 rfl rfl)
theorem dX4_isWord_15 : decode cX4_isWord 15 = .ok (.aload_n 0, 1) := dk_42 (dk_at dksX4_isWord_0 15 rfl rfl)
theorem dX4_isWord_16 : decode cX4_isWord 16 = .ok (.aload_n 0, 1) := dk_42 (dk_at dksX4_isWord_0 16 rfl rfl)
theorem dX4_isWord_17 : decode cX4_isWord 17 = .ok (.getfield 57, 3) := dk_180 0 57 (dk_at dksX4_isWord_0 17 rfl rfl)
theorem dX4_isWord_20 : decode cX4_isWord 20 = .ok (.iload_n 2, 1) := dk_28 (dk_at dksX4_isWord_0 20 rfl rfl)
theorem dX4_isWord_21 : decode cX4_isWord 21 = .ok (.iadd, 1) := dk_96 (dk_at dksX4_isWord_0 21 rfl rfl)
theorem dX4_isWord_22 : decode cX4_isWord 22 = .ok (.invokevirtual 60, 3) := dk_182 0 60 (dk_at dksX4_isWord_1 0 rfl rfl)
theorem dX4_isWord_25 : decode cX4_isWord 25 = .ok (.aload_n 1, 1) := dk_43 (dk_at dksX4_isWord_1 3 rfl rfl)
theorem dX4_isWord_26 : decode cX4_isWord 26 = .ok (.iload_n 2, 1) := dk_28 (dk_at dksX4_isWord_1 4 rfl rfl)
theorem dX4_isWord_27 : decode cX4_isWord 27 = .ok (.invokevirtual 79, 3) := dk_182 0 79 (dk_at dksX4_isWord_1 5 rfl rfl)
theorem dX4_isWord_30 : decode cX4_isWord 30 = .ok (.if_icmp .ne 9, 3) := dk_160 0 9 (dk_at dksX4_isWord_1 8 rfl rfl)
theorem dX4_isWord_33 : decode cX4_isWord 33 = .ok (.iinc 2 1, 3) := dk_132 2 1 (dk_at dksX4_isWord_1 11 rfl rfl)
theorem dX4_isWord_36 : decode cX4_isWord 36 = .ok (.goto (-29), 3) := dk_167 255 227 (dk_at dksX4_isWord_1 14 rfl rfl)
theorem dX4_isWord_39 : decode cX4_isWord 39 = .ok (.iload_n 2, 1) := dk_28 (dk_at dksX4_isWord_1 17 rfl rfl)
theorem dX4_isWord_40 : decode cX4_isWord 40 = .ok (.aload_n 1, 1) := dk_43 (dk_at dksX4_isWord_1 18 rfl rfl)
theorem dX4_isWord_41 : decode cX4_isWord 41 = .ok (.invokevirtual 74, 3) := dk_182 0 74 (dk_at dksX4_isWord_1 19 rfl rfl)
theorem dX4_isWord_44 : decode cX4_isWord 44 = .ok (.if_icmp .ne 23, 3) := dk_160 0 23 (dk_at dksX4_isWord_2 0 rfl rfl)
theorem dX4_isWord_47 : decode cX4_isWord 47 = .ok (.aload_n 0, 1) := dk_42 (dk_at dksX4_isWord_2 3 rfl rfl)
theorem dX4_isWord_48 : decode cX4_isWord 48 = .ok (.aload_n 0, 1) := dk_42 (dk_at dksX4_isWord_2 4 rfl rfl)
theorem dX4_isWord_49 : decode cX4_isWord 49 = .ok (.getfield 57, 3) := dk_180 0 57 (dk_at dksX4_isWord_2 5 rfl rfl)
theorem dX4_isWord_52 : decode cX4_isWord 52 = .ok (.iload_n 2, 1) := dk_28 (dk_at dksX4_isWord_2 8 rfl rfl)
theorem dX4_isWord_53 : decode cX4_isWord 53 = .ok (.iadd, 1) := dk_96 (dk_at dksX4_isWord_2 9 rfl rfl)
theorem dX4_isWord_54 : decode cX4_isWord 54 = .ok (.invokevirtual 60, 3) := dk_182 0 60 (dk_at dksX4_isWord_2 10 rfl rfl)
theorem dX4_isWord_57 : decode cX4_isWord 57 = .ok (.invokestatic 83, 3) := dk_184 0 83 (dk_at dksX4_isWord_2 13 rfl rfl)
theorem dX4_isWord_60 : decode cX4_isWord 60 = .ok (.ifCond .ne 7, 3) := dk_154 0 7 (dk_at dksX4_isWord_2 16 rfl rfl)
theorem dX4_isWord_63 : decode cX4_isWord 63 = .ok (.iconst 1, 1) := dk_4 (dk_at dksX4_isWord_2 19 rfl rfl)
theorem dX4_isWord_64 : decode cX4_isWord 64 = .ok (.goto 4, 3) := dk_167 0 4 (dk_at dksX4_isWord_2 20 rfl rfl)
theorem dX4_isWord_67 : decode cX4_isWord 67 = .ok (.iconst 0, 1) := dk_3 (dk_at dksX4_isWord_2 23 rfl rfl)
theorem dX4_isWord_68 : decode cX4_isWord 68 = .ok (.ireturn, 1) := dk_172 (dk_at dksX4_isWord_3 0 rfl rfl)
abbrev cX4_isSmall : ByteArray := prog_12_method_16_code
def yX4_isSmall : MethodName := ⟨RX4, "isSmall", "(I)Z"⟩
def dkwX4_isSmall_0 : List UInt8 := [26, 16, 97, 161, 0, 13, 26, 16, 122, 163, 0, 7, 4, 167, 0, 4, 3, 172]
abbrev dktX4_isSmall_0 : List UInt8 := dkwX4_isSmall_0 ++ []
theorem dksX4_isSmall_0 : cX4_isSmall.data.toList.drop 0 = dktX4_isSmall_0 := by decide +kernel
theorem dX4_isSmall_0 : decode cX4_isSmall 0 = .ok (.iload_n 0, 1) := dk_26 (dk_at dksX4_isSmall_0 0 rfl rfl)
theorem dX4_isSmall_1 : decode cX4_isSmall 1 = .ok (.bipush 97, 2) := dk_16 97 (dk_at dksX4_isSmall_0 1 rfl rfl)
theorem dX4_isSmall_3 : decode cX4_isSmall 3 = .ok (.if_icmp .lt 13, 3) := dk_161 0 13 (dk_at dksX4_isSmall_0 3 rfl rfl)
theorem dX4_isSmall_6 : decode cX4_isSmall 6 = .ok (.iload_n 0, 1) := dk_26 (dk_at dksX4_isSmall_0 6 rfl rfl)
theorem dX4_isSmall_7 : decode cX4_isSmall 7 = .ok (.bipush 122, 2) := dk_16 122 (dk_at dksX4_isSmall_0 7 rfl rfl)
theorem dX4_isSmall_9 : decode cX4_isSmall 9 = .ok (.if_icmp .gt 7, 3) := dk_163 0 7 (dk_at dksX4_isSmall_0 9 rfl rfl)
theorem dX4_isSmall_12 : decode cX4_isSmall 12 = .ok (.iconst 1, 1) := dk_4 (dk_at dksX4_isSmall_0 12 rfl rfl)
theorem dX4_isSmall_13 : decode cX4_isSmall 13 = .ok (.goto 4, 3) := dk_167 0 4 (dk_at dksX4_isSmall_0 13 rfl rfl)
theorem dX4_isSmall_16 : decode cX4_isSmall 16 = .ok (.iconst 0, 1) := dk_3 (dk_at dksX4_isSmall_0 16 rfl rfl)
theorem dX4_isSmall_17 : decode cX4_isSmall 17 = .ok (.ireturn, 1) := dk_172 (dk_at dksX4_isSmall_0 17 rfl rfl)
abbrev cX4_readsVoter : ByteArray := prog_12_method_24_code
def yX4_readsVoter : MethodName := ⟨RX4, "readsVoter", "(I)V"⟩
def dkwX4_readsVoter_6 : List UInt8 := [96, 79, 177]
abbrev dktX4_readsVoter_6 : List UInt8 := dkwX4_readsVoter_6 ++ []
def dkwX4_readsVoter_5 : List UInt8 := [21, 4, 79, 42, 180, 0, 23, 21, 6, 5, 184, 0, 111, 21, 5, 79, 42, 180, 0, 23, 3, 92, 46, 4]
abbrev dktX4_readsVoter_5 : List UInt8 := dkwX4_readsVoter_5 ++ dktX4_readsVoter_6
def dkwX4_readsVoter_4 : List UInt8 := [177, 42, 180, 0, 23, 21, 6, 3, 184, 0, 111, 29, 79, 42, 180, 0, 23, 21, 6, 4, 184, 0, 111]
abbrev dktX4_readsVoter_4 : List UInt8 := dkwX4_readsVoter_4 ++ dktX4_readsVoter_5
def dkwX4_readsVoter_3 : List UInt8 := [3, 17, 3, 231, 182, 0, 117, 54, 5, 42, 180, 0, 23, 3, 46, 54, 6, 42, 182, 0, 87, 154, 0, 4]
abbrev dktX4_readsVoter_3 : List UInt8 := dkwX4_readsVoter_3 ++ dktX4_readsVoter_4
def dkwX4_readsVoter_2 : List UInt8 := [153, 0, 23, 42, 180, 0, 23, 29, 21, 4, 184, 0, 120, 2, 159, 0, 9, 42, 6, 28, 182, 0, 95, 42]
abbrev dktX4_readsVoter_2 : List UInt8 := dkwX4_readsVoter_2 ++ dktX4_readsVoter_3
def dkwX4_readsVoter_1 : List UInt8 := [180, 0, 57, 61, 42, 182, 0, 114, 62, 42, 3, 16, 99, 182, 0, 117, 54, 4, 42, 182, 0, 87]
abbrev dktX4_readsVoter_1 : List UInt8 := dkwX4_readsVoter_1 ++ dktX4_readsVoter_2
def dkwX4_readsVoter_0 : List UInt8 := [42, 180, 0, 23, 3, 46, 16, 16, 160, 0, 9, 42, 7, 27, 182, 0, 95, 42, 182, 0, 70, 87, 42]
abbrev dktX4_readsVoter_0 : List UInt8 := dkwX4_readsVoter_0 ++ dktX4_readsVoter_1
theorem dksX4_readsVoter_0 : cX4_readsVoter.data.toList.drop 0 = dktX4_readsVoter_0 := by decide +kernel
theorem dksX4_readsVoter_1 : cX4_readsVoter.data.toList.drop 23 = dktX4_readsVoter_1 := dk_seg dksX4_readsVoter_0 23 rfl rfl
theorem dksX4_readsVoter_2 : cX4_readsVoter.data.toList.drop 45 = dktX4_readsVoter_2 := dk_seg dksX4_readsVoter_1 22 rfl rfl
theorem dksX4_readsVoter_3 : cX4_readsVoter.data.toList.drop 69 = dktX4_readsVoter_3 := dk_seg dksX4_readsVoter_2 24 rfl rfl
theorem dksX4_readsVoter_4 : cX4_readsVoter.data.toList.drop 93 = dktX4_readsVoter_4 := dk_seg dksX4_readsVoter_3 24 rfl rfl
theorem dksX4_readsVoter_5 : cX4_readsVoter.data.toList.drop 116 = dktX4_readsVoter_5 := dk_seg dksX4_readsVoter_4 23 rfl rfl
theorem dksX4_readsVoter_6 : cX4_readsVoter.data.toList.drop 140 = dktX4_readsVoter_6 := dk_seg dksX4_readsVoter_5 24 rfl rfl
theorem dX4_readsVoter_0 : decode cX4_readsVoter 0 = .ok (.aload_n 0, 1) := dk_42 (dk_at dksX4_readsVoter_0 0 rfl rfl)
theorem dX4_readsVoter_1 : decode cX4_readsVoter 1 = .ok (.getfield 23, 3) := dk_180 0 23 (dk_at dksX4_readsVoter_0 1 rfl rfl)
theorem dX4_readsVoter_4 : decode cX4_readsVoter 4 = .ok (.iconst 0, 1) := dk_3 (dk_at dksX4_readsVoter_0 4 rfl rfl)
theorem dX4_readsVoter_5 : decode cX4_readsVoter 5 = .ok (.iaload, 1) := dk_46 (dk_at dksX4_readsVoter_0 5 rfl rfl)
theorem dX4_readsVoter_6 : decode cX4_readsVoter 6 = .ok (.bipush 16, 2) := dk_16 16 (dk_at dksX4_readsVoter_0 6 rfl rfl)
theorem dX4_readsVoter_8 : decode cX4_readsVoter 8 = .ok (.if_icmp .ne 9, 3) := dk_160 0 9 (dk_at dksX4_readsVoter_0 8 rfl rfl)
theorem dX4_readsVoter_11 : decode cX4_readsVoter 11 = .ok (.aload_n 0, 1) := dk_42 (dk_at dksX4_readsVoter_0 11 rfl rfl)
theorem dX4_readsVoter_12 : decode cX4_readsVoter 12 = .ok (.iconst 4, 1) := dk_7 (dk_at dksX4_readsVoter_0 12 rfl rfl)
theorem dX4_readsVoter_13 : decode cX4_readsVoter 13 = .ok (.iload_n 1, 1) := dk_27 (dk_at dksX4_readsVoter_0 13 rfl rfl)
theorem dX4_readsVoter_14 : decode cX4_readsVoter 14 = .ok (.invokevirtual 95, 3) := dk_182 0 95 (dk_at dksX4_readsVoter_0 14 rfl rfl)
theorem dX4_readsVoter_17 : decode cX4_readsVoter 17 = .ok (.aload_n 0, 1) := dk_42 (dk_at dksX4_readsVoter_0 17 rfl rfl)
theorem dX4_readsVoter_18 : decode cX4_readsVoter 18 = .ok (.invokevirtual 70, 3) := dk_182 0 70 (dk_at dksX4_readsVoter_0 18 rfl rfl)
theorem dX4_readsVoter_21 : decode cX4_readsVoter 21 = .ok (.pop, 1) := dk_87 (dk_at dksX4_readsVoter_0 21 rfl rfl)
theorem dX4_readsVoter_22 : decode cX4_readsVoter 22 = .ok (.aload_n 0, 1) := dk_42 (dk_at dksX4_readsVoter_0 22 rfl rfl)
theorem dX4_readsVoter_23 : decode cX4_readsVoter 23 = .ok (.getfield 57, 3) := dk_180 0 57 (dk_at dksX4_readsVoter_1 0 rfl rfl)
theorem dX4_readsVoter_26 : decode cX4_readsVoter 26 = .ok (.istore_n 2, 1) := dk_61 (dk_at dksX4_readsVoter_1 3 rfl rfl)
theorem dX4_readsVoter_27 : decode cX4_readsVoter 27 = .ok (.aload_n 0, 1) := dk_42 (dk_at dksX4_readsVoter_1 4 rfl rfl)
theorem dX4_readsVoter_28 : decode cX4_readsVoter 28 = .ok (.invokevirtual 114, 3) := dk_182 0 114 (dk_at dksX4_readsVoter_1 5 rfl rfl)
theorem dX4_readsVoter_31 : decode cX4_readsVoter 31 = .ok (.istore_n 3, 1) := dk_62 (dk_at dksX4_readsVoter_1 8 rfl rfl)
theorem dX4_readsVoter_32 : decode cX4_readsVoter 32 = .ok (.aload_n 0, 1) := dk_42 (dk_at dksX4_readsVoter_1 9 rfl rfl)
theorem dX4_readsVoter_33 : decode cX4_readsVoter 33 = .ok (.iconst 0, 1) := dk_3 (dk_at dksX4_readsVoter_1 10 rfl rfl)
theorem dX4_readsVoter_34 : decode cX4_readsVoter 34 = .ok (.bipush 99, 2) := dk_16 99 (dk_at dksX4_readsVoter_1 11 rfl rfl)
theorem dX4_readsVoter_36 : decode cX4_readsVoter 36 = .ok (.invokevirtual 117, 3) := dk_182 0 117 (dk_at dksX4_readsVoter_1 13 rfl rfl)
theorem dX4_readsVoter_39 : decode cX4_readsVoter 39 = .ok (.istore 4, 2) := dk_54 4 (dk_at dksX4_readsVoter_1 16 rfl rfl)
theorem dX4_readsVoter_41 : decode cX4_readsVoter 41 = .ok (.aload_n 0, 1) := dk_42 (dk_at dksX4_readsVoter_1 18 rfl rfl)
theorem dX4_readsVoter_42 : decode cX4_readsVoter 42 = .ok (.invokevirtual 87, 3) := dk_182 0 87 (dk_at dksX4_readsVoter_1 19 rfl rfl)
theorem dX4_readsVoter_45 : decode cX4_readsVoter 45 = .ok (.ifCond .eq 23, 3) := dk_153 0 23 (dk_at dksX4_readsVoter_2 0 rfl rfl)
theorem dX4_readsVoter_48 : decode cX4_readsVoter 48 = .ok (.aload_n 0, 1) := dk_42 (dk_at dksX4_readsVoter_2 3 rfl rfl)
theorem dX4_readsVoter_49 : decode cX4_readsVoter 49 = .ok (.getfield 23, 3) := dk_180 0 23 (dk_at dksX4_readsVoter_2 4 rfl rfl)
theorem dX4_readsVoter_52 : decode cX4_readsVoter 52 = .ok (.iload_n 3, 1) := dk_29 (dk_at dksX4_readsVoter_2 7 rfl rfl)
theorem dX4_readsVoter_53 : decode cX4_readsVoter 53 = .ok (.iload 4, 2) := dk_21 4 (dk_at dksX4_readsVoter_2 8 rfl rfl)
theorem dX4_readsVoter_55 : decode cX4_readsVoter 55 = .ok (.invokestatic 120, 3) := dk_184 0 120 (dk_at dksX4_readsVoter_2 10 rfl rfl)
theorem dX4_readsVoter_58 : decode cX4_readsVoter 58 = .ok (.iconst (-1), 1) := dk_2 (dk_at dksX4_readsVoter_2 13 rfl rfl)
theorem dX4_readsVoter_59 : decode cX4_readsVoter 59 = .ok (.if_icmp .eq 9, 3) := dk_159 0 9 (dk_at dksX4_readsVoter_2 14 rfl rfl)
theorem dX4_readsVoter_62 : decode cX4_readsVoter 62 = .ok (.aload_n 0, 1) := dk_42 (dk_at dksX4_readsVoter_2 17 rfl rfl)
theorem dX4_readsVoter_63 : decode cX4_readsVoter 63 = .ok (.iconst 3, 1) := dk_6 (dk_at dksX4_readsVoter_2 18 rfl rfl)
theorem dX4_readsVoter_64 : decode cX4_readsVoter 64 = .ok (.iload_n 2, 1) := dk_28 (dk_at dksX4_readsVoter_2 19 rfl rfl)
theorem dX4_readsVoter_65 : decode cX4_readsVoter 65 = .ok (.invokevirtual 95, 3) := dk_182 0 95 (dk_at dksX4_readsVoter_2 20 rfl rfl)
theorem dX4_readsVoter_68 : decode cX4_readsVoter 68 = .ok (.aload_n 0, 1) := dk_42 (dk_at dksX4_readsVoter_2 23 rfl rfl)
theorem dX4_readsVoter_69 : decode cX4_readsVoter 69 = .ok (.iconst 0, 1) := dk_3 (dk_at dksX4_readsVoter_3 0 rfl rfl)
theorem dX4_readsVoter_70 : decode cX4_readsVoter 70 = .ok (.sipush 999, 3) := dk_17 3 231 (dk_at dksX4_readsVoter_3 1 rfl rfl)
theorem dX4_readsVoter_73 : decode cX4_readsVoter 73 = .ok (.invokevirtual 117, 3) := dk_182 0 117 (dk_at dksX4_readsVoter_3 4 rfl rfl)
theorem dX4_readsVoter_76 : decode cX4_readsVoter 76 = .ok (.istore 5, 2) := dk_54 5 (dk_at dksX4_readsVoter_3 7 rfl rfl)
theorem dX4_readsVoter_78 : decode cX4_readsVoter 78 = .ok (.aload_n 0, 1) := dk_42 (dk_at dksX4_readsVoter_3 9 rfl rfl)
theorem dX4_readsVoter_79 : decode cX4_readsVoter 79 = .ok (.getfield 23, 3) := dk_180 0 23 (dk_at dksX4_readsVoter_3 10 rfl rfl)
theorem dX4_readsVoter_82 : decode cX4_readsVoter 82 = .ok (.iconst 0, 1) := dk_3 (dk_at dksX4_readsVoter_3 13 rfl rfl)
theorem dX4_readsVoter_83 : decode cX4_readsVoter 83 = .ok (.iaload, 1) := dk_46 (dk_at dksX4_readsVoter_3 14 rfl rfl)
theorem dX4_readsVoter_84 : decode cX4_readsVoter 84 = .ok (.istore 6, 2) := dk_54 6 (dk_at dksX4_readsVoter_3 15 rfl rfl)
theorem dX4_readsVoter_86 : decode cX4_readsVoter 86 = .ok (.aload_n 0, 1) := dk_42 (dk_at dksX4_readsVoter_3 17 rfl rfl)
theorem dX4_readsVoter_87 : decode cX4_readsVoter 87 = .ok (.invokevirtual 87, 3) := dk_182 0 87 (dk_at dksX4_readsVoter_3 18 rfl rfl)
theorem dX4_readsVoter_90 : decode cX4_readsVoter 90 = .ok (.ifCond .ne 4, 3) := dk_154 0 4 (dk_at dksX4_readsVoter_3 21 rfl rfl)
theorem dX4_readsVoter_93 : decode cX4_readsVoter 93 = .ok (.return_, 1) := dk_177 (dk_at dksX4_readsVoter_4 0 rfl rfl)
theorem dX4_readsVoter_94 : decode cX4_readsVoter 94 = .ok (.aload_n 0, 1) := dk_42 (dk_at dksX4_readsVoter_4 1 rfl rfl)
theorem dX4_readsVoter_95 : decode cX4_readsVoter 95 = .ok (.getfield 23, 3) := dk_180 0 23 (dk_at dksX4_readsVoter_4 2 rfl rfl)
theorem dX4_readsVoter_98 : decode cX4_readsVoter 98 = .ok (.iload 6, 2) := dk_21 6 (dk_at dksX4_readsVoter_4 5 rfl rfl)
theorem dX4_readsVoter_100 : decode cX4_readsVoter 100 = .ok (.iconst 0, 1) := dk_3 (dk_at dksX4_readsVoter_4 7 rfl rfl)
theorem dX4_readsVoter_101 : decode cX4_readsVoter 101 = .ok (.invokestatic 111, 3) := dk_184 0 111 (dk_at dksX4_readsVoter_4 8 rfl rfl)
theorem dX4_readsVoter_104 : decode cX4_readsVoter 104 = .ok (.iload_n 3, 1) := dk_29 (dk_at dksX4_readsVoter_4 11 rfl rfl)
theorem dX4_readsVoter_105 : decode cX4_readsVoter 105 = .ok (.iastore, 1) := dk_79 (dk_at dksX4_readsVoter_4 12 rfl rfl)
theorem dX4_readsVoter_106 : decode cX4_readsVoter 106 = .ok (.aload_n 0, 1) := dk_42 (dk_at dksX4_readsVoter_4 13 rfl rfl)
theorem dX4_readsVoter_107 : decode cX4_readsVoter 107 = .ok (.getfield 23, 3) := dk_180 0 23 (dk_at dksX4_readsVoter_4 14 rfl rfl)
theorem dX4_readsVoter_110 : decode cX4_readsVoter 110 = .ok (.iload 6, 2) := dk_21 6 (dk_at dksX4_readsVoter_4 17 rfl rfl)
theorem dX4_readsVoter_112 : decode cX4_readsVoter 112 = .ok (.iconst 1, 1) := dk_4 (dk_at dksX4_readsVoter_4 19 rfl rfl)
theorem dX4_readsVoter_113 : decode cX4_readsVoter 113 = .ok (.invokestatic 111, 3) := dk_184 0 111 (dk_at dksX4_readsVoter_4 20 rfl rfl)
theorem dX4_readsVoter_116 : decode cX4_readsVoter 116 = .ok (.iload 4, 2) := dk_21 4 (dk_at dksX4_readsVoter_5 0 rfl rfl)
theorem dX4_readsVoter_118 : decode cX4_readsVoter 118 = .ok (.iastore, 1) := dk_79 (dk_at dksX4_readsVoter_5 2 rfl rfl)
theorem dX4_readsVoter_119 : decode cX4_readsVoter 119 = .ok (.aload_n 0, 1) := dk_42 (dk_at dksX4_readsVoter_5 3 rfl rfl)
theorem dX4_readsVoter_120 : decode cX4_readsVoter 120 = .ok (.getfield 23, 3) := dk_180 0 23 (dk_at dksX4_readsVoter_5 4 rfl rfl)
theorem dX4_readsVoter_123 : decode cX4_readsVoter 123 = .ok (.iload 6, 2) := dk_21 6 (dk_at dksX4_readsVoter_5 7 rfl rfl)
theorem dX4_readsVoter_125 : decode cX4_readsVoter 125 = .ok (.iconst 2, 1) := dk_5 (dk_at dksX4_readsVoter_5 9 rfl rfl)
theorem dX4_readsVoter_126 : decode cX4_readsVoter 126 = .ok (.invokestatic 111, 3) := dk_184 0 111 (dk_at dksX4_readsVoter_5 10 rfl rfl)
theorem dX4_readsVoter_129 : decode cX4_readsVoter 129 = .ok (.iload 5, 2) := dk_21 5 (dk_at dksX4_readsVoter_5 13 rfl rfl)
theorem dX4_readsVoter_131 : decode cX4_readsVoter 131 = .ok (.iastore, 1) := dk_79 (dk_at dksX4_readsVoter_5 15 rfl rfl)
theorem dX4_readsVoter_132 : decode cX4_readsVoter 132 = .ok (.aload_n 0, 1) := dk_42 (dk_at dksX4_readsVoter_5 16 rfl rfl)
theorem dX4_readsVoter_133 : decode cX4_readsVoter 133 = .ok (.getfield 23, 3) := dk_180 0 23 (dk_at dksX4_readsVoter_5 17 rfl rfl)
theorem dX4_readsVoter_136 : decode cX4_readsVoter 136 = .ok (.iconst 0, 1) := dk_3 (dk_at dksX4_readsVoter_5 20 rfl rfl)
theorem dX4_readsVoter_137 : decode cX4_readsVoter 137 = .ok (.dup2, 1) := dk_92 (dk_at dksX4_readsVoter_5 21 rfl rfl)
theorem dX4_readsVoter_138 : decode cX4_readsVoter 138 = .ok (.iaload, 1) := dk_46 (dk_at dksX4_readsVoter_5 22 rfl rfl)
theorem dX4_readsVoter_139 : decode cX4_readsVoter 139 = .ok (.iconst 1, 1) := dk_4 (dk_at dksX4_readsVoter_5 23 rfl rfl)
theorem dX4_readsVoter_140 : decode cX4_readsVoter 140 = .ok (.iadd, 1) := dk_96 (dk_at dksX4_readsVoter_6 0 rfl rfl)
theorem dX4_readsVoter_141 : decode cX4_readsVoter 141 = .ok (.iastore, 1) := dk_79 (dk_at dksX4_readsVoter_6 1 rfl rfl)
theorem dX4_readsVoter_142 : decode cX4_readsVoter 142 = .ok (.return_, 1) := dk_177 (dk_at dksX4_readsVoter_6 2 rfl rfl)
abbrev cX4_wrong : ByteArray := prog_12_method_15_code
def yX4_wrong : MethodName := ⟨RX4, "wrong", "(II)V"⟩
def dkwX4_wrong_0 : List UInt8 := [42, 180, 0, 64, 154, 0, 13, 42, 27, 181, 0, 64, 42, 28, 181, 0, 67, 177]
abbrev dktX4_wrong_0 : List UInt8 := dkwX4_wrong_0 ++ []
theorem dksX4_wrong_0 : cX4_wrong.data.toList.drop 0 = dktX4_wrong_0 := by decide +kernel
theorem dX4_wrong_0 : decode cX4_wrong 0 = .ok (.aload_n 0, 1) := dk_42 (dk_at dksX4_wrong_0 0 rfl rfl)
theorem dX4_wrong_1 : decode cX4_wrong 1 = .ok (.getfield 64, 3) := dk_180 0 64 (dk_at dksX4_wrong_0 1 rfl rfl)
theorem dX4_wrong_4 : decode cX4_wrong 4 = .ok (.ifCond .ne 13, 3) := dk_154 0 13 (dk_at dksX4_wrong_0 4 rfl rfl)
theorem dX4_wrong_7 : decode cX4_wrong 7 = .ok (.aload_n 0, 1) := dk_42 (dk_at dksX4_wrong_0 7 rfl rfl)
theorem dX4_wrong_8 : decode cX4_wrong 8 = .ok (.iload_n 1, 1) := dk_27 (dk_at dksX4_wrong_0 8 rfl rfl)
theorem dX4_wrong_9 : decode cX4_wrong 9 = .ok (.putfield 64, 3) := dk_181 0 64 (dk_at dksX4_wrong_0 9 rfl rfl)
theorem dX4_wrong_12 : decode cX4_wrong 12 = .ok (.aload_n 0, 1) := dk_42 (dk_at dksX4_wrong_0 12 rfl rfl)
theorem dX4_wrong_13 : decode cX4_wrong 13 = .ok (.iload_n 2, 1) := dk_28 (dk_at dksX4_wrong_0 13 rfl rfl)
theorem dX4_wrong_14 : decode cX4_wrong 14 = .ok (.putfield 67, 3) := dk_181 0 67 (dk_at dksX4_wrong_0 14 rfl rfl)
theorem dX4_wrong_17 : decode cX4_wrong 17 = .ok (.return_, 1) := dk_177 (dk_at dksX4_wrong_0 17 rfl rfl)
abbrev cX4_name : ByteArray := prog_12_method_22_code
def yX4_name : MethodName := ⟨RX4, "name", "()I"⟩
def dkwX4_name_4 : List UInt8 := [184, 0, 83, 153, 0, 9, 42, 4, 27, 182, 0, 95, 28, 172]
abbrev dktX4_name_4 : List UInt8 := dkwX4_name_4 ++ []
def dkwX4_name_3 : List UInt8 := [181, 0, 57, 167, 255, 203, 42, 180, 0, 57, 27, 159, 0, 17, 42, 42, 180, 0, 57, 182, 0, 60]
abbrev dktX4_name_3 : List UInt8 := dkwX4_name_3 ++ dktX4_name_4
def dkwX4_name_2 : List UInt8 := [28, 104, 42, 42, 180, 0, 57, 182, 0, 60, 96, 16, 97, 100, 4, 96, 61, 42, 89, 180, 0, 57, 4, 96]
abbrev dktX4_name_2 : List UInt8 := dkwX4_name_2 ++ dktX4_name_3
def dkwX4_name_1 : List UInt8 := [180, 0, 57, 182, 0, 60, 184, 0, 83, 153, 0, 45, 42, 180, 0, 57, 27, 100, 8, 162, 0, 35, 16, 27]
abbrev dktX4_name_1 : List UInt8 := dkwX4_name_1 ++ dktX4_name_2
def dkwX4_name_0 : List UInt8 := [42, 182, 0, 87, 154, 0, 5, 3, 172, 42, 182, 0, 70, 87, 42, 180, 0, 57, 60, 3, 61, 42, 42]
abbrev dktX4_name_0 : List UInt8 := dkwX4_name_0 ++ dktX4_name_1
theorem dksX4_name_0 : cX4_name.data.toList.drop 0 = dktX4_name_0 := by decide +kernel
theorem dksX4_name_1 : cX4_name.data.toList.drop 23 = dktX4_name_1 := dk_seg dksX4_name_0 23 rfl rfl
theorem dksX4_name_2 : cX4_name.data.toList.drop 47 = dktX4_name_2 := dk_seg dksX4_name_1 24 rfl rfl
theorem dksX4_name_3 : cX4_name.data.toList.drop 71 = dktX4_name_3 := dk_seg dksX4_name_2 24 rfl rfl
theorem dksX4_name_4 : cX4_name.data.toList.drop 93 = dktX4_name_4 := dk_seg dksX4_name_3 22 rfl rfl
theorem dX4_name_0 : decode cX4_name 0 = .ok (.aload_n 0, 1) := dk_42 (dk_at dksX4_name_0 0 rfl rfl)
theorem dX4_name_1 : decode cX4_name 1 = .ok (.invokevirtual 87, 3) := dk_182 0 87 (dk_at dksX4_name_0 1 rfl rfl)
theorem dX4_name_4 : decode cX4_name 4 = .ok (.ifCond .ne 5, 3) := dk_154 0 5 (dk_at dksX4_name_0 4 rfl rfl)
theorem dX4_name_7 : decode cX4_name 7 = .ok (.iconst 0, 1) := dk_3 (dk_at dksX4_name_0 7 rfl rfl)
theorem dX4_name_8 : decode cX4_name 8 = .ok (.ireturn, 1) := dk_172 (dk_at dksX4_name_0 8 rfl rfl)
theorem dX4_name_9 : decode cX4_name 9 = .ok (.aload_n 0, 1) := dk_42 (dk_at dksX4_name_0 9 rfl rfl)
theorem dX4_name_10 : decode cX4_name 10 = .ok (.invokevirtual 70, 3) := dk_182 0 70 (dk_at dksX4_name_0 10 rfl rfl)
theorem dX4_name_13 : decode cX4_name 13 = .ok (.pop, 1) := dk_87 (dk_at dksX4_name_0 13 rfl rfl)
theorem dX4_name_14 : decode cX4_name 14 = .ok (.aload_n 0, 1) := dk_42 (dk_at dksX4_name_0 14 rfl rfl)
theorem dX4_name_15 : decode cX4_name 15 = .ok (.getfield 57, 3) := dk_180 0 57 (dk_at dksX4_name_0 15 rfl rfl)
theorem dX4_name_18 : decode cX4_name 18 = .ok (.istore_n 1, 1) := dk_60 (dk_at dksX4_name_0 18 rfl rfl)
theorem dX4_name_19 : decode cX4_name 19 = .ok (.iconst 0, 1) := dk_3 (dk_at dksX4_name_0 19 rfl rfl)
theorem dX4_name_20 : decode cX4_name 20 = .ok (.istore_n 2, 1) := dk_61 (dk_at dksX4_name_0 20 rfl rfl)
theorem dX4_name_21 : decode cX4_name 21 = .ok (.aload_n 0, 1) := dk_42 (dk_at dksX4_name_0 21 rfl rfl)
theorem dX4_name_22 : decode cX4_name 22 = .ok (.aload_n 0, 1) := dk_42 (dk_at dksX4_name_0 22 rfl rfl)
theorem dX4_name_23 : decode cX4_name 23 = .ok (.getfield 57, 3) := dk_180 0 57 (dk_at dksX4_name_1 0 rfl rfl)
theorem dX4_name_26 : decode cX4_name 26 = .ok (.invokevirtual 60, 3) := dk_182 0 60 (dk_at dksX4_name_1 3 rfl rfl)
theorem dX4_name_29 : decode cX4_name 29 = .ok (.invokestatic 83, 3) := dk_184 0 83 (dk_at dksX4_name_1 6 rfl rfl)
theorem dX4_name_32 : decode cX4_name 32 = .ok (.ifCond .eq 45, 3) := dk_153 0 45 (dk_at dksX4_name_1 9 rfl rfl)
theorem dX4_name_35 : decode cX4_name 35 = .ok (.aload_n 0, 1) := dk_42 (dk_at dksX4_name_1 12 rfl rfl)
theorem dX4_name_36 : decode cX4_name 36 = .ok (.getfield 57, 3) := dk_180 0 57 (dk_at dksX4_name_1 13 rfl rfl)
theorem dX4_name_39 : decode cX4_name 39 = .ok (.iload_n 1, 1) := dk_27 (dk_at dksX4_name_1 16 rfl rfl)
theorem dX4_name_40 : decode cX4_name 40 = .ok (.isub, 1) := dk_100 (dk_at dksX4_name_1 17 rfl rfl)
theorem dX4_name_41 : decode cX4_name 41 = .ok (.iconst 5, 1) := dk_8 (dk_at dksX4_name_1 18 rfl rfl)
theorem dX4_name_42 : decode cX4_name 42 = .ok (.if_icmp .ge 35, 3) := dk_162 0 35 (dk_at dksX4_name_1 19 rfl rfl)
theorem dX4_name_45 : decode cX4_name 45 = .ok (.bipush 27, 2) := dk_16 27 (dk_at dksX4_name_1 22 rfl rfl)
theorem dX4_name_47 : decode cX4_name 47 = .ok (.iload_n 2, 1) := dk_28 (dk_at dksX4_name_2 0 rfl rfl)
theorem dX4_name_48 : decode cX4_name 48 = .ok (.imul, 1) := dk_104 (dk_at dksX4_name_2 1 rfl rfl)
theorem dX4_name_49 : decode cX4_name 49 = .ok (.aload_n 0, 1) := dk_42 (dk_at dksX4_name_2 2 rfl rfl)
theorem dX4_name_50 : decode cX4_name 50 = .ok (.aload_n 0, 1) := dk_42 (dk_at dksX4_name_2 3 rfl rfl)
theorem dX4_name_51 : decode cX4_name 51 = .ok (.getfield 57, 3) := dk_180 0 57 (dk_at dksX4_name_2 4 rfl rfl)
theorem dX4_name_54 : decode cX4_name 54 = .ok (.invokevirtual 60, 3) := dk_182 0 60 (dk_at dksX4_name_2 7 rfl rfl)
theorem dX4_name_57 : decode cX4_name 57 = .ok (.iadd, 1) := dk_96 (dk_at dksX4_name_2 10 rfl rfl)
theorem dX4_name_58 : decode cX4_name 58 = .ok (.bipush 97, 2) := dk_16 97 (dk_at dksX4_name_2 11 rfl rfl)
theorem dX4_name_60 : decode cX4_name 60 = .ok (.isub, 1) := dk_100 (dk_at dksX4_name_2 13 rfl rfl)
theorem dX4_name_61 : decode cX4_name 61 = .ok (.iconst 1, 1) := dk_4 (dk_at dksX4_name_2 14 rfl rfl)
theorem dX4_name_62 : decode cX4_name 62 = .ok (.iadd, 1) := dk_96 (dk_at dksX4_name_2 15 rfl rfl)
theorem dX4_name_63 : decode cX4_name 63 = .ok (.istore_n 2, 1) := dk_61 (dk_at dksX4_name_2 16 rfl rfl)
theorem dX4_name_64 : decode cX4_name 64 = .ok (.aload_n 0, 1) := dk_42 (dk_at dksX4_name_2 17 rfl rfl)
theorem dX4_name_65 : decode cX4_name 65 = .ok (.dup, 1) := dk_89 (dk_at dksX4_name_2 18 rfl rfl)
theorem dX4_name_66 : decode cX4_name 66 = .ok (.getfield 57, 3) := dk_180 0 57 (dk_at dksX4_name_2 19 rfl rfl)
theorem dX4_name_69 : decode cX4_name 69 = .ok (.iconst 1, 1) := dk_4 (dk_at dksX4_name_2 22 rfl rfl)
theorem dX4_name_70 : decode cX4_name 70 = .ok (.iadd, 1) := dk_96 (dk_at dksX4_name_2 23 rfl rfl)
theorem dX4_name_71 : decode cX4_name 71 = .ok (.putfield 57, 3) := dk_181 0 57 (dk_at dksX4_name_3 0 rfl rfl)
theorem dX4_name_74 : decode cX4_name 74 = .ok (.goto (-53), 3) := dk_167 255 203 (dk_at dksX4_name_3 3 rfl rfl)
theorem dX4_name_77 : decode cX4_name 77 = .ok (.aload_n 0, 1) := dk_42 (dk_at dksX4_name_3 6 rfl rfl)
theorem dX4_name_78 : decode cX4_name 78 = .ok (.getfield 57, 3) := dk_180 0 57 (dk_at dksX4_name_3 7 rfl rfl)
theorem dX4_name_81 : decode cX4_name 81 = .ok (.iload_n 1, 1) := dk_27 (dk_at dksX4_name_3 10 rfl rfl)
theorem dX4_name_82 : decode cX4_name 82 = .ok (.if_icmp .eq 17, 3) := dk_159 0 17 (dk_at dksX4_name_3 11 rfl rfl)
theorem dX4_name_85 : decode cX4_name 85 = .ok (.aload_n 0, 1) := dk_42 (dk_at dksX4_name_3 14 rfl rfl)
theorem dX4_name_86 : decode cX4_name 86 = .ok (.aload_n 0, 1) := dk_42 (dk_at dksX4_name_3 15 rfl rfl)
theorem dX4_name_87 : decode cX4_name 87 = .ok (.getfield 57, 3) := dk_180 0 57 (dk_at dksX4_name_3 16 rfl rfl)
theorem dX4_name_90 : decode cX4_name 90 = .ok (.invokevirtual 60, 3) := dk_182 0 60 (dk_at dksX4_name_3 19 rfl rfl)
theorem dX4_name_93 : decode cX4_name 93 = .ok (.invokestatic 83, 3) := dk_184 0 83 (dk_at dksX4_name_4 0 rfl rfl)
theorem dX4_name_96 : decode cX4_name 96 = .ok (.ifCond .eq 9, 3) := dk_153 0 9 (dk_at dksX4_name_4 3 rfl rfl)
theorem dX4_name_99 : decode cX4_name 99 = .ok (.aload_n 0, 1) := dk_42 (dk_at dksX4_name_4 6 rfl rfl)
theorem dX4_name_100 : decode cX4_name 100 = .ok (.iconst 1, 1) := dk_4 (dk_at dksX4_name_4 7 rfl rfl)
theorem dX4_name_101 : decode cX4_name 101 = .ok (.iload_n 1, 1) := dk_27 (dk_at dksX4_name_4 8 rfl rfl)
theorem dX4_name_102 : decode cX4_name 102 = .ok (.invokevirtual 95, 3) := dk_182 0 95 (dk_at dksX4_name_4 9 rfl rfl)
theorem dX4_name_105 : decode cX4_name 105 = .ok (.iload_n 2, 1) := dk_28 (dk_at dksX4_name_4 12 rfl rfl)
theorem dX4_name_106 : decode cX4_name 106 = .ok (.ireturn, 1) := dk_172 (dk_at dksX4_name_4 13 rfl rfl)
abbrev cX4_number : ByteArray := prog_12_method_21_code
def yX4_number : MethodName := ⟨RX4, "number", "(II)I"⟩
def dkwX4_number_4 : List UInt8 := [28, 133, 184, 0, 107, 154, 0, 9, 42, 5, 29, 182, 0, 95, 21, 4, 172]
abbrev dktX4_number_4 : List UInt8 := dkwX4_number_4 ++ []
def dkwX4_number_3 : List UInt8 := [100, 184, 0, 103, 54, 4, 42, 89, 180, 0, 57, 4, 96, 181, 0, 57, 167, 255, 208, 21, 4, 133, 27, 133]
abbrev dktX4_number_3 : List UInt8 := dkwX4_number_3 ++ dktX4_number_4
def dkwX4_number_2 : List UInt8 := [184, 0, 99, 153, 0, 40, 18, 102, 16, 10, 21, 4, 104, 42, 42, 180, 0, 57, 182, 0, 60, 96, 16, 48]
abbrev dktX4_number_2 : List UInt8 := dkwX4_number_2 ++ dktX4_number_3
def dkwX4_number_1 : List UInt8 := [180, 0, 57, 182, 0, 95, 3, 172, 42, 180, 0, 57, 62, 3, 54, 4, 42, 42, 180, 0, 57, 182, 0, 60]
abbrev dktX4_number_1 : List UInt8 := dkwX4_number_1 ++ dktX4_number_2
def dkwX4_number_0 : List UInt8 := [42, 182, 0, 87, 154, 0, 5, 3, 172, 42, 182, 0, 70, 184, 0, 99, 154, 0, 14, 42, 4, 42]
abbrev dktX4_number_0 : List UInt8 := dkwX4_number_0 ++ dktX4_number_1
theorem dksX4_number_0 : cX4_number.data.toList.drop 0 = dktX4_number_0 := by decide +kernel
theorem dksX4_number_1 : cX4_number.data.toList.drop 22 = dktX4_number_1 := dk_seg dksX4_number_0 22 rfl rfl
theorem dksX4_number_2 : cX4_number.data.toList.drop 46 = dktX4_number_2 := dk_seg dksX4_number_1 24 rfl rfl
theorem dksX4_number_3 : cX4_number.data.toList.drop 70 = dktX4_number_3 := dk_seg dksX4_number_2 24 rfl rfl
theorem dksX4_number_4 : cX4_number.data.toList.drop 94 = dktX4_number_4 := dk_seg dksX4_number_3 24 rfl rfl
theorem dX4_number_0 : decode cX4_number 0 = .ok (.aload_n 0, 1) := dk_42 (dk_at dksX4_number_0 0 rfl rfl)
theorem dX4_number_1 : decode cX4_number 1 = .ok (.invokevirtual 87, 3) := dk_182 0 87 (dk_at dksX4_number_0 1 rfl rfl)
theorem dX4_number_4 : decode cX4_number 4 = .ok (.ifCond .ne 5, 3) := dk_154 0 5 (dk_at dksX4_number_0 4 rfl rfl)
theorem dX4_number_7 : decode cX4_number 7 = .ok (.iconst 0, 1) := dk_3 (dk_at dksX4_number_0 7 rfl rfl)
theorem dX4_number_8 : decode cX4_number 8 = .ok (.ireturn, 1) := dk_172 (dk_at dksX4_number_0 8 rfl rfl)
theorem dX4_number_9 : decode cX4_number 9 = .ok (.aload_n 0, 1) := dk_42 (dk_at dksX4_number_0 9 rfl rfl)
theorem dX4_number_10 : decode cX4_number 10 = .ok (.invokevirtual 70, 3) := dk_182 0 70 (dk_at dksX4_number_0 10 rfl rfl)
theorem dX4_number_13 : decode cX4_number 13 = .ok (.invokestatic 99, 3) := dk_184 0 99 (dk_at dksX4_number_0 13 rfl rfl)
theorem dX4_number_16 : decode cX4_number 16 = .ok (.ifCond .ne 14, 3) := dk_154 0 14 (dk_at dksX4_number_0 16 rfl rfl)
theorem dX4_number_19 : decode cX4_number 19 = .ok (.aload_n 0, 1) := dk_42 (dk_at dksX4_number_0 19 rfl rfl)
theorem dX4_number_20 : decode cX4_number 20 = .ok (.iconst 1, 1) := dk_4 (dk_at dksX4_number_0 20 rfl rfl)
theorem dX4_number_21 : decode cX4_number 21 = .ok (.aload_n 0, 1) := dk_42 (dk_at dksX4_number_0 21 rfl rfl)
theorem dX4_number_22 : decode cX4_number 22 = .ok (.getfield 57, 3) := dk_180 0 57 (dk_at dksX4_number_1 0 rfl rfl)
theorem dX4_number_25 : decode cX4_number 25 = .ok (.invokevirtual 95, 3) := dk_182 0 95 (dk_at dksX4_number_1 3 rfl rfl)
theorem dX4_number_28 : decode cX4_number 28 = .ok (.iconst 0, 1) := dk_3 (dk_at dksX4_number_1 6 rfl rfl)
theorem dX4_number_29 : decode cX4_number 29 = .ok (.ireturn, 1) := dk_172 (dk_at dksX4_number_1 7 rfl rfl)
theorem dX4_number_30 : decode cX4_number 30 = .ok (.aload_n 0, 1) := dk_42 (dk_at dksX4_number_1 8 rfl rfl)
theorem dX4_number_31 : decode cX4_number 31 = .ok (.getfield 57, 3) := dk_180 0 57 (dk_at dksX4_number_1 9 rfl rfl)
theorem dX4_number_34 : decode cX4_number 34 = .ok (.istore_n 3, 1) := dk_62 (dk_at dksX4_number_1 12 rfl rfl)
theorem dX4_number_35 : decode cX4_number 35 = .ok (.iconst 0, 1) := dk_3 (dk_at dksX4_number_1 13 rfl rfl)
theorem dX4_number_36 : decode cX4_number 36 = .ok (.istore 4, 2) := dk_54 4 (dk_at dksX4_number_1 14 rfl rfl)
theorem dX4_number_38 : decode cX4_number 38 = .ok (.aload_n 0, 1) := dk_42 (dk_at dksX4_number_1 16 rfl rfl)
theorem dX4_number_39 : decode cX4_number 39 = .ok (.aload_n 0, 1) := dk_42 (dk_at dksX4_number_1 17 rfl rfl)
theorem dX4_number_40 : decode cX4_number 40 = .ok (.getfield 57, 3) := dk_180 0 57 (dk_at dksX4_number_1 18 rfl rfl)
theorem dX4_number_43 : decode cX4_number 43 = .ok (.invokevirtual 60, 3) := dk_182 0 60 (dk_at dksX4_number_1 21 rfl rfl)
theorem dX4_number_46 : decode cX4_number 46 = .ok (.invokestatic 99, 3) := dk_184 0 99 (dk_at dksX4_number_2 0 rfl rfl)
theorem dX4_number_49 : decode cX4_number 49 = .ok (.ifCond .eq 40, 3) := dk_153 0 40 (dk_at dksX4_number_2 3 rfl rfl)
theorem dX4_number_52 : decode cX4_number 52 = .ok (.ldc 102, 2) := dk_18 102 (dk_at dksX4_number_2 6 rfl rfl)
theorem dX4_number_54 : decode cX4_number 54 = .ok (.bipush 10, 2) := dk_16 10 (dk_at dksX4_number_2 8 rfl rfl)
theorem dX4_number_56 : decode cX4_number 56 = .ok (.iload 4, 2) := dk_21 4 (dk_at dksX4_number_2 10 rfl rfl)
theorem dX4_number_58 : decode cX4_number 58 = .ok (.imul, 1) := dk_104 (dk_at dksX4_number_2 12 rfl rfl)
theorem dX4_number_59 : decode cX4_number 59 = .ok (.aload_n 0, 1) := dk_42 (dk_at dksX4_number_2 13 rfl rfl)
theorem dX4_number_60 : decode cX4_number 60 = .ok (.aload_n 0, 1) := dk_42 (dk_at dksX4_number_2 14 rfl rfl)
theorem dX4_number_61 : decode cX4_number 61 = .ok (.getfield 57, 3) := dk_180 0 57 (dk_at dksX4_number_2 15 rfl rfl)
theorem dX4_number_64 : decode cX4_number 64 = .ok (.invokevirtual 60, 3) := dk_182 0 60 (dk_at dksX4_number_2 18 rfl rfl)
theorem dX4_number_67 : decode cX4_number 67 = .ok (.iadd, 1) := dk_96 (dk_at dksX4_number_2 21 rfl rfl)
theorem dX4_number_68 : decode cX4_number 68 = .ok (.bipush 48, 2) := dk_16 48 (dk_at dksX4_number_2 22 rfl rfl)
theorem dX4_number_70 : decode cX4_number 70 = .ok (.isub, 1) := dk_100 (dk_at dksX4_number_3 0 rfl rfl)
theorem dX4_number_71 : decode cX4_number 71 = .ok (.invokestatic 103, 3) := dk_184 0 103 (dk_at dksX4_number_3 1 rfl rfl)
theorem dX4_number_74 : decode cX4_number 74 = .ok (.istore 4, 2) := dk_54 4 (dk_at dksX4_number_3 4 rfl rfl)
theorem dX4_number_76 : decode cX4_number 76 = .ok (.aload_n 0, 1) := dk_42 (dk_at dksX4_number_3 6 rfl rfl)
theorem dX4_number_77 : decode cX4_number 77 = .ok (.dup, 1) := dk_89 (dk_at dksX4_number_3 7 rfl rfl)
theorem dX4_number_78 : decode cX4_number 78 = .ok (.getfield 57, 3) := dk_180 0 57 (dk_at dksX4_number_3 8 rfl rfl)
theorem dX4_number_81 : decode cX4_number 81 = .ok (.iconst 1, 1) := dk_4 (dk_at dksX4_number_3 11 rfl rfl)
theorem dX4_number_82 : decode cX4_number 82 = .ok (.iadd, 1) := dk_96 (dk_at dksX4_number_3 12 rfl rfl)
theorem dX4_number_83 : decode cX4_number 83 = .ok (.putfield 57, 3) := dk_181 0 57 (dk_at dksX4_number_3 13 rfl rfl)
theorem dX4_number_86 : decode cX4_number 86 = .ok (.goto (-48), 3) := dk_167 255 208 (dk_at dksX4_number_3 16 rfl rfl)
theorem dX4_number_89 : decode cX4_number 89 = .ok (.iload 4, 2) := dk_21 4 (dk_at dksX4_number_3 19 rfl rfl)
theorem dX4_number_91 : decode cX4_number 91 = .ok (.i2l, 1) := dk_133 (dk_at dksX4_number_3 21 rfl rfl)
theorem dX4_number_92 : decode cX4_number 92 = .ok (.iload_n 1, 1) := dk_27 (dk_at dksX4_number_3 22 rfl rfl)
theorem dX4_number_93 : decode cX4_number 93 = .ok (.i2l, 1) := dk_133 (dk_at dksX4_number_3 23 rfl rfl)
theorem dX4_number_94 : decode cX4_number 94 = .ok (.iload_n 2, 1) := dk_28 (dk_at dksX4_number_4 0 rfl rfl)
theorem dX4_number_95 : decode cX4_number 95 = .ok (.i2l, 1) := dk_133 (dk_at dksX4_number_4 1 rfl rfl)
theorem dX4_number_96 : decode cX4_number 96 = .ok (.invokestatic 107, 3) := dk_184 0 107 (dk_at dksX4_number_4 2 rfl rfl)
theorem dX4_number_99 : decode cX4_number 99 = .ok (.ifCond .ne 9, 3) := dk_154 0 9 (dk_at dksX4_number_4 5 rfl rfl)
theorem dX4_number_102 : decode cX4_number 102 = .ok (.aload_n 0, 1) := dk_42 (dk_at dksX4_number_4 8 rfl rfl)
theorem dX4_number_103 : decode cX4_number 103 = .ok (.iconst 2, 1) := dk_5 (dk_at dksX4_number_4 9 rfl rfl)
theorem dX4_number_104 : decode cX4_number 104 = .ok (.iload_n 3, 1) := dk_29 (dk_at dksX4_number_4 10 rfl rfl)
theorem dX4_number_105 : decode cX4_number 105 = .ok (.invokevirtual 95, 3) := dk_182 0 95 (dk_at dksX4_number_4 11 rfl rfl)
theorem dX4_number_108 : decode cX4_number 108 = .ok (.iload 4, 2) := dk_21 4 (dk_at dksX4_number_4 14 rfl rfl)
theorem dX4_number_110 : decode cX4_number 110 = .ok (.ireturn, 1) := dk_172 (dk_at dksX4_number_4 16 rfl rfl)
abbrev cX4_isDigit : ByteArray := prog_12_method_17_code
def yX4_isDigit : MethodName := ⟨RX4, "isDigit", "(I)Z"⟩
def dkwX4_isDigit_0 : List UInt8 := [26, 16, 48, 161, 0, 13, 26, 16, 57, 163, 0, 7, 4, 167, 0, 4, 3, 172]
abbrev dktX4_isDigit_0 : List UInt8 := dkwX4_isDigit_0 ++ []
theorem dksX4_isDigit_0 : cX4_isDigit.data.toList.drop 0 = dktX4_isDigit_0 := by decide +kernel
theorem dX4_isDigit_0 : decode cX4_isDigit 0 = .ok (.iload_n 0, 1) := dk_26 (dk_at dksX4_isDigit_0 0 rfl rfl)
theorem dX4_isDigit_1 : decode cX4_isDigit 1 = .ok (.bipush 48, 2) := dk_16 48 (dk_at dksX4_isDigit_0 1 rfl rfl)
theorem dX4_isDigit_3 : decode cX4_isDigit 3 = .ok (.if_icmp .lt 13, 3) := dk_161 0 13 (dk_at dksX4_isDigit_0 3 rfl rfl)
theorem dX4_isDigit_6 : decode cX4_isDigit 6 = .ok (.iload_n 0, 1) := dk_26 (dk_at dksX4_isDigit_0 6 rfl rfl)
theorem dX4_isDigit_7 : decode cX4_isDigit 7 = .ok (.bipush 57, 2) := dk_16 57 (dk_at dksX4_isDigit_0 7 rfl rfl)
theorem dX4_isDigit_9 : decode cX4_isDigit 9 = .ok (.if_icmp .gt 7, 3) := dk_163 0 7 (dk_at dksX4_isDigit_0 9 rfl rfl)
theorem dX4_isDigit_12 : decode cX4_isDigit 12 = .ok (.iconst 1, 1) := dk_4 (dk_at dksX4_isDigit_0 12 rfl rfl)
theorem dX4_isDigit_13 : decode cX4_isDigit 13 = .ok (.goto 4, 3) := dk_167 0 4 (dk_at dksX4_isDigit_0 13 rfl rfl)
theorem dX4_isDigit_16 : decode cX4_isDigit 16 = .ok (.iconst 0, 1) := dk_3 (dk_at dksX4_isDigit_0 16 rfl rfl)
theorem dX4_isDigit_17 : decode cX4_isDigit 17 = .ok (.ireturn, 1) := dk_172 (dk_at dksX4_isDigit_0 17 rfl rfl)
abbrev cX4_less : ByteArray := prog_12_method_6_code
def yX4_less : MethodName := ⟨RX4, "less", "(II)I"⟩
def dkwX4_less_0 : List UInt8 := [26, 27, 162, 0, 7, 26, 167, 0, 4, 27, 172]
abbrev dktX4_less_0 : List UInt8 := dkwX4_less_0 ++ []
theorem dksX4_less_0 : cX4_less.data.toList.drop 0 = dktX4_less_0 := by decide +kernel
theorem dX4_less_0 : decode cX4_less 0 = .ok (.iload_n 0, 1) := dk_26 (dk_at dksX4_less_0 0 rfl rfl)
theorem dX4_less_1 : decode cX4_less 1 = .ok (.iload_n 1, 1) := dk_27 (dk_at dksX4_less_0 1 rfl rfl)
theorem dX4_less_2 : decode cX4_less 2 = .ok (.if_icmp .ge 7, 3) := dk_162 0 7 (dk_at dksX4_less_0 2 rfl rfl)
theorem dX4_less_5 : decode cX4_less 5 = .ok (.iload_n 0, 1) := dk_26 (dk_at dksX4_less_0 5 rfl rfl)
theorem dX4_less_6 : decode cX4_less 6 = .ok (.goto 4, 3) := dk_167 0 4 (dk_at dksX4_less_0 6 rfl rfl)
theorem dX4_less_9 : decode cX4_less 9 = .ok (.iload_n 1, 1) := dk_27 (dk_at dksX4_less_0 9 rfl rfl)
theorem dX4_less_10 : decode cX4_less 10 = .ok (.ireturn, 1) := dk_172 (dk_at dksX4_less_0 10 rfl rfl)
abbrev cX4_voterOf : ByteArray := prog_12_method_23_code
def yX4_voterOf : MethodName := ⟨RX4, "voterOf", "([III)I"⟩
def dkwX4_voterOf_1 : List UInt8 := [184, 0, 111, 46, 28, 160, 0, 5, 29, 172, 132, 3, 1, 167, 255, 222, 2, 172]
abbrev dktX4_voterOf_1 : List UInt8 := dkwX4_voterOf_1 ++ []
def dkwX4_voterOf_0 : List UInt8 := [3, 62, 29, 42, 3, 46, 162, 0, 33, 42, 29, 3, 184, 0, 111, 46, 27, 160, 0, 16, 42, 29, 4]
abbrev dktX4_voterOf_0 : List UInt8 := dkwX4_voterOf_0 ++ dktX4_voterOf_1
theorem dksX4_voterOf_0 : cX4_voterOf.data.toList.drop 0 = dktX4_voterOf_0 := by decide +kernel
theorem dksX4_voterOf_1 : cX4_voterOf.data.toList.drop 23 = dktX4_voterOf_1 := dk_seg dksX4_voterOf_0 23 rfl rfl
theorem dX4_voterOf_0 : decode cX4_voterOf 0 = .ok (.iconst 0, 1) := dk_3 (dk_at dksX4_voterOf_0 0 rfl rfl)
theorem dX4_voterOf_1 : decode cX4_voterOf 1 = .ok (.istore_n 3, 1) := dk_62 (dk_at dksX4_voterOf_0 1 rfl rfl)
theorem dX4_voterOf_2 : decode cX4_voterOf 2 = .ok (.iload_n 3, 1) := dk_29 (dk_at dksX4_voterOf_0 2 rfl rfl)
theorem dX4_voterOf_3 : decode cX4_voterOf 3 = .ok (.aload_n 0, 1) := dk_42 (dk_at dksX4_voterOf_0 3 rfl rfl)
theorem dX4_voterOf_4 : decode cX4_voterOf 4 = .ok (.iconst 0, 1) := dk_3 (dk_at dksX4_voterOf_0 4 rfl rfl)
theorem dX4_voterOf_5 : decode cX4_voterOf 5 = .ok (.iaload, 1) := dk_46 (dk_at dksX4_voterOf_0 5 rfl rfl)
theorem dX4_voterOf_6 : decode cX4_voterOf 6 = .ok (.if_icmp .ge 33, 3) := dk_162 0 33 (dk_at dksX4_voterOf_0 6 rfl rfl)
theorem dX4_voterOf_9 : decode cX4_voterOf 9 = .ok (.aload_n 0, 1) := dk_42 (dk_at dksX4_voterOf_0 9 rfl rfl)
theorem dX4_voterOf_10 : decode cX4_voterOf 10 = .ok (.iload_n 3, 1) := dk_29 (dk_at dksX4_voterOf_0 10 rfl rfl)
theorem dX4_voterOf_11 : decode cX4_voterOf 11 = .ok (.iconst 0, 1) := dk_3 (dk_at dksX4_voterOf_0 11 rfl rfl)
theorem dX4_voterOf_12 : decode cX4_voterOf 12 = .ok (.invokestatic 111, 3) := dk_184 0 111 (dk_at dksX4_voterOf_0 12 rfl rfl)
theorem dX4_voterOf_15 : decode cX4_voterOf 15 = .ok (.iaload, 1) := dk_46 (dk_at dksX4_voterOf_0 15 rfl rfl)
theorem dX4_voterOf_16 : decode cX4_voterOf 16 = .ok (.iload_n 1, 1) := dk_27 (dk_at dksX4_voterOf_0 16 rfl rfl)
theorem dX4_voterOf_17 : decode cX4_voterOf 17 = .ok (.if_icmp .ne 16, 3) := dk_160 0 16 (dk_at dksX4_voterOf_0 17 rfl rfl)
theorem dX4_voterOf_20 : decode cX4_voterOf 20 = .ok (.aload_n 0, 1) := dk_42 (dk_at dksX4_voterOf_0 20 rfl rfl)
theorem dX4_voterOf_21 : decode cX4_voterOf 21 = .ok (.iload_n 3, 1) := dk_29 (dk_at dksX4_voterOf_0 21 rfl rfl)
theorem dX4_voterOf_22 : decode cX4_voterOf 22 = .ok (.iconst 1, 1) := dk_4 (dk_at dksX4_voterOf_0 22 rfl rfl)
theorem dX4_voterOf_23 : decode cX4_voterOf 23 = .ok (.invokestatic 111, 3) := dk_184 0 111 (dk_at dksX4_voterOf_1 0 rfl rfl)
theorem dX4_voterOf_26 : decode cX4_voterOf 26 = .ok (.iaload, 1) := dk_46 (dk_at dksX4_voterOf_1 3 rfl rfl)
theorem dX4_voterOf_27 : decode cX4_voterOf 27 = .ok (.iload_n 2, 1) := dk_28 (dk_at dksX4_voterOf_1 4 rfl rfl)
theorem dX4_voterOf_28 : decode cX4_voterOf 28 = .ok (.if_icmp .ne 5, 3) := dk_160 0 5 (dk_at dksX4_voterOf_1 5 rfl rfl)
theorem dX4_voterOf_31 : decode cX4_voterOf 31 = .ok (.iload_n 3, 1) := dk_29 (dk_at dksX4_voterOf_1 8 rfl rfl)
theorem dX4_voterOf_32 : decode cX4_voterOf 32 = .ok (.ireturn, 1) := dk_172 (dk_at dksX4_voterOf_1 9 rfl rfl)
theorem dX4_voterOf_33 : decode cX4_voterOf 33 = .ok (.iinc 3 1, 3) := dk_132 3 1 (dk_at dksX4_voterOf_1 10 rfl rfl)
theorem dX4_voterOf_36 : decode cX4_voterOf 36 = .ok (.goto (-34), 3) := dk_167 255 222 (dk_at dksX4_voterOf_1 13 rfl rfl)
theorem dX4_voterOf_39 : decode cX4_voterOf 39 = .ok (.iconst (-1), 1) := dk_2 (dk_at dksX4_voterOf_1 16 rfl rfl)
theorem dX4_voterOf_40 : decode cX4_voterOf 40 = .ok (.ireturn, 1) := dk_172 (dk_at dksX4_voterOf_1 17 rfl rfl)
abbrev cX4_voterAt : ByteArray := prog_12_method_10_code
def yX4_voterAt : MethodName := ⟨RX4, "voterAt", "(II)I"⟩
def dkwX4_voterAt_0 : List UInt8 := [16, 9, 6, 26, 104, 96, 27, 96, 172]
abbrev dktX4_voterAt_0 : List UInt8 := dkwX4_voterAt_0 ++ []
theorem dksX4_voterAt_0 : cX4_voterAt.data.toList.drop 0 = dktX4_voterAt_0 := by decide +kernel
theorem dX4_voterAt_0 : decode cX4_voterAt 0 = .ok (.bipush 9, 2) := dk_16 9 (dk_at dksX4_voterAt_0 0 rfl rfl)
theorem dX4_voterAt_2 : decode cX4_voterAt 2 = .ok (.iconst 3, 1) := dk_6 (dk_at dksX4_voterAt_0 2 rfl rfl)
theorem dX4_voterAt_3 : decode cX4_voterAt 3 = .ok (.iload_n 0, 1) := dk_26 (dk_at dksX4_voterAt_0 3 rfl rfl)
theorem dX4_voterAt_4 : decode cX4_voterAt 4 = .ok (.imul, 1) := dk_104 (dk_at dksX4_voterAt_0 4 rfl rfl)
theorem dX4_voterAt_5 : decode cX4_voterAt 5 = .ok (.iadd, 1) := dk_96 (dk_at dksX4_voterAt_0 5 rfl rfl)
theorem dX4_voterAt_6 : decode cX4_voterAt 6 = .ok (.iload_n 1, 1) := dk_27 (dk_at dksX4_voterAt_0 6 rfl rfl)
theorem dX4_voterAt_7 : decode cX4_voterAt 7 = .ok (.iadd, 1) := dk_96 (dk_at dksX4_voterAt_0 7 rfl rfl)
theorem dX4_voterAt_8 : decode cX4_voterAt 8 = .ok (.ireturn, 1) := dk_172 (dk_at dksX4_voterAt_0 8 rfl rfl)
abbrev cX4_readsSign : ByteArray := prog_12_method_25_code
def yX4_readsSign : MethodName := ⟨RX4, "readsSign", "(I)V"⟩
def dkwX4_readsSign_5 : List UInt8 := [21, 5, 6, 184, 0, 124, 21, 4, 79, 42, 180, 0, 23, 5, 92, 46, 4, 96, 79, 177]
abbrev dktX4_readsSign_5 : List UInt8 := dkwX4_readsSign_5 ++ []
def dkwX4_readsSign_4 : List UInt8 := [42, 180, 0, 23, 21, 5, 5, 184, 0, 124, 42, 180, 0, 23, 4, 46, 4, 100, 79, 42, 180, 0, 23]
abbrev dktX4_readsSign_4 : List UInt8 := dkwX4_readsSign_4 ++ dktX4_readsSign_5
def dkwX4_readsSign_3 : List UInt8 := [42, 180, 0, 23, 21, 5, 3, 184, 0, 124, 28, 79, 42, 180, 0, 23, 21, 5, 4, 184, 0, 124, 29, 79]
abbrev dktX4_readsSign_3 : List UInt8 := dkwX4_readsSign_3 ++ dktX4_readsSign_4
def dkwX4_readsSign_2 : List UInt8 := [17, 3, 231, 182, 0, 117, 54, 4, 42, 180, 0, 23, 5, 46, 54, 5, 42, 182, 0, 87, 154, 0, 4, 177]
abbrev dktX4_readsSign_2 : List UInt8 := dkwX4_readsSign_2 ++ dktX4_readsSign_3
def dkwX4_readsSign_1 : List UInt8 := [160, 0, 9, 42, 7, 27, 182, 0, 95, 42, 182, 0, 114, 61, 42, 3, 16, 99, 182, 0, 117, 62, 42, 3]
abbrev dktX4_readsSign_1 : List UInt8 := dkwX4_readsSign_1 ++ dktX4_readsSign_2
def dkwX4_readsSign_0 : List UInt8 := [42, 180, 0, 23, 4, 46, 154, 0, 9, 42, 4, 27, 182, 0, 95, 42, 180, 0, 23, 5, 46, 16, 40]
abbrev dktX4_readsSign_0 : List UInt8 := dkwX4_readsSign_0 ++ dktX4_readsSign_1
theorem dksX4_readsSign_0 : cX4_readsSign.data.toList.drop 0 = dktX4_readsSign_0 := by decide +kernel
theorem dksX4_readsSign_1 : cX4_readsSign.data.toList.drop 23 = dktX4_readsSign_1 := dk_seg dksX4_readsSign_0 23 rfl rfl
theorem dksX4_readsSign_2 : cX4_readsSign.data.toList.drop 47 = dktX4_readsSign_2 := dk_seg dksX4_readsSign_1 24 rfl rfl
theorem dksX4_readsSign_3 : cX4_readsSign.data.toList.drop 71 = dktX4_readsSign_3 := dk_seg dksX4_readsSign_2 24 rfl rfl
theorem dksX4_readsSign_4 : cX4_readsSign.data.toList.drop 95 = dktX4_readsSign_4 := dk_seg dksX4_readsSign_3 24 rfl rfl
theorem dksX4_readsSign_5 : cX4_readsSign.data.toList.drop 118 = dktX4_readsSign_5 := dk_seg dksX4_readsSign_4 23 rfl rfl
theorem dX4_readsSign_0 : decode cX4_readsSign 0 = .ok (.aload_n 0, 1) := dk_42 (dk_at dksX4_readsSign_0 0 rfl rfl)
theorem dX4_readsSign_1 : decode cX4_readsSign 1 = .ok (.getfield 23, 3) := dk_180 0 23 (dk_at dksX4_readsSign_0 1 rfl rfl)
theorem dX4_readsSign_4 : decode cX4_readsSign 4 = .ok (.iconst 1, 1) := dk_4 (dk_at dksX4_readsSign_0 4 rfl rfl)
theorem dX4_readsSign_5 : decode cX4_readsSign 5 = .ok (.iaload, 1) := dk_46 (dk_at dksX4_readsSign_0 5 rfl rfl)
theorem dX4_readsSign_6 : decode cX4_readsSign 6 = .ok (.ifCond .ne 9, 3) := dk_154 0 9 (dk_at dksX4_readsSign_0 6 rfl rfl)
theorem dX4_readsSign_9 : decode cX4_readsSign 9 = .ok (.aload_n 0, 1) := dk_42 (dk_at dksX4_readsSign_0 9 rfl rfl)
theorem dX4_readsSign_10 : decode cX4_readsSign 10 = .ok (.iconst 1, 1) := dk_4 (dk_at dksX4_readsSign_0 10 rfl rfl)
theorem dX4_readsSign_11 : decode cX4_readsSign 11 = .ok (.iload_n 1, 1) := dk_27 (dk_at dksX4_readsSign_0 11 rfl rfl)
theorem dX4_readsSign_12 : decode cX4_readsSign 12 = .ok (.invokevirtual 95, 3) := dk_182 0 95 (dk_at dksX4_readsSign_0 12 rfl rfl)
theorem dX4_readsSign_15 : decode cX4_readsSign 15 = .ok (.aload_n 0, 1) := dk_42 (dk_at dksX4_readsSign_0 15 rfl rfl)
theorem dX4_readsSign_16 : decode cX4_readsSign 16 = .ok (.getfield 23, 3) := dk_180 0 23 (dk_at dksX4_readsSign_0 16 rfl rfl)
theorem dX4_readsSign_19 : decode cX4_readsSign 19 = .ok (.iconst 2, 1) := dk_5 (dk_at dksX4_readsSign_0 19 rfl rfl)
theorem dX4_readsSign_20 : decode cX4_readsSign 20 = .ok (.iaload, 1) := dk_46 (dk_at dksX4_readsSign_0 20 rfl rfl)
theorem dX4_readsSign_21 : decode cX4_readsSign 21 = .ok (.bipush 40, 2) := dk_16 40 (dk_at dksX4_readsSign_0 21 rfl rfl)
theorem dX4_readsSign_23 : decode cX4_readsSign 23 = .ok (.if_icmp .ne 9, 3) := dk_160 0 9 (dk_at dksX4_readsSign_1 0 rfl rfl)
theorem dX4_readsSign_26 : decode cX4_readsSign 26 = .ok (.aload_n 0, 1) := dk_42 (dk_at dksX4_readsSign_1 3 rfl rfl)
theorem dX4_readsSign_27 : decode cX4_readsSign 27 = .ok (.iconst 4, 1) := dk_7 (dk_at dksX4_readsSign_1 4 rfl rfl)
theorem dX4_readsSign_28 : decode cX4_readsSign 28 = .ok (.iload_n 1, 1) := dk_27 (dk_at dksX4_readsSign_1 5 rfl rfl)
theorem dX4_readsSign_29 : decode cX4_readsSign 29 = .ok (.invokevirtual 95, 3) := dk_182 0 95 (dk_at dksX4_readsSign_1 6 rfl rfl)
theorem dX4_readsSign_32 : decode cX4_readsSign 32 = .ok (.aload_n 0, 1) := dk_42 (dk_at dksX4_readsSign_1 9 rfl rfl)
theorem dX4_readsSign_33 : decode cX4_readsSign 33 = .ok (.invokevirtual 114, 3) := dk_182 0 114 (dk_at dksX4_readsSign_1 10 rfl rfl)
theorem dX4_readsSign_36 : decode cX4_readsSign 36 = .ok (.istore_n 2, 1) := dk_61 (dk_at dksX4_readsSign_1 13 rfl rfl)
theorem dX4_readsSign_37 : decode cX4_readsSign 37 = .ok (.aload_n 0, 1) := dk_42 (dk_at dksX4_readsSign_1 14 rfl rfl)
theorem dX4_readsSign_38 : decode cX4_readsSign 38 = .ok (.iconst 0, 1) := dk_3 (dk_at dksX4_readsSign_1 15 rfl rfl)
theorem dX4_readsSign_39 : decode cX4_readsSign 39 = .ok (.bipush 99, 2) := dk_16 99 (dk_at dksX4_readsSign_1 16 rfl rfl)
theorem dX4_readsSign_41 : decode cX4_readsSign 41 = .ok (.invokevirtual 117, 3) := dk_182 0 117 (dk_at dksX4_readsSign_1 18 rfl rfl)
theorem dX4_readsSign_44 : decode cX4_readsSign 44 = .ok (.istore_n 3, 1) := dk_62 (dk_at dksX4_readsSign_1 21 rfl rfl)
theorem dX4_readsSign_45 : decode cX4_readsSign 45 = .ok (.aload_n 0, 1) := dk_42 (dk_at dksX4_readsSign_1 22 rfl rfl)
theorem dX4_readsSign_46 : decode cX4_readsSign 46 = .ok (.iconst 0, 1) := dk_3 (dk_at dksX4_readsSign_1 23 rfl rfl)
theorem dX4_readsSign_47 : decode cX4_readsSign 47 = .ok (.sipush 999, 3) := dk_17 3 231 (dk_at dksX4_readsSign_2 0 rfl rfl)
theorem dX4_readsSign_50 : decode cX4_readsSign 50 = .ok (.invokevirtual 117, 3) := dk_182 0 117 (dk_at dksX4_readsSign_2 3 rfl rfl)
theorem dX4_readsSign_53 : decode cX4_readsSign 53 = .ok (.istore 4, 2) := dk_54 4 (dk_at dksX4_readsSign_2 6 rfl rfl)
theorem dX4_readsSign_55 : decode cX4_readsSign 55 = .ok (.aload_n 0, 1) := dk_42 (dk_at dksX4_readsSign_2 8 rfl rfl)
theorem dX4_readsSign_56 : decode cX4_readsSign 56 = .ok (.getfield 23, 3) := dk_180 0 23 (dk_at dksX4_readsSign_2 9 rfl rfl)
theorem dX4_readsSign_59 : decode cX4_readsSign 59 = .ok (.iconst 2, 1) := dk_5 (dk_at dksX4_readsSign_2 12 rfl rfl)
theorem dX4_readsSign_60 : decode cX4_readsSign 60 = .ok (.iaload, 1) := dk_46 (dk_at dksX4_readsSign_2 13 rfl rfl)
theorem dX4_readsSign_61 : decode cX4_readsSign 61 = .ok (.istore 5, 2) := dk_54 5 (dk_at dksX4_readsSign_2 14 rfl rfl)
theorem dX4_readsSign_63 : decode cX4_readsSign 63 = .ok (.aload_n 0, 1) := dk_42 (dk_at dksX4_readsSign_2 16 rfl rfl)
theorem dX4_readsSign_64 : decode cX4_readsSign 64 = .ok (.invokevirtual 87, 3) := dk_182 0 87 (dk_at dksX4_readsSign_2 17 rfl rfl)
theorem dX4_readsSign_67 : decode cX4_readsSign 67 = .ok (.ifCond .ne 4, 3) := dk_154 0 4 (dk_at dksX4_readsSign_2 20 rfl rfl)
theorem dX4_readsSign_70 : decode cX4_readsSign 70 = .ok (.return_, 1) := dk_177 (dk_at dksX4_readsSign_2 23 rfl rfl)
theorem dX4_readsSign_71 : decode cX4_readsSign 71 = .ok (.aload_n 0, 1) := dk_42 (dk_at dksX4_readsSign_3 0 rfl rfl)
theorem dX4_readsSign_72 : decode cX4_readsSign 72 = .ok (.getfield 23, 3) := dk_180 0 23 (dk_at dksX4_readsSign_3 1 rfl rfl)
theorem dX4_readsSign_75 : decode cX4_readsSign 75 = .ok (.iload 5, 2) := dk_21 5 (dk_at dksX4_readsSign_3 4 rfl rfl)
theorem dX4_readsSign_77 : decode cX4_readsSign 77 = .ok (.iconst 0, 1) := dk_3 (dk_at dksX4_readsSign_3 6 rfl rfl)
theorem dX4_readsSign_78 : decode cX4_readsSign 78 = .ok (.invokestatic 124, 3) := dk_184 0 124 (dk_at dksX4_readsSign_3 7 rfl rfl)
theorem dX4_readsSign_81 : decode cX4_readsSign 81 = .ok (.iload_n 2, 1) := dk_28 (dk_at dksX4_readsSign_3 10 rfl rfl)
theorem dX4_readsSign_82 : decode cX4_readsSign 82 = .ok (.iastore, 1) := dk_79 (dk_at dksX4_readsSign_3 11 rfl rfl)
theorem dX4_readsSign_83 : decode cX4_readsSign 83 = .ok (.aload_n 0, 1) := dk_42 (dk_at dksX4_readsSign_3 12 rfl rfl)
theorem dX4_readsSign_84 : decode cX4_readsSign 84 = .ok (.getfield 23, 3) := dk_180 0 23 (dk_at dksX4_readsSign_3 13 rfl rfl)
theorem dX4_readsSign_87 : decode cX4_readsSign 87 = .ok (.iload 5, 2) := dk_21 5 (dk_at dksX4_readsSign_3 16 rfl rfl)
theorem dX4_readsSign_89 : decode cX4_readsSign 89 = .ok (.iconst 1, 1) := dk_4 (dk_at dksX4_readsSign_3 18 rfl rfl)
theorem dX4_readsSign_90 : decode cX4_readsSign 90 = .ok (.invokestatic 124, 3) := dk_184 0 124 (dk_at dksX4_readsSign_3 19 rfl rfl)
theorem dX4_readsSign_93 : decode cX4_readsSign 93 = .ok (.iload_n 3, 1) := dk_29 (dk_at dksX4_readsSign_3 22 rfl rfl)
theorem dX4_readsSign_94 : decode cX4_readsSign 94 = .ok (.iastore, 1) := dk_79 (dk_at dksX4_readsSign_3 23 rfl rfl)
theorem dX4_readsSign_95 : decode cX4_readsSign 95 = .ok (.aload_n 0, 1) := dk_42 (dk_at dksX4_readsSign_4 0 rfl rfl)
theorem dX4_readsSign_96 : decode cX4_readsSign 96 = .ok (.getfield 23, 3) := dk_180 0 23 (dk_at dksX4_readsSign_4 1 rfl rfl)
theorem dX4_readsSign_99 : decode cX4_readsSign 99 = .ok (.iload 5, 2) := dk_21 5 (dk_at dksX4_readsSign_4 4 rfl rfl)
theorem dX4_readsSign_101 : decode cX4_readsSign 101 = .ok (.iconst 2, 1) := dk_5 (dk_at dksX4_readsSign_4 6 rfl rfl)
theorem dX4_readsSign_102 : decode cX4_readsSign 102 = .ok (.invokestatic 124, 3) := dk_184 0 124 (dk_at dksX4_readsSign_4 7 rfl rfl)
theorem dX4_readsSign_105 : decode cX4_readsSign 105 = .ok (.aload_n 0, 1) := dk_42 (dk_at dksX4_readsSign_4 10 rfl rfl)
theorem dX4_readsSign_106 : decode cX4_readsSign 106 = .ok (.getfield 23, 3) := dk_180 0 23 (dk_at dksX4_readsSign_4 11 rfl rfl)
theorem dX4_readsSign_109 : decode cX4_readsSign 109 = .ok (.iconst 1, 1) := dk_4 (dk_at dksX4_readsSign_4 14 rfl rfl)
theorem dX4_readsSign_110 : decode cX4_readsSign 110 = .ok (.iaload, 1) := dk_46 (dk_at dksX4_readsSign_4 15 rfl rfl)
theorem dX4_readsSign_111 : decode cX4_readsSign 111 = .ok (.iconst 1, 1) := dk_4 (dk_at dksX4_readsSign_4 16 rfl rfl)
theorem dX4_readsSign_112 : decode cX4_readsSign 112 = .ok (.isub, 1) := dk_100 (dk_at dksX4_readsSign_4 17 rfl rfl)
theorem dX4_readsSign_113 : decode cX4_readsSign 113 = .ok (.iastore, 1) := dk_79 (dk_at dksX4_readsSign_4 18 rfl rfl)
theorem dX4_readsSign_114 : decode cX4_readsSign 114 = .ok (.aload_n 0, 1) := dk_42 (dk_at dksX4_readsSign_4 19 rfl rfl)
theorem dX4_readsSign_115 : decode cX4_readsSign 115 = .ok (.getfield 23, 3) := dk_180 0 23 (dk_at dksX4_readsSign_4 20 rfl rfl)
theorem dX4_readsSign_118 : decode cX4_readsSign 118 = .ok (.iload 5, 2) := dk_21 5 (dk_at dksX4_readsSign_5 0 rfl rfl)
theorem dX4_readsSign_120 : decode cX4_readsSign 120 = .ok (.iconst 3, 1) := dk_6 (dk_at dksX4_readsSign_5 2 rfl rfl)
theorem dX4_readsSign_121 : decode cX4_readsSign 121 = .ok (.invokestatic 124, 3) := dk_184 0 124 (dk_at dksX4_readsSign_5 3 rfl rfl)
theorem dX4_readsSign_124 : decode cX4_readsSign 124 = .ok (.iload 4, 2) := dk_21 4 (dk_at dksX4_readsSign_5 6 rfl rfl)
theorem dX4_readsSign_126 : decode cX4_readsSign 126 = .ok (.iastore, 1) := dk_79 (dk_at dksX4_readsSign_5 8 rfl rfl)
theorem dX4_readsSign_127 : decode cX4_readsSign 127 = .ok (.aload_n 0, 1) := dk_42 (dk_at dksX4_readsSign_5 9 rfl rfl)
theorem dX4_readsSign_128 : decode cX4_readsSign 128 = .ok (.getfield 23, 3) := dk_180 0 23 (dk_at dksX4_readsSign_5 10 rfl rfl)
theorem dX4_readsSign_131 : decode cX4_readsSign 131 = .ok (.iconst 2, 1) := dk_5 (dk_at dksX4_readsSign_5 13 rfl rfl)
theorem dX4_readsSign_132 : decode cX4_readsSign 132 = .ok (.dup2, 1) := dk_92 (dk_at dksX4_readsSign_5 14 rfl rfl)
theorem dX4_readsSign_133 : decode cX4_readsSign 133 = .ok (.iaload, 1) := dk_46 (dk_at dksX4_readsSign_5 15 rfl rfl)
theorem dX4_readsSign_134 : decode cX4_readsSign 134 = .ok (.iconst 1, 1) := dk_4 (dk_at dksX4_readsSign_5 16 rfl rfl)
theorem dX4_readsSign_135 : decode cX4_readsSign 135 = .ok (.iadd, 1) := dk_96 (dk_at dksX4_readsSign_5 17 rfl rfl)
theorem dX4_readsSign_136 : decode cX4_readsSign 136 = .ok (.iastore, 1) := dk_79 (dk_at dksX4_readsSign_5 18 rfl rfl)
theorem dX4_readsSign_137 : decode cX4_readsSign 137 = .ok (.return_, 1) := dk_177 (dk_at dksX4_readsSign_5 19 rfl rfl)
abbrev cX4_lineAt : ByteArray := prog_12_method_9_code
def yX4_lineAt : MethodName := ⟨RX4, "lineAt", "(II)I"⟩
def dkwX4_lineAt_0 : List UInt8 := [16, 65, 7, 26, 104, 96, 27, 96, 172]
abbrev dktX4_lineAt_0 : List UInt8 := dkwX4_lineAt_0 ++ []
theorem dksX4_lineAt_0 : cX4_lineAt.data.toList.drop 0 = dktX4_lineAt_0 := by decide +kernel
theorem dX4_lineAt_0 : decode cX4_lineAt 0 = .ok (.bipush 65, 2) := dk_16 65 (dk_at dksX4_lineAt_0 0 rfl rfl)
theorem dX4_lineAt_2 : decode cX4_lineAt 2 = .ok (.iconst 4, 1) := dk_7 (dk_at dksX4_lineAt_0 2 rfl rfl)
theorem dX4_lineAt_3 : decode cX4_lineAt 3 = .ok (.iload_n 0, 1) := dk_26 (dk_at dksX4_lineAt_0 3 rfl rfl)
theorem dX4_lineAt_4 : decode cX4_lineAt 4 = .ok (.imul, 1) := dk_104 (dk_at dksX4_lineAt_0 4 rfl rfl)
theorem dX4_lineAt_5 : decode cX4_lineAt 5 = .ok (.iadd, 1) := dk_96 (dk_at dksX4_lineAt_0 5 rfl rfl)
theorem dX4_lineAt_6 : decode cX4_lineAt 6 = .ok (.iload_n 1, 1) := dk_27 (dk_at dksX4_lineAt_0 6 rfl rfl)
theorem dX4_lineAt_7 : decode cX4_lineAt 7 = .ok (.iadd, 1) := dk_96 (dk_at dksX4_lineAt_0 7 rfl rfl)
theorem dX4_lineAt_8 : decode cX4_lineAt 8 = .ok (.ireturn, 1) := dk_172 (dk_at dksX4_lineAt_0 8 rfl rfl)
abbrev cX4_takesOnce : ByteArray := prog_12_method_32_code
def yX4_takesOnce : MethodName := ⟨RX4, "takesOnce", "(Ljava/lang/String;I)Z"⟩
def dkwX4_takesOnce_1 : List UInt8 := [180, 0, 177, 4, 28, 120, 128, 181, 0, 177, 4, 172]
abbrev dktX4_takesOnce_1 : List UInt8 := dkwX4_takesOnce_1 ++ []
def dkwX4_takesOnce_0 : List UInt8 := [42, 180, 0, 177, 28, 122, 4, 126, 4, 159, 0, 11, 42, 43, 182, 0, 150, 154, 0, 5, 3, 172, 42, 89]
abbrev dktX4_takesOnce_0 : List UInt8 := dkwX4_takesOnce_0 ++ dktX4_takesOnce_1
theorem dksX4_takesOnce_0 : cX4_takesOnce.data.toList.drop 0 = dktX4_takesOnce_0 := by decide +kernel
theorem dksX4_takesOnce_1 : cX4_takesOnce.data.toList.drop 24 = dktX4_takesOnce_1 := dk_seg dksX4_takesOnce_0 24 rfl rfl
theorem dX4_takesOnce_0 : decode cX4_takesOnce 0 = .ok (.aload_n 0, 1) := dk_42 (dk_at dksX4_takesOnce_0 0 rfl rfl)
theorem dX4_takesOnce_1 : decode cX4_takesOnce 1 = .ok (.getfield 177, 3) := dk_180 0 177 (dk_at dksX4_takesOnce_0 1 rfl rfl)
theorem dX4_takesOnce_4 : decode cX4_takesOnce 4 = .ok (.iload_n 2, 1) := dk_28 (dk_at dksX4_takesOnce_0 4 rfl rfl)
theorem dX4_takesOnce_5 : decode cX4_takesOnce 5 = .ok (.ishr, 1) := dk_122 (dk_at dksX4_takesOnce_0 5 rfl rfl)
theorem dX4_takesOnce_6 : decode cX4_takesOnce 6 = .ok (.iconst 1, 1) := dk_4 (dk_at dksX4_takesOnce_0 6 rfl rfl)
theorem dX4_takesOnce_7 : decode cX4_takesOnce 7 = .ok (.iand, 1) := dk_126 (dk_at dksX4_takesOnce_0 7 rfl rfl)
theorem dX4_takesOnce_8 : decode cX4_takesOnce 8 = .ok (.iconst 1, 1) := dk_4 (dk_at dksX4_takesOnce_0 8 rfl rfl)
theorem dX4_takesOnce_9 : decode cX4_takesOnce 9 = .ok (.if_icmp .eq 11, 3) := dk_159 0 11 (dk_at dksX4_takesOnce_0 9 rfl rfl)
theorem dX4_takesOnce_12 : decode cX4_takesOnce 12 = .ok (.aload_n 0, 1) := dk_42 (dk_at dksX4_takesOnce_0 12 rfl rfl)
theorem dX4_takesOnce_13 : decode cX4_takesOnce 13 = .ok (.aload_n 1, 1) := dk_43 (dk_at dksX4_takesOnce_0 13 rfl rfl)
theorem dX4_takesOnce_14 : decode cX4_takesOnce 14 = .ok (.invokevirtual 150, 3) := dk_182 0 150 (dk_at dksX4_takesOnce_0 14 rfl rfl)
theorem dX4_takesOnce_17 : decode cX4_takesOnce 17 = .ok (.ifCond .ne 5, 3) := dk_154 0 5 (dk_at dksX4_takesOnce_0 17 rfl rfl)
theorem dX4_takesOnce_20 : decode cX4_takesOnce 20 = .ok (.iconst 0, 1) := dk_3 (dk_at dksX4_takesOnce_0 20 rfl rfl)
theorem dX4_takesOnce_21 : decode cX4_takesOnce 21 = .ok (.ireturn, 1) := dk_172 (dk_at dksX4_takesOnce_0 21 rfl rfl)
theorem dX4_takesOnce_22 : decode cX4_takesOnce 22 = .ok (.aload_n 0, 1) := dk_42 (dk_at dksX4_takesOnce_0 22 rfl rfl)
theorem dX4_takesOnce_23 : decode cX4_takesOnce 23 = .ok (.dup, 1) := dk_89 (dk_at dksX4_takesOnce_0 23 rfl rfl)
theorem dX4_takesOnce_24 : decode cX4_takesOnce 24 = .ok (.getfield 177, 3) := dk_180 0 177 (dk_at dksX4_takesOnce_1 0 rfl rfl)
theorem dX4_takesOnce_27 : decode cX4_takesOnce 27 = .ok (.iconst 1, 1) := dk_4 (dk_at dksX4_takesOnce_1 3 rfl rfl)
theorem dX4_takesOnce_28 : decode cX4_takesOnce 28 = .ok (.iload_n 2, 1) := dk_28 (dk_at dksX4_takesOnce_1 4 rfl rfl)
theorem dX4_takesOnce_29 : decode cX4_takesOnce 29 = .ok (.ishl, 1) := dk_120 (dk_at dksX4_takesOnce_1 5 rfl rfl)
theorem dX4_takesOnce_30 : decode cX4_takesOnce 30 = .ok (.ior, 1) := dk_128 (dk_at dksX4_takesOnce_1 6 rfl rfl)
theorem dX4_takesOnce_31 : decode cX4_takesOnce 31 = .ok (.putfield 177, 3) := dk_181 0 177 (dk_at dksX4_takesOnce_1 7 rfl rfl)
theorem dX4_takesOnce_34 : decode cX4_takesOnce 34 = .ok (.iconst 1, 1) := dk_4 (dk_at dksX4_takesOnce_1 10 rfl rfl)
theorem dX4_takesOnce_35 : decode cX4_takesOnce 35 = .ok (.ireturn, 1) := dk_172 (dk_at dksX4_takesOnce_1 11 rfl rfl)
abbrev cX4_any : ByteArray := prog_12_method_31_code
def yX4_any : MethodName := ⟨RX4, "any", "()V"⟩
def dkwX4_any_1 : List UInt8 := [167, 255, 237, 177]
abbrev dktX4_any_1 : List UInt8 := dkwX4_any_1 ++ []
def dkwX4_any_0 : List UInt8 := [42, 182, 0, 172, 42, 18, 175, 182, 0, 150, 153, 0, 16, 42, 182, 0, 172, 42, 16, 13, 182, 0, 142]
abbrev dktX4_any_0 : List UInt8 := dkwX4_any_0 ++ dktX4_any_1
theorem dksX4_any_0 : cX4_any.data.toList.drop 0 = dktX4_any_0 := by decide +kernel
theorem dksX4_any_1 : cX4_any.data.toList.drop 23 = dktX4_any_1 := dk_seg dksX4_any_0 23 rfl rfl
theorem dX4_any_0 : decode cX4_any 0 = .ok (.aload_n 0, 1) := dk_42 (dk_at dksX4_any_0 0 rfl rfl)
theorem dX4_any_1 : decode cX4_any 1 = .ok (.invokevirtual 172, 3) := dk_182 0 172 (dk_at dksX4_any_0 1 rfl rfl)
theorem dX4_any_4 : decode cX4_any 4 = .ok (.aload_n 0, 1) := dk_42 (dk_at dksX4_any_0 4 rfl rfl)
theorem dX4_any_5 : decode cX4_any 5 = .ok (.ldc 175, 2) := dk_18 175 (dk_at dksX4_any_0 5 rfl rfl)
theorem dX4_any_7 : decode cX4_any 7 = .ok (.invokevirtual 150, 3) := dk_182 0 150 (dk_at dksX4_any_0 7 rfl rfl)
theorem dX4_any_10 : decode cX4_any 10 = .ok (.ifCond .eq 16, 3) := dk_153 0 16 (dk_at dksX4_any_0 10 rfl rfl)
theorem dX4_any_13 : decode cX4_any 13 = .ok (.aload_n 0, 1) := dk_42 (dk_at dksX4_any_0 13 rfl rfl)
theorem dX4_any_14 : decode cX4_any 14 = .ok (.invokevirtual 172, 3) := dk_182 0 172 (dk_at dksX4_any_0 14 rfl rfl)
theorem dX4_any_17 : decode cX4_any 17 = .ok (.aload_n 0, 1) := dk_42 (dk_at dksX4_any_0 17 rfl rfl)
theorem dX4_any_18 : decode cX4_any 18 = .ok (.bipush 13, 2) := dk_16 13 (dk_at dksX4_any_0 18 rfl rfl)
theorem dX4_any_20 : decode cX4_any 20 = .ok (.invokevirtual 142, 3) := dk_182 0 142 (dk_at dksX4_any_0 20 rfl rfl)
theorem dX4_any_23 : decode cX4_any 23 = .ok (.goto (-19), 3) := dk_167 255 237 (dk_at dksX4_any_1 0 rfl rfl)
theorem dX4_any_26 : decode cX4_any 26 = .ok (.return_, 1) := dk_177 (dk_at dksX4_any_1 3 rfl rfl)
abbrev cX4_all : ByteArray := prog_12_method_30_code
def yX4_all : MethodName := ⟨RX4, "all", "()V"⟩
def dkwX4_all_1 : List UInt8 := [167, 255, 237, 177]
abbrev dktX4_all_1 : List UInt8 := dkwX4_all_1 ++ []
def dkwX4_all_0 : List UInt8 := [42, 182, 0, 161, 42, 18, 170, 182, 0, 150, 153, 0, 16, 42, 182, 0, 161, 42, 16, 12, 182, 0, 142]
abbrev dktX4_all_0 : List UInt8 := dkwX4_all_0 ++ dktX4_all_1
theorem dksX4_all_0 : cX4_all.data.toList.drop 0 = dktX4_all_0 := by decide +kernel
theorem dksX4_all_1 : cX4_all.data.toList.drop 23 = dktX4_all_1 := dk_seg dksX4_all_0 23 rfl rfl
theorem dX4_all_0 : decode cX4_all 0 = .ok (.aload_n 0, 1) := dk_42 (dk_at dksX4_all_0 0 rfl rfl)
theorem dX4_all_1 : decode cX4_all 1 = .ok (.invokevirtual 161, 3) := dk_182 0 161 (dk_at dksX4_all_0 1 rfl rfl)
theorem dX4_all_4 : decode cX4_all 4 = .ok (.aload_n 0, 1) := dk_42 (dk_at dksX4_all_0 4 rfl rfl)
theorem dX4_all_5 : decode cX4_all 5 = .ok (.ldc 170, 2) := dk_18 170 (dk_at dksX4_all_0 5 rfl rfl)
theorem dX4_all_7 : decode cX4_all 7 = .ok (.invokevirtual 150, 3) := dk_182 0 150 (dk_at dksX4_all_0 7 rfl rfl)
theorem dX4_all_10 : decode cX4_all 10 = .ok (.ifCond .eq 16, 3) := dk_153 0 16 (dk_at dksX4_all_0 10 rfl rfl)
theorem dX4_all_13 : decode cX4_all 13 = .ok (.aload_n 0, 1) := dk_42 (dk_at dksX4_all_0 13 rfl rfl)
theorem dX4_all_14 : decode cX4_all 14 = .ok (.invokevirtual 161, 3) := dk_182 0 161 (dk_at dksX4_all_0 14 rfl rfl)
theorem dX4_all_17 : decode cX4_all 17 = .ok (.aload_n 0, 1) := dk_42 (dk_at dksX4_all_0 17 rfl rfl)
theorem dX4_all_18 : decode cX4_all 18 = .ok (.bipush 12, 2) := dk_16 12 (dk_at dksX4_all_0 18 rfl rfl)
theorem dX4_all_20 : decode cX4_all 20 = .ok (.invokevirtual 142, 3) := dk_182 0 142 (dk_at dksX4_all_0 20 rfl rfl)
theorem dX4_all_23 : decode cX4_all 23 = .ok (.goto (-19), 3) := dk_167 255 237 (dk_at dksX4_all_1 0 rfl rfl)
theorem dX4_all_26 : decode cX4_all 26 = .ok (.return_, 1) := dk_177 (dk_at dksX4_all_1 3 rfl rfl)
abbrev cX4_part : ByteArray := prog_12_method_29_code
def yX4_part : MethodName := ⟨RX4, "part", "()V"⟩
def dkwX4_part_8 : List UInt8 := [181, 0, 158, 177]
abbrev dktX4_part_8 : List UInt8 := dkwX4_part_8 ++ []
def dkwX4_part_7 : List UInt8 := [182, 0, 142, 167, 0, 13, 42, 182, 0, 164, 42, 16, 41, 182, 0, 167, 42, 89, 180, 0, 158, 4, 100]
abbrev dktX4_part_7 : List UInt8 := dkwX4_part_7 ++ dktX4_part_8
def dkwX4_part_6 : List UInt8 := [181, 0, 57, 42, 89, 180, 0, 158, 4, 96, 181, 0, 158, 27, 153, 0, 16, 42, 182, 0, 161, 42, 16, 11]
abbrev dktX4_part_6 : List UInt8 := dkwX4_part_6 ++ dktX4_part_7
def dkwX4_part_5 : List UInt8 := [42, 180, 0, 57, 182, 0, 95, 42, 89, 180, 0, 57, 27, 153, 0, 7, 6, 167, 0, 4, 4, 96]
abbrev dktX4_part_5 : List UInt8 := dkwX4_part_5 ++ dktX4_part_6
def dkwX4_part_4 : List UInt8 := [160, 0, 8, 16, 9, 167, 0, 5, 16, 10, 182, 0, 142, 177, 42, 180, 0, 158, 7, 160, 0, 12, 42, 8]
abbrev dktX4_part_4 : List UInt8 := dkwX4_part_4 ++ dktX4_part_5
def dkwX4_part_3 : List UInt8 := [96, 181, 0, 57, 42, 182, 0, 155, 42, 28, 16, 60, 160, 0, 8, 16, 8, 167, 0, 16, 28, 16, 61]
abbrev dktX4_part_3 : List UInt8 := dkwX4_part_3 ++ dktX4_part_4
def dkwX4_part_2 : List UInt8 := [159, 0, 18, 28, 16, 62, 159, 0, 12, 42, 4, 42, 180, 0, 57, 182, 0, 95, 42, 89, 180, 0, 57, 4]
abbrev dktX4_part_2 : List UInt8 := dkwX4_part_2 ++ dktX4_part_3
def dkwX4_part_1 : List UInt8 := [16, 40, 159, 0, 82, 42, 182, 0, 155, 42, 182, 0, 70, 61, 28, 16, 60, 159, 0, 24, 28, 16, 61]
abbrev dktX4_part_1 : List UInt8 := dkwX4_part_1 ++ dktX4_part_2
def dkwX4_part_0 : List UInt8 := [42, 182, 0, 87, 154, 0, 4, 177, 42, 18, 153, 182, 0, 91, 60, 27, 154, 0, 91, 42, 182, 0, 70]
abbrev dktX4_part_0 : List UInt8 := dkwX4_part_0 ++ dktX4_part_1
theorem dksX4_part_0 : cX4_part.data.toList.drop 0 = dktX4_part_0 := by decide +kernel
theorem dksX4_part_1 : cX4_part.data.toList.drop 23 = dktX4_part_1 := dk_seg dksX4_part_0 23 rfl rfl
theorem dksX4_part_2 : cX4_part.data.toList.drop 46 = dktX4_part_2 := dk_seg dksX4_part_1 23 rfl rfl
theorem dksX4_part_3 : cX4_part.data.toList.drop 70 = dktX4_part_3 := dk_seg dksX4_part_2 24 rfl rfl
theorem dksX4_part_4 : cX4_part.data.toList.drop 93 = dktX4_part_4 := dk_seg dksX4_part_3 23 rfl rfl
theorem dksX4_part_5 : cX4_part.data.toList.drop 117 = dktX4_part_5 := dk_seg dksX4_part_4 24 rfl rfl
theorem dksX4_part_6 : cX4_part.data.toList.drop 139 = dktX4_part_6 := dk_seg dksX4_part_5 22 rfl rfl
theorem dksX4_part_7 : cX4_part.data.toList.drop 163 = dktX4_part_7 := dk_seg dksX4_part_6 24 rfl rfl
theorem dksX4_part_8 : cX4_part.data.toList.drop 186 = dktX4_part_8 := dk_seg dksX4_part_7 23 rfl rfl
theorem dX4_part_0 : decode cX4_part 0 = .ok (.aload_n 0, 1) := dk_42 (dk_at dksX4_part_0 0 rfl rfl)
theorem dX4_part_1 : decode cX4_part 1 = .ok (.invokevirtual 87, 3) := dk_182 0 87 (dk_at dksX4_part_0 1 rfl rfl)
theorem dX4_part_4 : decode cX4_part 4 = .ok (.ifCond .ne 4, 3) := dk_154 0 4 (dk_at dksX4_part_0 4 rfl rfl)
theorem dX4_part_7 : decode cX4_part 7 = .ok (.return_, 1) := dk_177 (dk_at dksX4_part_0 7 rfl rfl)
theorem dX4_part_8 : decode cX4_part 8 = .ok (.aload_n 0, 1) := dk_42 (dk_at dksX4_part_0 8 rfl rfl)
theorem dX4_part_9 : decode cX4_part 9 = .ok (.ldc 153, 2) := dk_18 153 (dk_at dksX4_part_0 9 rfl rfl)
theorem dX4_part_11 : decode cX4_part 11 = .ok (.invokevirtual 91, 3) := dk_182 0 91 (dk_at dksX4_part_0 11 rfl rfl)
theorem dX4_part_14 : decode cX4_part 14 = .ok (.istore_n 1, 1) := dk_60 (dk_at dksX4_part_0 14 rfl rfl)
theorem dX4_part_15 : decode cX4_part 15 = .ok (.iload_n 1, 1) := dk_27 (dk_at dksX4_part_0 15 rfl rfl)
theorem dX4_part_16 : decode cX4_part 16 = .ok (.ifCond .ne 91, 3) := dk_154 0 91 (dk_at dksX4_part_0 16 rfl rfl)
theorem dX4_part_19 : decode cX4_part 19 = .ok (.aload_n 0, 1) := dk_42 (dk_at dksX4_part_0 19 rfl rfl)
theorem dX4_part_20 : decode cX4_part 20 = .ok (.invokevirtual 70, 3) := dk_182 0 70 (dk_at dksX4_part_0 20 rfl rfl)
theorem dX4_part_23 : decode cX4_part 23 = .ok (.bipush 40, 2) := dk_16 40 (dk_at dksX4_part_1 0 rfl rfl)
theorem dX4_part_25 : decode cX4_part 25 = .ok (.if_icmp .eq 82, 3) := dk_159 0 82 (dk_at dksX4_part_1 2 rfl rfl)
theorem dX4_part_28 : decode cX4_part 28 = .ok (.aload_n 0, 1) := dk_42 (dk_at dksX4_part_1 5 rfl rfl)
theorem dX4_part_29 : decode cX4_part 29 = .ok (.invokevirtual 155, 3) := dk_182 0 155 (dk_at dksX4_part_1 6 rfl rfl)
theorem dX4_part_32 : decode cX4_part 32 = .ok (.aload_n 0, 1) := dk_42 (dk_at dksX4_part_1 9 rfl rfl)
theorem dX4_part_33 : decode cX4_part 33 = .ok (.invokevirtual 70, 3) := dk_182 0 70 (dk_at dksX4_part_1 10 rfl rfl)
theorem dX4_part_36 : decode cX4_part 36 = .ok (.istore_n 2, 1) := dk_61 (dk_at dksX4_part_1 13 rfl rfl)
theorem dX4_part_37 : decode cX4_part 37 = .ok (.iload_n 2, 1) := dk_28 (dk_at dksX4_part_1 14 rfl rfl)
theorem dX4_part_38 : decode cX4_part 38 = .ok (.bipush 60, 2) := dk_16 60 (dk_at dksX4_part_1 15 rfl rfl)
theorem dX4_part_40 : decode cX4_part 40 = .ok (.if_icmp .eq 24, 3) := dk_159 0 24 (dk_at dksX4_part_1 17 rfl rfl)
theorem dX4_part_43 : decode cX4_part 43 = .ok (.iload_n 2, 1) := dk_28 (dk_at dksX4_part_1 20 rfl rfl)
theorem dX4_part_44 : decode cX4_part 44 = .ok (.bipush 61, 2) := dk_16 61 (dk_at dksX4_part_1 21 rfl rfl)
theorem dX4_part_46 : decode cX4_part 46 = .ok (.if_icmp .eq 18, 3) := dk_159 0 18 (dk_at dksX4_part_2 0 rfl rfl)
theorem dX4_part_49 : decode cX4_part 49 = .ok (.iload_n 2, 1) := dk_28 (dk_at dksX4_part_2 3 rfl rfl)
theorem dX4_part_50 : decode cX4_part 50 = .ok (.bipush 62, 2) := dk_16 62 (dk_at dksX4_part_2 4 rfl rfl)
theorem dX4_part_52 : decode cX4_part 52 = .ok (.if_icmp .eq 12, 3) := dk_159 0 12 (dk_at dksX4_part_2 6 rfl rfl)
theorem dX4_part_55 : decode cX4_part 55 = .ok (.aload_n 0, 1) := dk_42 (dk_at dksX4_part_2 9 rfl rfl)
theorem dX4_part_56 : decode cX4_part 56 = .ok (.iconst 1, 1) := dk_4 (dk_at dksX4_part_2 10 rfl rfl)
theorem dX4_part_57 : decode cX4_part 57 = .ok (.aload_n 0, 1) := dk_42 (dk_at dksX4_part_2 11 rfl rfl)
theorem dX4_part_58 : decode cX4_part 58 = .ok (.getfield 57, 3) := dk_180 0 57 (dk_at dksX4_part_2 12 rfl rfl)
theorem dX4_part_61 : decode cX4_part 61 = .ok (.invokevirtual 95, 3) := dk_182 0 95 (dk_at dksX4_part_2 15 rfl rfl)
theorem dX4_part_64 : decode cX4_part 64 = .ok (.aload_n 0, 1) := dk_42 (dk_at dksX4_part_2 18 rfl rfl)
theorem dX4_part_65 : decode cX4_part 65 = .ok (.dup, 1) := dk_89 (dk_at dksX4_part_2 19 rfl rfl)
theorem dX4_part_66 : decode cX4_part 66 = .ok (.getfield 57, 3) := dk_180 0 57 (dk_at dksX4_part_2 20 rfl rfl)
theorem dX4_part_69 : decode cX4_part 69 = .ok (.iconst 1, 1) := dk_4 (dk_at dksX4_part_2 23 rfl rfl)
theorem dX4_part_70 : decode cX4_part 70 = .ok (.iadd, 1) := dk_96 (dk_at dksX4_part_3 0 rfl rfl)
theorem dX4_part_71 : decode cX4_part 71 = .ok (.putfield 57, 3) := dk_181 0 57 (dk_at dksX4_part_3 1 rfl rfl)
theorem dX4_part_74 : decode cX4_part 74 = .ok (.aload_n 0, 1) := dk_42 (dk_at dksX4_part_3 4 rfl rfl)
theorem dX4_part_75 : decode cX4_part 75 = .ok (.invokevirtual 155, 3) := dk_182 0 155 (dk_at dksX4_part_3 5 rfl rfl)
theorem dX4_part_78 : decode cX4_part 78 = .ok (.aload_n 0, 1) := dk_42 (dk_at dksX4_part_3 8 rfl rfl)
theorem dX4_part_79 : decode cX4_part 79 = .ok (.iload_n 2, 1) := dk_28 (dk_at dksX4_part_3 9 rfl rfl)
theorem dX4_part_80 : decode cX4_part 80 = .ok (.bipush 60, 2) := dk_16 60 (dk_at dksX4_part_3 10 rfl rfl)
theorem dX4_part_82 : decode cX4_part 82 = .ok (.if_icmp .ne 8, 3) := dk_160 0 8 (dk_at dksX4_part_3 12 rfl rfl)
theorem dX4_part_85 : decode cX4_part 85 = .ok (.bipush 8, 2) := dk_16 8 (dk_at dksX4_part_3 15 rfl rfl)
theorem dX4_part_87 : decode cX4_part 87 = .ok (.goto 16, 3) := dk_167 0 16 (dk_at dksX4_part_3 17 rfl rfl)
theorem dX4_part_90 : decode cX4_part 90 = .ok (.iload_n 2, 1) := dk_28 (dk_at dksX4_part_3 20 rfl rfl)
theorem dX4_part_91 : decode cX4_part 91 = .ok (.bipush 61, 2) := dk_16 61 (dk_at dksX4_part_3 21 rfl rfl)
theorem dX4_part_93 : decode cX4_part 93 = .ok (.if_icmp .ne 8, 3) := dk_160 0 8 (dk_at dksX4_part_4 0 rfl rfl)
theorem dX4_part_96 : decode cX4_part 96 = .ok (.bipush 9, 2) := dk_16 9 (dk_at dksX4_part_4 3 rfl rfl)
theorem dX4_part_98 : decode cX4_part 98 = .ok (.goto 5, 3) := dk_167 0 5 (dk_at dksX4_part_4 5 rfl rfl)
theorem dX4_part_101 : decode cX4_part 101 = .ok (.bipush 10, 2) := dk_16 10 (dk_at dksX4_part_4 8 rfl rfl)
theorem dX4_part_103 : decode cX4_part 103 = .ok (.invokevirtual 142, 3) := dk_182 0 142 (dk_at dksX4_part_4 10 rfl rfl)
theorem dX4_part_106 : decode cX4_part 106 = .ok (.return_, 1) := dk_177 (dk_at dksX4_part_4 13 rfl rfl)
theorem dX4_part_107 : decode cX4_part 107 = .ok (.aload_n 0, 1) := dk_42 (dk_at dksX4_part_4 14 rfl rfl)
theorem dX4_part_108 : decode cX4_part 108 = .ok (.getfield 158, 3) := dk_180 0 158 (dk_at dksX4_part_4 15 rfl rfl)
theorem dX4_part_111 : decode cX4_part 111 = .ok (.iconst 4, 1) := dk_7 (dk_at dksX4_part_4 18 rfl rfl)
theorem dX4_part_112 : decode cX4_part 112 = .ok (.if_icmp .ne 12, 3) := dk_160 0 12 (dk_at dksX4_part_4 19 rfl rfl)
theorem dX4_part_115 : decode cX4_part 115 = .ok (.aload_n 0, 1) := dk_42 (dk_at dksX4_part_4 22 rfl rfl)
theorem dX4_part_116 : decode cX4_part 116 = .ok (.iconst 5, 1) := dk_8 (dk_at dksX4_part_4 23 rfl rfl)
theorem dX4_part_117 : decode cX4_part 117 = .ok (.aload_n 0, 1) := dk_42 (dk_at dksX4_part_5 0 rfl rfl)
theorem dX4_part_118 : decode cX4_part 118 = .ok (.getfield 57, 3) := dk_180 0 57 (dk_at dksX4_part_5 1 rfl rfl)
theorem dX4_part_121 : decode cX4_part 121 = .ok (.invokevirtual 95, 3) := dk_182 0 95 (dk_at dksX4_part_5 4 rfl rfl)
theorem dX4_part_124 : decode cX4_part 124 = .ok (.aload_n 0, 1) := dk_42 (dk_at dksX4_part_5 7 rfl rfl)
theorem dX4_part_125 : decode cX4_part 125 = .ok (.dup, 1) := dk_89 (dk_at dksX4_part_5 8 rfl rfl)
theorem dX4_part_126 : decode cX4_part 126 = .ok (.getfield 57, 3) := dk_180 0 57 (dk_at dksX4_part_5 9 rfl rfl)
theorem dX4_part_129 : decode cX4_part 129 = .ok (.iload_n 1, 1) := dk_27 (dk_at dksX4_part_5 12 rfl rfl)
theorem dX4_part_130 : decode cX4_part 130 = .ok (.ifCond .eq 7, 3) := dk_153 0 7 (dk_at dksX4_part_5 13 rfl rfl)
theorem dX4_part_133 : decode cX4_part 133 = .ok (.iconst 3, 1) := dk_6 (dk_at dksX4_part_5 16 rfl rfl)
theorem dX4_part_134 : decode cX4_part 134 = .ok (.goto 4, 3) := dk_167 0 4 (dk_at dksX4_part_5 17 rfl rfl)
theorem dX4_part_137 : decode cX4_part 137 = .ok (.iconst 1, 1) := dk_4 (dk_at dksX4_part_5 20 rfl rfl)
theorem dX4_part_138 : decode cX4_part 138 = .ok (.iadd, 1) := dk_96 (dk_at dksX4_part_5 21 rfl rfl)
theorem dX4_part_139 : decode cX4_part 139 = .ok (.putfield 57, 3) := dk_181 0 57 (dk_at dksX4_part_6 0 rfl rfl)
theorem dX4_part_142 : decode cX4_part 142 = .ok (.aload_n 0, 1) := dk_42 (dk_at dksX4_part_6 3 rfl rfl)
theorem dX4_part_143 : decode cX4_part 143 = .ok (.dup, 1) := dk_89 (dk_at dksX4_part_6 4 rfl rfl)
theorem dX4_part_144 : decode cX4_part 144 = .ok (.getfield 158, 3) := dk_180 0 158 (dk_at dksX4_part_6 5 rfl rfl)
theorem dX4_part_147 : decode cX4_part 147 = .ok (.iconst 1, 1) := dk_4 (dk_at dksX4_part_6 8 rfl rfl)
theorem dX4_part_148 : decode cX4_part 148 = .ok (.iadd, 1) := dk_96 (dk_at dksX4_part_6 9 rfl rfl)
theorem dX4_part_149 : decode cX4_part 149 = .ok (.putfield 158, 3) := dk_181 0 158 (dk_at dksX4_part_6 10 rfl rfl)
theorem dX4_part_152 : decode cX4_part 152 = .ok (.iload_n 1, 1) := dk_27 (dk_at dksX4_part_6 13 rfl rfl)
theorem dX4_part_153 : decode cX4_part 153 = .ok (.ifCond .eq 16, 3) := dk_153 0 16 (dk_at dksX4_part_6 14 rfl rfl)
theorem dX4_part_156 : decode cX4_part 156 = .ok (.aload_n 0, 1) := dk_42 (dk_at dksX4_part_6 17 rfl rfl)
theorem dX4_part_157 : decode cX4_part 157 = .ok (.invokevirtual 161, 3) := dk_182 0 161 (dk_at dksX4_part_6 18 rfl rfl)
theorem dX4_part_160 : decode cX4_part 160 = .ok (.aload_n 0, 1) := dk_42 (dk_at dksX4_part_6 21 rfl rfl)
theorem dX4_part_161 : decode cX4_part 161 = .ok (.bipush 11, 2) := dk_16 11 (dk_at dksX4_part_6 22 rfl rfl)
theorem dX4_part_163 : decode cX4_part 163 = .ok (.invokevirtual 142, 3) := dk_182 0 142 (dk_at dksX4_part_7 0 rfl rfl)
theorem dX4_part_166 : decode cX4_part 166 = .ok (.goto 13, 3) := dk_167 0 13 (dk_at dksX4_part_7 3 rfl rfl)
theorem dX4_part_169 : decode cX4_part 169 = .ok (.aload_n 0, 1) := dk_42 (dk_at dksX4_part_7 6 rfl rfl)
theorem dX4_part_170 : decode cX4_part 170 = .ok (.invokevirtual 164, 3) := dk_182 0 164 (dk_at dksX4_part_7 7 rfl rfl)
theorem dX4_part_173 : decode cX4_part 173 = .ok (.aload_n 0, 1) := dk_42 (dk_at dksX4_part_7 10 rfl rfl)
theorem dX4_part_174 : decode cX4_part 174 = .ok (.bipush 41, 2) := dk_16 41 (dk_at dksX4_part_7 11 rfl rfl)
theorem dX4_part_176 : decode cX4_part 176 = .ok (.invokevirtual 167, 3) := dk_182 0 167 (dk_at dksX4_part_7 13 rfl rfl)
theorem dX4_part_179 : decode cX4_part 179 = .ok (.aload_n 0, 1) := dk_42 (dk_at dksX4_part_7 16 rfl rfl)
theorem dX4_part_180 : decode cX4_part 180 = .ok (.dup, 1) := dk_89 (dk_at dksX4_part_7 17 rfl rfl)
theorem dX4_part_181 : decode cX4_part 181 = .ok (.getfield 158, 3) := dk_180 0 158 (dk_at dksX4_part_7 18 rfl rfl)
theorem dX4_part_184 : decode cX4_part 184 = .ok (.iconst 1, 1) := dk_4 (dk_at dksX4_part_7 21 rfl rfl)
theorem dX4_part_185 : decode cX4_part 185 = .ok (.isub, 1) := dk_100 (dk_at dksX4_part_7 22 rfl rfl)
theorem dX4_part_186 : decode cX4_part 186 = .ok (.putfield 158, 3) := dk_181 0 158 (dk_at dksX4_part_8 0 rfl rfl)
theorem dX4_part_189 : decode cX4_part 189 = .ok (.return_, 1) := dk_177 (dk_at dksX4_part_8 3 rfl rfl)
abbrev cX4_side : ByteArray := prog_12_method_28_code
def yX4_side : MethodName := ⟨RX4, "side", "()V"⟩
def dkwX4_side_3 : List UInt8 := [167, 255, 225, 42, 4, 42, 180, 0, 57, 182, 0, 95, 177]
abbrev dktX4_side_3 : List UInt8 := dkwX4_side_3 ++ []
def dkwX4_side_2 : List UInt8 := [27, 184, 0, 146, 182, 0, 150, 154, 0, 6, 167, 0, 11, 42, 5, 27, 96, 182, 0, 142, 177, 132, 1, 1]
abbrev dktX4_side_2 : List UInt8 := dkwX4_side_2 ++ dktX4_side_3
def dkwX4_side_1 : List UInt8 := [182, 0, 117, 60, 42, 4, 182, 0, 142, 42, 27, 182, 0, 142, 177, 3, 60, 27, 16, 6, 162, 0, 31, 42]
abbrev dktX4_side_1 : List UInt8 := dkwX4_side_1 ++ dktX4_side_2
def dkwX4_side_0 : List UInt8 := [42, 182, 0, 87, 154, 0, 4, 177, 42, 182, 0, 70, 184, 0, 99, 153, 0, 23, 42, 3, 17, 3, 231]
abbrev dktX4_side_0 : List UInt8 := dkwX4_side_0 ++ dktX4_side_1
theorem dksX4_side_0 : cX4_side.data.toList.drop 0 = dktX4_side_0 := by decide +kernel
theorem dksX4_side_1 : cX4_side.data.toList.drop 23 = dktX4_side_1 := dk_seg dksX4_side_0 23 rfl rfl
theorem dksX4_side_2 : cX4_side.data.toList.drop 47 = dktX4_side_2 := dk_seg dksX4_side_1 24 rfl rfl
theorem dksX4_side_3 : cX4_side.data.toList.drop 71 = dktX4_side_3 := dk_seg dksX4_side_2 24 rfl rfl
theorem dX4_side_0 : decode cX4_side 0 = .ok (.aload_n 0, 1) := dk_42 (dk_at dksX4_side_0 0 rfl rfl)
theorem dX4_side_1 : decode cX4_side 1 = .ok (.invokevirtual 87, 3) := dk_182 0 87 (dk_at dksX4_side_0 1 rfl rfl)
theorem dX4_side_4 : decode cX4_side 4 = .ok (.ifCond .ne 4, 3) := dk_154 0 4 (dk_at dksX4_side_0 4 rfl rfl)
theorem dX4_side_7 : decode cX4_side 7 = .ok (.return_, 1) := dk_177 (dk_at dksX4_side_0 7 rfl rfl)
theorem dX4_side_8 : decode cX4_side 8 = .ok (.aload_n 0, 1) := dk_42 (dk_at dksX4_side_0 8 rfl rfl)
theorem dX4_side_9 : decode cX4_side 9 = .ok (.invokevirtual 70, 3) := dk_182 0 70 (dk_at dksX4_side_0 9 rfl rfl)
theorem dX4_side_12 : decode cX4_side 12 = .ok (.invokestatic 99, 3) := dk_184 0 99 (dk_at dksX4_side_0 12 rfl rfl)
theorem dX4_side_15 : decode cX4_side 15 = .ok (.ifCond .eq 23, 3) := dk_153 0 23 (dk_at dksX4_side_0 15 rfl rfl)
theorem dX4_side_18 : decode cX4_side 18 = .ok (.aload_n 0, 1) := dk_42 (dk_at dksX4_side_0 18 rfl rfl)
theorem dX4_side_19 : decode cX4_side 19 = .ok (.iconst 0, 1) := dk_3 (dk_at dksX4_side_0 19 rfl rfl)
theorem dX4_side_20 : decode cX4_side 20 = .ok (.sipush 999, 3) := dk_17 3 231 (dk_at dksX4_side_0 20 rfl rfl)
theorem dX4_side_23 : decode cX4_side 23 = .ok (.invokevirtual 117, 3) := dk_182 0 117 (dk_at dksX4_side_1 0 rfl rfl)
theorem dX4_side_26 : decode cX4_side 26 = .ok (.istore_n 1, 1) := dk_60 (dk_at dksX4_side_1 3 rfl rfl)
theorem dX4_side_27 : decode cX4_side 27 = .ok (.aload_n 0, 1) := dk_42 (dk_at dksX4_side_1 4 rfl rfl)
theorem dX4_side_28 : decode cX4_side 28 = .ok (.iconst 1, 1) := dk_4 (dk_at dksX4_side_1 5 rfl rfl)
theorem dX4_side_29 : decode cX4_side 29 = .ok (.invokevirtual 142, 3) := dk_182 0 142 (dk_at dksX4_side_1 6 rfl rfl)
theorem dX4_side_32 : decode cX4_side 32 = .ok (.aload_n 0, 1) := dk_42 (dk_at dksX4_side_1 9 rfl rfl)
theorem dX4_side_33 : decode cX4_side 33 = .ok (.iload_n 1, 1) := dk_27 (dk_at dksX4_side_1 10 rfl rfl)
theorem dX4_side_34 : decode cX4_side 34 = .ok (.invokevirtual 142, 3) := dk_182 0 142 (dk_at dksX4_side_1 11 rfl rfl)
theorem dX4_side_37 : decode cX4_side 37 = .ok (.return_, 1) := dk_177 (dk_at dksX4_side_1 14 rfl rfl)
theorem dX4_side_38 : decode cX4_side 38 = .ok (.iconst 0, 1) := dk_3 (dk_at dksX4_side_1 15 rfl rfl)
theorem dX4_side_39 : decode cX4_side 39 = .ok (.istore_n 1, 1) := dk_60 (dk_at dksX4_side_1 16 rfl rfl)
theorem dX4_side_40 : decode cX4_side 40 = .ok (.iload_n 1, 1) := dk_27 (dk_at dksX4_side_1 17 rfl rfl)
theorem dX4_side_41 : decode cX4_side 41 = .ok (.bipush 6, 2) := dk_16 6 (dk_at dksX4_side_1 18 rfl rfl)
theorem dX4_side_43 : decode cX4_side 43 = .ok (.if_icmp .ge 31, 3) := dk_162 0 31 (dk_at dksX4_side_1 20 rfl rfl)
theorem dX4_side_46 : decode cX4_side 46 = .ok (.aload_n 0, 1) := dk_42 (dk_at dksX4_side_1 23 rfl rfl)
theorem dX4_side_47 : decode cX4_side 47 = .ok (.iload_n 1, 1) := dk_27 (dk_at dksX4_side_2 0 rfl rfl)
theorem dX4_side_48 : decode cX4_side 48 = .ok (.invokestatic 146, 3) := dk_184 0 146 (dk_at dksX4_side_2 1 rfl rfl)
theorem dX4_side_51 : decode cX4_side 51 = .ok (.invokevirtual 150, 3) := dk_182 0 150 (dk_at dksX4_side_2 4 rfl rfl)
theorem dX4_side_54 : decode cX4_side 54 = .ok (.ifCond .ne 6, 3) := dk_154 0 6 (dk_at dksX4_side_2 7 rfl rfl)
theorem dX4_side_57 : decode cX4_side 57 = .ok (.goto 11, 3) := dk_167 0 11 (dk_at dksX4_side_2 10 rfl rfl)
theorem dX4_side_60 : decode cX4_side 60 = .ok (.aload_n 0, 1) := dk_42 (dk_at dksX4_side_2 13 rfl rfl)
theorem dX4_side_61 : decode cX4_side 61 = .ok (.iconst 2, 1) := dk_5 (dk_at dksX4_side_2 14 rfl rfl)
theorem dX4_side_62 : decode cX4_side 62 = .ok (.iload_n 1, 1) := dk_27 (dk_at dksX4_side_2 15 rfl rfl)
theorem dX4_side_63 : decode cX4_side 63 = .ok (.iadd, 1) := dk_96 (dk_at dksX4_side_2 16 rfl rfl)
theorem dX4_side_64 : decode cX4_side 64 = .ok (.invokevirtual 142, 3) := dk_182 0 142 (dk_at dksX4_side_2 17 rfl rfl)
theorem dX4_side_67 : decode cX4_side 67 = .ok (.return_, 1) := dk_177 (dk_at dksX4_side_2 20 rfl rfl)
theorem dX4_side_68 : decode cX4_side 68 = .ok (.iinc 1 1, 3) := dk_132 1 1 (dk_at dksX4_side_2 21 rfl rfl)
theorem dX4_side_71 : decode cX4_side 71 = .ok (.goto (-31), 3) := dk_167 255 225 (dk_at dksX4_side_3 0 rfl rfl)
theorem dX4_side_74 : decode cX4_side 74 = .ok (.aload_n 0, 1) := dk_42 (dk_at dksX4_side_3 3 rfl rfl)
theorem dX4_side_75 : decode cX4_side 75 = .ok (.iconst 1, 1) := dk_4 (dk_at dksX4_side_3 4 rfl rfl)
theorem dX4_side_76 : decode cX4_side 76 = .ok (.aload_n 0, 1) := dk_42 (dk_at dksX4_side_3 5 rfl rfl)
theorem dX4_side_77 : decode cX4_side 77 = .ok (.getfield 57, 3) := dk_180 0 57 (dk_at dksX4_side_3 6 rfl rfl)
theorem dX4_side_80 : decode cX4_side 80 = .ok (.invokevirtual 95, 3) := dk_182 0 95 (dk_at dksX4_side_3 9 rfl rfl)
theorem dX4_side_83 : decode cX4_side 83 = .ok (.return_, 1) := dk_177 (dk_at dksX4_side_3 12 rfl rfl)
abbrev cX4_tells : ByteArray := prog_12_method_26_code
def yX4_tells : MethodName := ⟨RX4, "tells", "(I)V"⟩
def dkwX4_tells_1 : List UInt8 := [180, 0, 127, 4, 96, 181, 0, 127, 177]
abbrev dktX4_tells_1 : List UInt8 := dkwX4_tells_1 ++ []
def dkwX4_tells_0 : List UInt8 := [42, 182, 0, 87, 154, 0, 4, 177, 42, 180, 0, 23, 17, 1, 49, 42, 180, 0, 127, 96, 27, 79, 42, 89]
abbrev dktX4_tells_0 : List UInt8 := dkwX4_tells_0 ++ dktX4_tells_1
theorem dksX4_tells_0 : cX4_tells.data.toList.drop 0 = dktX4_tells_0 := by decide +kernel
theorem dksX4_tells_1 : cX4_tells.data.toList.drop 24 = dktX4_tells_1 := dk_seg dksX4_tells_0 24 rfl rfl
theorem dX4_tells_0 : decode cX4_tells 0 = .ok (.aload_n 0, 1) := dk_42 (dk_at dksX4_tells_0 0 rfl rfl)
theorem dX4_tells_1 : decode cX4_tells 1 = .ok (.invokevirtual 87, 3) := dk_182 0 87 (dk_at dksX4_tells_0 1 rfl rfl)
theorem dX4_tells_4 : decode cX4_tells 4 = .ok (.ifCond .ne 4, 3) := dk_154 0 4 (dk_at dksX4_tells_0 4 rfl rfl)
theorem dX4_tells_7 : decode cX4_tells 7 = .ok (.return_, 1) := dk_177 (dk_at dksX4_tells_0 7 rfl rfl)
theorem dX4_tells_8 : decode cX4_tells 8 = .ok (.aload_n 0, 1) := dk_42 (dk_at dksX4_tells_0 8 rfl rfl)
theorem dX4_tells_9 : decode cX4_tells 9 = .ok (.getfield 23, 3) := dk_180 0 23 (dk_at dksX4_tells_0 9 rfl rfl)
theorem dX4_tells_12 : decode cX4_tells 12 = .ok (.sipush 305, 3) := dk_17 1 49 (dk_at dksX4_tells_0 12 rfl rfl)
theorem dX4_tells_15 : decode cX4_tells 15 = .ok (.aload_n 0, 1) := dk_42 (dk_at dksX4_tells_0 15 rfl rfl)
theorem dX4_tells_16 : decode cX4_tells 16 = .ok (.getfield 127, 3) := dk_180 0 127 (dk_at dksX4_tells_0 16 rfl rfl)
theorem dX4_tells_19 : decode cX4_tells 19 = .ok (.iadd, 1) := dk_96 (dk_at dksX4_tells_0 19 rfl rfl)
theorem dX4_tells_20 : decode cX4_tells 20 = .ok (.iload_n 1, 1) := dk_27 (dk_at dksX4_tells_0 20 rfl rfl)
theorem dX4_tells_21 : decode cX4_tells 21 = .ok (.iastore, 1) := dk_79 (dk_at dksX4_tells_0 21 rfl rfl)
theorem dX4_tells_22 : decode cX4_tells 22 = .ok (.aload_n 0, 1) := dk_42 (dk_at dksX4_tells_0 22 rfl rfl)
theorem dX4_tells_23 : decode cX4_tells 23 = .ok (.dup, 1) := dk_89 (dk_at dksX4_tells_0 23 rfl rfl)
theorem dX4_tells_24 : decode cX4_tells 24 = .ok (.getfield 127, 3) := dk_180 0 127 (dk_at dksX4_tells_1 0 rfl rfl)
theorem dX4_tells_27 : decode cX4_tells 27 = .ok (.iconst 1, 1) := dk_4 (dk_at dksX4_tells_1 3 rfl rfl)
theorem dX4_tells_28 : decode cX4_tells 28 = .ok (.iadd, 1) := dk_96 (dk_at dksX4_tells_1 4 rfl rfl)
theorem dX4_tells_29 : decode cX4_tells 29 = .ok (.putfield 127, 3) := dk_181 0 127 (dk_at dksX4_tells_1 5 rfl rfl)
theorem dX4_tells_32 : decode cX4_tells 32 = .ok (.return_, 1) := dk_177 (dk_at dksX4_tells_1 8 rfl rfl)
abbrev cX4_factOf : ByteArray := prog_12_method_27_code
def yX4_factOf : MethodName := ⟨RX4, "factOf", "(I)Ljava/lang/String;"⟩
def dkwX4_factOf_2 : List UInt8 := [167, 0, 5, 18, 140, 176]
abbrev dktX4_factOf_2 : List UInt8 := dkwX4_factOf_2 ++ []
def dkwX4_factOf_1 : List UInt8 := [18, 134, 167, 0, 25, 26, 6, 160, 0, 8, 18, 136, 167, 0, 15, 26, 7, 160, 0, 8, 18, 138]
abbrev dktX4_factOf_1 : List UInt8 := dkwX4_factOf_1 ++ dktX4_factOf_2
def dkwX4_factOf_0 : List UInt8 := [26, 154, 0, 8, 18, 130, 167, 0, 45, 26, 4, 160, 0, 8, 18, 132, 167, 0, 35, 26, 5, 160, 0, 8]
abbrev dktX4_factOf_0 : List UInt8 := dkwX4_factOf_0 ++ dktX4_factOf_1
theorem dksX4_factOf_0 : cX4_factOf.data.toList.drop 0 = dktX4_factOf_0 := by decide +kernel
theorem dksX4_factOf_1 : cX4_factOf.data.toList.drop 24 = dktX4_factOf_1 := dk_seg dksX4_factOf_0 24 rfl rfl
theorem dksX4_factOf_2 : cX4_factOf.data.toList.drop 46 = dktX4_factOf_2 := dk_seg dksX4_factOf_1 22 rfl rfl
theorem dX4_factOf_0 : decode cX4_factOf 0 = .ok (.iload_n 0, 1) := dk_26 (dk_at dksX4_factOf_0 0 rfl rfl)
theorem dX4_factOf_1 : decode cX4_factOf 1 = .ok (.ifCond .ne 8, 3) := dk_154 0 8 (dk_at dksX4_factOf_0 1 rfl rfl)
theorem dX4_factOf_4 : decode cX4_factOf 4 = .ok (.ldc 130, 2) := dk_18 130 (dk_at dksX4_factOf_0 4 rfl rfl)
theorem dX4_factOf_6 : decode cX4_factOf 6 = .ok (.goto 45, 3) := dk_167 0 45 (dk_at dksX4_factOf_0 6 rfl rfl)
theorem dX4_factOf_9 : decode cX4_factOf 9 = .ok (.iload_n 0, 1) := dk_26 (dk_at dksX4_factOf_0 9 rfl rfl)
theorem dX4_factOf_10 : decode cX4_factOf 10 = .ok (.iconst 1, 1) := dk_4 (dk_at dksX4_factOf_0 10 rfl rfl)
theorem dX4_factOf_11 : decode cX4_factOf 11 = .ok (.if_icmp .ne 8, 3) := dk_160 0 8 (dk_at dksX4_factOf_0 11 rfl rfl)
theorem dX4_factOf_14 : decode cX4_factOf 14 = .ok (.ldc 132, 2) := dk_18 132 (dk_at dksX4_factOf_0 14 rfl rfl)
theorem dX4_factOf_16 : decode cX4_factOf 16 = .ok (.goto 35, 3) := dk_167 0 35 (dk_at dksX4_factOf_0 16 rfl rfl)
theorem dX4_factOf_19 : decode cX4_factOf 19 = .ok (.iload_n 0, 1) := dk_26 (dk_at dksX4_factOf_0 19 rfl rfl)
theorem dX4_factOf_20 : decode cX4_factOf 20 = .ok (.iconst 2, 1) := dk_5 (dk_at dksX4_factOf_0 20 rfl rfl)
theorem dX4_factOf_21 : decode cX4_factOf 21 = .ok (.if_icmp .ne 8, 3) := dk_160 0 8 (dk_at dksX4_factOf_0 21 rfl rfl)
theorem dX4_factOf_24 : decode cX4_factOf 24 = .ok (.ldc 134, 2) := dk_18 134 (dk_at dksX4_factOf_1 0 rfl rfl)
theorem dX4_factOf_26 : decode cX4_factOf 26 = .ok (.goto 25, 3) := dk_167 0 25 (dk_at dksX4_factOf_1 2 rfl rfl)
theorem dX4_factOf_29 : decode cX4_factOf 29 = .ok (.iload_n 0, 1) := dk_26 (dk_at dksX4_factOf_1 5 rfl rfl)
theorem dX4_factOf_30 : decode cX4_factOf 30 = .ok (.iconst 3, 1) := dk_6 (dk_at dksX4_factOf_1 6 rfl rfl)
theorem dX4_factOf_31 : decode cX4_factOf 31 = .ok (.if_icmp .ne 8, 3) := dk_160 0 8 (dk_at dksX4_factOf_1 7 rfl rfl)
theorem dX4_factOf_34 : decode cX4_factOf 34 = .ok (.ldc 136, 2) := dk_18 136 (dk_at dksX4_factOf_1 10 rfl rfl)
theorem dX4_factOf_36 : decode cX4_factOf 36 = .ok (.goto 15, 3) := dk_167 0 15 (dk_at dksX4_factOf_1 12 rfl rfl)
theorem dX4_factOf_39 : decode cX4_factOf 39 = .ok (.iload_n 0, 1) := dk_26 (dk_at dksX4_factOf_1 15 rfl rfl)
theorem dX4_factOf_40 : decode cX4_factOf 40 = .ok (.iconst 4, 1) := dk_7 (dk_at dksX4_factOf_1 16 rfl rfl)
theorem dX4_factOf_41 : decode cX4_factOf 41 = .ok (.if_icmp .ne 8, 3) := dk_160 0 8 (dk_at dksX4_factOf_1 17 rfl rfl)
theorem dX4_factOf_44 : decode cX4_factOf 44 = .ok (.ldc 138, 2) := dk_18 138 (dk_at dksX4_factOf_1 20 rfl rfl)
theorem dX4_factOf_46 : decode cX4_factOf 46 = .ok (.goto 5, 3) := dk_167 0 5 (dk_at dksX4_factOf_2 0 rfl rfl)
theorem dX4_factOf_49 : decode cX4_factOf 49 = .ok (.ldc 140, 2) := dk_18 140 (dk_at dksX4_factOf_2 3 rfl rfl)
theorem dX4_factOf_51 : decode cX4_factOf 51 = .ok (.areturn, 1) := dk_176 (dk_at dksX4_factOf_2 5 rfl rfl)
abbrev cX4_must : ByteArray := prog_12_method_20_code
def yX4_must : MethodName := ⟨RX4, "must", "(I)V"⟩
def dkwX4_must_1 : List UInt8 := [181, 0, 57, 167, 0, 12, 42, 4, 42, 180, 0, 57, 182, 0, 95, 177]
abbrev dktX4_must_1 : List UInt8 := dkwX4_must_1 ++ []
def dkwX4_must_0 : List UInt8 := [42, 182, 0, 87, 154, 0, 4, 177, 42, 182, 0, 70, 27, 160, 0, 16, 42, 89, 180, 0, 57, 4, 96]
abbrev dktX4_must_0 : List UInt8 := dkwX4_must_0 ++ dktX4_must_1
theorem dksX4_must_0 : cX4_must.data.toList.drop 0 = dktX4_must_0 := by decide +kernel
theorem dksX4_must_1 : cX4_must.data.toList.drop 23 = dktX4_must_1 := dk_seg dksX4_must_0 23 rfl rfl
theorem dX4_must_0 : decode cX4_must 0 = .ok (.aload_n 0, 1) := dk_42 (dk_at dksX4_must_0 0 rfl rfl)
theorem dX4_must_1 : decode cX4_must 1 = .ok (.invokevirtual 87, 3) := dk_182 0 87 (dk_at dksX4_must_0 1 rfl rfl)
theorem dX4_must_4 : decode cX4_must 4 = .ok (.ifCond .ne 4, 3) := dk_154 0 4 (dk_at dksX4_must_0 4 rfl rfl)
theorem dX4_must_7 : decode cX4_must 7 = .ok (.return_, 1) := dk_177 (dk_at dksX4_must_0 7 rfl rfl)
theorem dX4_must_8 : decode cX4_must 8 = .ok (.aload_n 0, 1) := dk_42 (dk_at dksX4_must_0 8 rfl rfl)
theorem dX4_must_9 : decode cX4_must 9 = .ok (.invokevirtual 70, 3) := dk_182 0 70 (dk_at dksX4_must_0 9 rfl rfl)
theorem dX4_must_12 : decode cX4_must 12 = .ok (.iload_n 1, 1) := dk_27 (dk_at dksX4_must_0 12 rfl rfl)
theorem dX4_must_13 : decode cX4_must 13 = .ok (.if_icmp .ne 16, 3) := dk_160 0 16 (dk_at dksX4_must_0 13 rfl rfl)
theorem dX4_must_16 : decode cX4_must 16 = .ok (.aload_n 0, 1) := dk_42 (dk_at dksX4_must_0 16 rfl rfl)
theorem dX4_must_17 : decode cX4_must 17 = .ok (.dup, 1) := dk_89 (dk_at dksX4_must_0 17 rfl rfl)
theorem dX4_must_18 : decode cX4_must 18 = .ok (.getfield 57, 3) := dk_180 0 57 (dk_at dksX4_must_0 18 rfl rfl)
theorem dX4_must_21 : decode cX4_must 21 = .ok (.iconst 1, 1) := dk_4 (dk_at dksX4_must_0 21 rfl rfl)
theorem dX4_must_22 : decode cX4_must 22 = .ok (.iadd, 1) := dk_96 (dk_at dksX4_must_0 22 rfl rfl)
theorem dX4_must_23 : decode cX4_must 23 = .ok (.putfield 57, 3) := dk_181 0 57 (dk_at dksX4_must_1 0 rfl rfl)
theorem dX4_must_26 : decode cX4_must 26 = .ok (.goto 12, 3) := dk_167 0 12 (dk_at dksX4_must_1 3 rfl rfl)
theorem dX4_must_29 : decode cX4_must 29 = .ok (.aload_n 0, 1) := dk_42 (dk_at dksX4_must_1 6 rfl rfl)
theorem dX4_must_30 : decode cX4_must 30 = .ok (.iconst 1, 1) := dk_4 (dk_at dksX4_must_1 7 rfl rfl)
theorem dX4_must_31 : decode cX4_must 31 = .ok (.aload_n 0, 1) := dk_42 (dk_at dksX4_must_1 8 rfl rfl)
theorem dX4_must_32 : decode cX4_must 32 = .ok (.getfield 57, 3) := dk_180 0 57 (dk_at dksX4_must_1 9 rfl rfl)
theorem dX4_must_35 : decode cX4_must 35 = .ok (.invokevirtual 95, 3) := dk_182 0 95 (dk_at dksX4_must_1 12 rfl rfl)
theorem dX4_must_38 : decode cX4_must 38 = .ok (.return_, 1) := dk_177 (dk_at dksX4_must_1 15 rfl rfl)
abbrev cX4_remembers : ByteArray := prog_12_method_42_code
def yX4_remembers : MethodName := ⟨RX4, "remembers", "()V"⟩
def dkwX4_remembers_3 : List UInt8 := [4, 96, 181, 0, 235, 177]
abbrev dktX4_remembers_3 : List UInt8 := dkwX4_remembers_3 ++ []
def dkwX4_remembers_2 : List UInt8 := [181, 0, 235, 42, 180, 0, 20, 42, 180, 0, 28, 42, 180, 0, 235, 50, 184, 0, 214, 42, 89, 180, 0, 235]
abbrev dktX4_remembers_2 : List UInt8 := dkwX4_remembers_2 ++ dktX4_remembers_3
def dkwX4_remembers_1 : List UInt8 := [180, 0, 28, 27, 4, 100, 50, 184, 0, 214, 132, 1, 1, 167, 255, 230, 42, 89, 180, 0, 235, 4, 100]
abbrev dktX4_remembers_1 : List UInt8 := dkwX4_remembers_1 ++ dktX4_remembers_2
def dkwX4_remembers_0 : List UInt8 := [42, 180, 0, 235, 16, 8, 160, 0, 44, 4, 60, 27, 16, 8, 162, 0, 26, 42, 180, 0, 28, 27, 50, 42]
abbrev dktX4_remembers_0 : List UInt8 := dkwX4_remembers_0 ++ dktX4_remembers_1
theorem dksX4_remembers_0 : cX4_remembers.data.toList.drop 0 = dktX4_remembers_0 := by decide +kernel
theorem dksX4_remembers_1 : cX4_remembers.data.toList.drop 24 = dktX4_remembers_1 := dk_seg dksX4_remembers_0 24 rfl rfl
theorem dksX4_remembers_2 : cX4_remembers.data.toList.drop 47 = dktX4_remembers_2 := dk_seg dksX4_remembers_1 23 rfl rfl
theorem dksX4_remembers_3 : cX4_remembers.data.toList.drop 71 = dktX4_remembers_3 := dk_seg dksX4_remembers_2 24 rfl rfl
theorem dX4_remembers_0 : decode cX4_remembers 0 = .ok (.aload_n 0, 1) := dk_42 (dk_at dksX4_remembers_0 0 rfl rfl)
theorem dX4_remembers_1 : decode cX4_remembers 1 = .ok (.getfield 235, 3) := dk_180 0 235 (dk_at dksX4_remembers_0 1 rfl rfl)
theorem dX4_remembers_4 : decode cX4_remembers 4 = .ok (.bipush 8, 2) := dk_16 8 (dk_at dksX4_remembers_0 4 rfl rfl)
theorem dX4_remembers_6 : decode cX4_remembers 6 = .ok (.if_icmp .ne 44, 3) := dk_160 0 44 (dk_at dksX4_remembers_0 6 rfl rfl)
theorem dX4_remembers_9 : decode cX4_remembers 9 = .ok (.iconst 1, 1) := dk_4 (dk_at dksX4_remembers_0 9 rfl rfl)
theorem dX4_remembers_10 : decode cX4_remembers 10 = .ok (.istore_n 1, 1) := dk_60 (dk_at dksX4_remembers_0 10 rfl rfl)
theorem dX4_remembers_11 : decode cX4_remembers 11 = .ok (.iload_n 1, 1) := dk_27 (dk_at dksX4_remembers_0 11 rfl rfl)
theorem dX4_remembers_12 : decode cX4_remembers 12 = .ok (.bipush 8, 2) := dk_16 8 (dk_at dksX4_remembers_0 12 rfl rfl)
theorem dX4_remembers_14 : decode cX4_remembers 14 = .ok (.if_icmp .ge 26, 3) := dk_162 0 26 (dk_at dksX4_remembers_0 14 rfl rfl)
theorem dX4_remembers_17 : decode cX4_remembers 17 = .ok (.aload_n 0, 1) := dk_42 (dk_at dksX4_remembers_0 17 rfl rfl)
theorem dX4_remembers_18 : decode cX4_remembers 18 = .ok (.getfield 28, 3) := dk_180 0 28 (dk_at dksX4_remembers_0 18 rfl rfl)
theorem dX4_remembers_21 : decode cX4_remembers 21 = .ok (.iload_n 1, 1) := dk_27 (dk_at dksX4_remembers_0 21 rfl rfl)
theorem dX4_remembers_22 : decode cX4_remembers 22 = .ok (.aaload, 1) := dk_50 (dk_at dksX4_remembers_0 22 rfl rfl)
theorem dX4_remembers_23 : decode cX4_remembers 23 = .ok (.aload_n 0, 1) := dk_42 (dk_at dksX4_remembers_0 23 rfl rfl)
theorem dX4_remembers_24 : decode cX4_remembers 24 = .ok (.getfield 28, 3) := dk_180 0 28 (dk_at dksX4_remembers_1 0 rfl rfl)
theorem dX4_remembers_27 : decode cX4_remembers 27 = .ok (.iload_n 1, 1) := dk_27 (dk_at dksX4_remembers_1 3 rfl rfl)
theorem dX4_remembers_28 : decode cX4_remembers 28 = .ok (.iconst 1, 1) := dk_4 (dk_at dksX4_remembers_1 4 rfl rfl)
theorem dX4_remembers_29 : decode cX4_remembers 29 = .ok (.isub, 1) := dk_100 (dk_at dksX4_remembers_1 5 rfl rfl)
theorem dX4_remembers_30 : decode cX4_remembers 30 = .ok (.aaload, 1) := dk_50 (dk_at dksX4_remembers_1 6 rfl rfl)
theorem dX4_remembers_31 : decode cX4_remembers 31 = .ok (.invokestatic 214, 3) := dk_184 0 214 (dk_at dksX4_remembers_1 7 rfl rfl)
theorem dX4_remembers_34 : decode cX4_remembers 34 = .ok (.iinc 1 1, 3) := dk_132 1 1 (dk_at dksX4_remembers_1 10 rfl rfl)
theorem dX4_remembers_37 : decode cX4_remembers 37 = .ok (.goto (-26), 3) := dk_167 255 230 (dk_at dksX4_remembers_1 13 rfl rfl)
theorem dX4_remembers_40 : decode cX4_remembers 40 = .ok (.aload_n 0, 1) := dk_42 (dk_at dksX4_remembers_1 16 rfl rfl)
theorem dX4_remembers_41 : decode cX4_remembers 41 = .ok (.dup, 1) := dk_89 (dk_at dksX4_remembers_1 17 rfl rfl)
theorem dX4_remembers_42 : decode cX4_remembers 42 = .ok (.getfield 235, 3) := dk_180 0 235 (dk_at dksX4_remembers_1 18 rfl rfl)
theorem dX4_remembers_45 : decode cX4_remembers 45 = .ok (.iconst 1, 1) := dk_4 (dk_at dksX4_remembers_1 21 rfl rfl)
theorem dX4_remembers_46 : decode cX4_remembers 46 = .ok (.isub, 1) := dk_100 (dk_at dksX4_remembers_1 22 rfl rfl)
theorem dX4_remembers_47 : decode cX4_remembers 47 = .ok (.putfield 235, 3) := dk_181 0 235 (dk_at dksX4_remembers_2 0 rfl rfl)
theorem dX4_remembers_50 : decode cX4_remembers 50 = .ok (.aload_n 0, 1) := dk_42 (dk_at dksX4_remembers_2 3 rfl rfl)
theorem dX4_remembers_51 : decode cX4_remembers 51 = .ok (.getfield 20, 3) := dk_180 0 20 (dk_at dksX4_remembers_2 4 rfl rfl)
theorem dX4_remembers_54 : decode cX4_remembers 54 = .ok (.aload_n 0, 1) := dk_42 (dk_at dksX4_remembers_2 7 rfl rfl)
theorem dX4_remembers_55 : decode cX4_remembers 55 = .ok (.getfield 28, 3) := dk_180 0 28 (dk_at dksX4_remembers_2 8 rfl rfl)
theorem dX4_remembers_58 : decode cX4_remembers 58 = .ok (.aload_n 0, 1) := dk_42 (dk_at dksX4_remembers_2 11 rfl rfl)
theorem dX4_remembers_59 : decode cX4_remembers 59 = .ok (.getfield 235, 3) := dk_180 0 235 (dk_at dksX4_remembers_2 12 rfl rfl)
theorem dX4_remembers_62 : decode cX4_remembers 62 = .ok (.aaload, 1) := dk_50 (dk_at dksX4_remembers_2 15 rfl rfl)
theorem dX4_remembers_63 : decode cX4_remembers 63 = .ok (.invokestatic 214, 3) := dk_184 0 214 (dk_at dksX4_remembers_2 16 rfl rfl)
theorem dX4_remembers_66 : decode cX4_remembers 66 = .ok (.aload_n 0, 1) := dk_42 (dk_at dksX4_remembers_2 19 rfl rfl)
theorem dX4_remembers_67 : decode cX4_remembers 67 = .ok (.dup, 1) := dk_89 (dk_at dksX4_remembers_2 20 rfl rfl)
theorem dX4_remembers_68 : decode cX4_remembers 68 = .ok (.getfield 235, 3) := dk_180 0 235 (dk_at dksX4_remembers_2 21 rfl rfl)
theorem dX4_remembers_71 : decode cX4_remembers 71 = .ok (.iconst 1, 1) := dk_4 (dk_at dksX4_remembers_3 0 rfl rfl)
theorem dX4_remembers_72 : decode cX4_remembers 72 = .ok (.iadd, 1) := dk_96 (dk_at dksX4_remembers_3 1 rfl rfl)
theorem dX4_remembers_73 : decode cX4_remembers 73 = .ok (.putfield 235, 3) := dk_181 0 235 (dk_at dksX4_remembers_3 2 rfl rfl)
theorem dX4_remembers_76 : decode cX4_remembers 76 = .ok (.return_, 1) := dk_177 (dk_at dksX4_remembers_3 5 rfl rfl)
abbrev cX4_copies : ByteArray := prog_12_method_8_code
def yX4_copies : MethodName := ⟨RX4, "copies", "([I[I)V"⟩
def dkwX4_copies_0 : List UInt8 := [3, 61, 28, 17, 4, 81, 162, 0, 15, 43, 28, 42, 28, 46, 79, 132, 2, 1, 167, 255, 240, 177]
abbrev dktX4_copies_0 : List UInt8 := dkwX4_copies_0 ++ []
theorem dksX4_copies_0 : cX4_copies.data.toList.drop 0 = dktX4_copies_0 := by decide +kernel
theorem dX4_copies_0 : decode cX4_copies 0 = .ok (.iconst 0, 1) := dk_3 (dk_at dksX4_copies_0 0 rfl rfl)
theorem dX4_copies_1 : decode cX4_copies 1 = .ok (.istore_n 2, 1) := dk_61 (dk_at dksX4_copies_0 1 rfl rfl)
theorem dX4_copies_2 : decode cX4_copies 2 = .ok (.iload_n 2, 1) := dk_28 (dk_at dksX4_copies_0 2 rfl rfl)
theorem dX4_copies_3 : decode cX4_copies 3 = .ok (.sipush 1105, 3) := dk_17 4 81 (dk_at dksX4_copies_0 3 rfl rfl)
theorem dX4_copies_6 : decode cX4_copies 6 = .ok (.if_icmp .ge 15, 3) := dk_162 0 15 (dk_at dksX4_copies_0 6 rfl rfl)
theorem dX4_copies_9 : decode cX4_copies 9 = .ok (.aload_n 1, 1) := dk_43 (dk_at dksX4_copies_0 9 rfl rfl)
theorem dX4_copies_10 : decode cX4_copies 10 = .ok (.iload_n 2, 1) := dk_28 (dk_at dksX4_copies_0 10 rfl rfl)
theorem dX4_copies_11 : decode cX4_copies 11 = .ok (.aload_n 0, 1) := dk_42 (dk_at dksX4_copies_0 11 rfl rfl)
theorem dX4_copies_12 : decode cX4_copies 12 = .ok (.iload_n 2, 1) := dk_28 (dk_at dksX4_copies_0 12 rfl rfl)
theorem dX4_copies_13 : decode cX4_copies 13 = .ok (.iaload, 1) := dk_46 (dk_at dksX4_copies_0 13 rfl rfl)
theorem dX4_copies_14 : decode cX4_copies 14 = .ok (.iastore, 1) := dk_79 (dk_at dksX4_copies_0 14 rfl rfl)
theorem dX4_copies_15 : decode cX4_copies 15 = .ok (.iinc 2 1, 3) := dk_132 2 1 (dk_at dksX4_copies_0 15 rfl rfl)
theorem dX4_copies_18 : decode cX4_copies 18 = .ok (.goto (-16), 3) := dk_167 255 240 (dk_at dksX4_copies_0 18 rfl rfl)
theorem dX4_copies_21 : decode cX4_copies 21 = .ok (.return_, 1) := dk_177 (dk_at dksX4_copies_0 21 rfl rfl)
abbrev cX4_lines : ByteArray := prog_12_method_11_code
def yX4_lines : MethodName := ⟨RX4, "lines", "()I"⟩
def dkwX4_lines_0 : List UInt8 := [42, 180, 0, 20, 5, 46, 172]
abbrev dktX4_lines_0 : List UInt8 := dkwX4_lines_0 ++ []
theorem dksX4_lines_0 : cX4_lines.data.toList.drop 0 = dktX4_lines_0 := by decide +kernel
theorem dX4_lines_0 : decode cX4_lines 0 = .ok (.aload_n 0, 1) := dk_42 (dk_at dksX4_lines_0 0 rfl rfl)
theorem dX4_lines_1 : decode cX4_lines 1 = .ok (.getfield 20, 3) := dk_180 0 20 (dk_at dksX4_lines_0 1 rfl rfl)
theorem dX4_lines_4 : decode cX4_lines 4 = .ok (.iconst 2, 1) := dk_5 (dk_at dksX4_lines_0 4 rfl rfl)
theorem dX4_lines_5 : decode cX4_lines 5 = .ok (.iaload, 1) := dk_46 (dk_at dksX4_lines_0 5 rfl rfl)
theorem dX4_lines_6 : decode cX4_lines 6 = .ok (.ireturn, 1) := dk_172 (dk_at dksX4_lines_0 6 rfl rfl)
abbrev cX4_fault : ByteArray := prog_12_method_35_code
def yX4_fault : MethodName := ⟨RX4, "fault", "()I"⟩
def dkwX4_fault_0 : List UInt8 := [42, 3, 181, 0, 48, 42, 180, 0, 13, 172]
abbrev dktX4_fault_0 : List UInt8 := dkwX4_fault_0 ++ []
theorem dksX4_fault_0 : cX4_fault.data.toList.drop 0 = dktX4_fault_0 := by decide +kernel
theorem dX4_fault_0 : decode cX4_fault 0 = .ok (.aload_n 0, 1) := dk_42 (dk_at dksX4_fault_0 0 rfl rfl)
theorem dX4_fault_1 : decode cX4_fault 1 = .ok (.iconst 0, 1) := dk_3 (dk_at dksX4_fault_0 1 rfl rfl)
theorem dX4_fault_2 : decode cX4_fault 2 = .ok (.putfield 48, 3) := dk_181 0 48 (dk_at dksX4_fault_0 2 rfl rfl)
theorem dX4_fault_5 : decode cX4_fault 5 = .ok (.aload_n 0, 1) := dk_42 (dk_at dksX4_fault_0 5 rfl rfl)
theorem dX4_fault_6 : decode cX4_fault 6 = .ok (.getfield 13, 3) := dk_180 0 13 (dk_at dksX4_fault_0 6 rfl rfl)
theorem dX4_fault_9 : decode cX4_fault 9 = .ok (.ireturn, 1) := dk_172 (dk_at dksX4_fault_0 9 rfl rfl)
abbrev cX4_undo : ByteArray := prog_12_method_43_code
def yX4_undo : MethodName := ⟨RX4, "undo", "()I"⟩
def dkwX4_undo_1 : List UInt8 := [42, 180, 0, 28, 42, 180, 0, 235, 50, 42, 180, 0, 20, 184, 0, 214, 42, 180, 0, 235, 172]
abbrev dktX4_undo_1 : List UInt8 := dkwX4_undo_1 ++ []
def dkwX4_undo_0 : List UInt8 := [42, 3, 181, 0, 48, 42, 180, 0, 235, 154, 0, 5, 2, 172, 42, 89, 180, 0, 235, 4, 100, 181, 0, 235]
abbrev dktX4_undo_0 : List UInt8 := dkwX4_undo_0 ++ dktX4_undo_1
theorem dksX4_undo_0 : cX4_undo.data.toList.drop 0 = dktX4_undo_0 := by decide +kernel
theorem dksX4_undo_1 : cX4_undo.data.toList.drop 24 = dktX4_undo_1 := dk_seg dksX4_undo_0 24 rfl rfl
theorem dX4_undo_0 : decode cX4_undo 0 = .ok (.aload_n 0, 1) := dk_42 (dk_at dksX4_undo_0 0 rfl rfl)
theorem dX4_undo_1 : decode cX4_undo 1 = .ok (.iconst 0, 1) := dk_3 (dk_at dksX4_undo_0 1 rfl rfl)
theorem dX4_undo_2 : decode cX4_undo 2 = .ok (.putfield 48, 3) := dk_181 0 48 (dk_at dksX4_undo_0 2 rfl rfl)
theorem dX4_undo_5 : decode cX4_undo 5 = .ok (.aload_n 0, 1) := dk_42 (dk_at dksX4_undo_0 5 rfl rfl)
theorem dX4_undo_6 : decode cX4_undo 6 = .ok (.getfield 235, 3) := dk_180 0 235 (dk_at dksX4_undo_0 6 rfl rfl)
theorem dX4_undo_9 : decode cX4_undo 9 = .ok (.ifCond .ne 5, 3) := dk_154 0 5 (dk_at dksX4_undo_0 9 rfl rfl)
theorem dX4_undo_12 : decode cX4_undo 12 = .ok (.iconst (-1), 1) := dk_2 (dk_at dksX4_undo_0 12 rfl rfl)
theorem dX4_undo_13 : decode cX4_undo 13 = .ok (.ireturn, 1) := dk_172 (dk_at dksX4_undo_0 13 rfl rfl)
theorem dX4_undo_14 : decode cX4_undo 14 = .ok (.aload_n 0, 1) := dk_42 (dk_at dksX4_undo_0 14 rfl rfl)
theorem dX4_undo_15 : decode cX4_undo 15 = .ok (.dup, 1) := dk_89 (dk_at dksX4_undo_0 15 rfl rfl)
theorem dX4_undo_16 : decode cX4_undo 16 = .ok (.getfield 235, 3) := dk_180 0 235 (dk_at dksX4_undo_0 16 rfl rfl)
theorem dX4_undo_19 : decode cX4_undo 19 = .ok (.iconst 1, 1) := dk_4 (dk_at dksX4_undo_0 19 rfl rfl)
theorem dX4_undo_20 : decode cX4_undo 20 = .ok (.isub, 1) := dk_100 (dk_at dksX4_undo_0 20 rfl rfl)
theorem dX4_undo_21 : decode cX4_undo 21 = .ok (.putfield 235, 3) := dk_181 0 235 (dk_at dksX4_undo_0 21 rfl rfl)
theorem dX4_undo_24 : decode cX4_undo 24 = .ok (.aload_n 0, 1) := dk_42 (dk_at dksX4_undo_1 0 rfl rfl)
theorem dX4_undo_25 : decode cX4_undo 25 = .ok (.getfield 28, 3) := dk_180 0 28 (dk_at dksX4_undo_1 1 rfl rfl)
theorem dX4_undo_28 : decode cX4_undo 28 = .ok (.aload_n 0, 1) := dk_42 (dk_at dksX4_undo_1 4 rfl rfl)
theorem dX4_undo_29 : decode cX4_undo 29 = .ok (.getfield 235, 3) := dk_180 0 235 (dk_at dksX4_undo_1 5 rfl rfl)
theorem dX4_undo_32 : decode cX4_undo 32 = .ok (.aaload, 1) := dk_50 (dk_at dksX4_undo_1 8 rfl rfl)
theorem dX4_undo_33 : decode cX4_undo 33 = .ok (.aload_n 0, 1) := dk_42 (dk_at dksX4_undo_1 9 rfl rfl)
theorem dX4_undo_34 : decode cX4_undo 34 = .ok (.getfield 20, 3) := dk_180 0 20 (dk_at dksX4_undo_1 10 rfl rfl)
theorem dX4_undo_37 : decode cX4_undo 37 = .ok (.invokestatic 214, 3) := dk_184 0 214 (dk_at dksX4_undo_1 13 rfl rfl)
theorem dX4_undo_40 : decode cX4_undo 40 = .ok (.aload_n 0, 1) := dk_42 (dk_at dksX4_undo_1 16 rfl rfl)
theorem dX4_undo_41 : decode cX4_undo 41 = .ok (.getfield 235, 3) := dk_180 0 235 (dk_at dksX4_undo_1 17 rfl rfl)
theorem dX4_undo_44 : decode cX4_undo 44 = .ok (.ireturn, 1) := dk_172 (dk_at dksX4_undo_1 20 rfl rfl)
abbrev cX4_sample : ByteArray := prog_12_method_53_code
def yX4_sample : MethodName := ⟨RX4, "sample", "(III)I"⟩
def dkwX4_sample_8 : List UInt8 := [3, 182, 0, 255, 42, 27, 182, 1, 3, 172]
abbrev dktX4_sample_8 : List UInt8 := dkwX4_sample_8 ++ []
def dkwX4_sample_7 : List UInt8 := [17, 0, 225, 16, 40, 27, 104, 96, 21, 7, 96, 4, 79, 132, 5, 1, 167, 255, 160, 42, 42, 180, 0, 20]
abbrev dktX4_sample_7 : List UInt8 := dkwX4_sample_7 ++ dktX4_sample_8
def dkwX4_sample_6 : List UInt8 := [182, 0, 244, 153, 0, 7, 3, 167, 0, 4, 4, 100, 54, 6, 132, 7, 1, 167, 255, 218, 42, 180, 0, 20]
abbrev dktX4_sample_6 : List UInt8 := dkwX4_sample_6 ++ dktX4_sample_7
def dkwX4_sample_5 : List UInt8 := [54, 7, 42, 27, 21, 7, 182, 0, 244, 154, 0, 8, 21, 6, 158, 0, 29, 21, 6, 42, 27, 21, 7]
abbrev dktX4_sample_5 : List UInt8 := dkwX4_sample_5 ++ dktX4_sample_6
def dkwX4_sample_4 : List UInt8 := [104, 17, 48, 57, 96, 54, 4, 21, 4, 16, 8, 124, 42, 182, 0, 218, 21, 5, 100, 112, 54, 6, 3]
abbrev dktX4_sample_4 : List UInt8 := dkwX4_sample_4 ++ dktX4_sample_5
def dkwX4_sample_3 : List UInt8 := [3, 79, 132, 4, 1, 167, 255, 229, 29, 54, 4, 3, 54, 5, 21, 5, 28, 162, 0, 96, 18, 254, 21, 4]
abbrev dktX4_sample_3 : List UInt8 := dkwX4_sample_3 ++ dktX4_sample_4
def dkwX4_sample_2 : List UInt8 := [54, 4, 21, 4, 16, 40, 162, 0, 26, 42, 180, 0, 20, 17, 0, 225, 16, 40, 27, 104, 96, 21, 4, 96]
abbrev dktX4_sample_2 : List UInt8 := dkwX4_sample_2 ++ dktX4_sample_3
def dkwX4_sample_1 : List UInt8 := [154, 0, 7, 4, 167, 0, 4, 3, 4, 4, 182, 0, 204, 153, 0, 5, 3, 172, 42, 182, 0, 211, 3]
abbrev dktX4_sample_1 : List UInt8 := dkwX4_sample_1 ++ dktX4_sample_2
def dkwX4_sample_0 : List UInt8 := [42, 3, 181, 0, 48, 42, 27, 184, 0, 251, 153, 0, 17, 28, 133, 10, 42, 182, 0, 218, 133, 184, 0, 107]
abbrev dktX4_sample_0 : List UInt8 := dkwX4_sample_0 ++ dktX4_sample_1
theorem dksX4_sample_0 : cX4_sample.data.toList.drop 0 = dktX4_sample_0 := by decide +kernel
theorem dksX4_sample_1 : cX4_sample.data.toList.drop 24 = dktX4_sample_1 := dk_seg dksX4_sample_0 24 rfl rfl
theorem dksX4_sample_2 : cX4_sample.data.toList.drop 47 = dktX4_sample_2 := dk_seg dksX4_sample_1 23 rfl rfl
theorem dksX4_sample_3 : cX4_sample.data.toList.drop 71 = dktX4_sample_3 := dk_seg dksX4_sample_2 24 rfl rfl
theorem dksX4_sample_4 : cX4_sample.data.toList.drop 95 = dktX4_sample_4 := dk_seg dksX4_sample_3 24 rfl rfl
theorem dksX4_sample_5 : cX4_sample.data.toList.drop 118 = dktX4_sample_5 := dk_seg dksX4_sample_4 23 rfl rfl
theorem dksX4_sample_6 : cX4_sample.data.toList.drop 141 = dktX4_sample_6 := dk_seg dksX4_sample_5 23 rfl rfl
theorem dksX4_sample_7 : cX4_sample.data.toList.drop 165 = dktX4_sample_7 := dk_seg dksX4_sample_6 24 rfl rfl
theorem dksX4_sample_8 : cX4_sample.data.toList.drop 189 = dktX4_sample_8 := dk_seg dksX4_sample_7 24 rfl rfl
theorem dX4_sample_0 : decode cX4_sample 0 = .ok (.aload_n 0, 1) := dk_42 (dk_at dksX4_sample_0 0 rfl rfl)
theorem dX4_sample_1 : decode cX4_sample 1 = .ok (.iconst 0, 1) := dk_3 (dk_at dksX4_sample_0 1 rfl rfl)
theorem dX4_sample_2 : decode cX4_sample 2 = .ok (.putfield 48, 3) := dk_181 0 48 (dk_at dksX4_sample_0 2 rfl rfl)
theorem dX4_sample_5 : decode cX4_sample 5 = .ok (.aload_n 0, 1) := dk_42 (dk_at dksX4_sample_0 5 rfl rfl)
theorem dX4_sample_6 : decode cX4_sample 6 = .ok (.iload_n 1, 1) := dk_27 (dk_at dksX4_sample_0 6 rfl rfl)
theorem dX4_sample_7 : decode cX4_sample 7 = .ok (.invokestatic 251, 3) := dk_184 0 251 (dk_at dksX4_sample_0 7 rfl rfl)
theorem dX4_sample_10 : decode cX4_sample 10 = .ok (.ifCond .eq 17, 3) := dk_153 0 17 (dk_at dksX4_sample_0 10 rfl rfl)
theorem dX4_sample_13 : decode cX4_sample 13 = .ok (.iload_n 2, 1) := dk_28 (dk_at dksX4_sample_0 13 rfl rfl)
theorem dX4_sample_14 : decode cX4_sample 14 = .ok (.i2l, 1) := dk_133 (dk_at dksX4_sample_0 14 rfl rfl)
theorem dX4_sample_15 : decode cX4_sample 15 = .ok (.lconst 1, 1) := dk_10 (dk_at dksX4_sample_0 15 rfl rfl)
theorem dX4_sample_16 : decode cX4_sample 16 = .ok (.aload_n 0, 1) := dk_42 (dk_at dksX4_sample_0 16 rfl rfl)
theorem dX4_sample_17 : decode cX4_sample 17 = .ok (.invokevirtual 218, 3) := dk_182 0 218 (dk_at dksX4_sample_0 17 rfl rfl)
theorem dX4_sample_20 : decode cX4_sample 20 = .ok (.i2l, 1) := dk_133 (dk_at dksX4_sample_0 20 rfl rfl)
theorem dX4_sample_21 : decode cX4_sample 21 = .ok (.invokestatic 107, 3) := dk_184 0 107 (dk_at dksX4_sample_0 21 rfl rfl)
theorem dX4_sample_24 : decode cX4_sample 24 = .ok (.ifCond .ne 7, 3) := dk_154 0 7 (dk_at dksX4_sample_1 0 rfl rfl)
theorem dX4_sample_27 : decode cX4_sample 27 = .ok (.iconst 1, 1) := dk_4 (dk_at dksX4_sample_1 3 rfl rfl)
theorem dX4_sample_28 : decode cX4_sample 28 = .ok (.goto 4, 3) := dk_167 0 4 (dk_at dksX4_sample_1 4 rfl rfl)
theorem dX4_sample_31 : decode cX4_sample 31 = .ok (.iconst 0, 1) := dk_3 (dk_at dksX4_sample_1 7 rfl rfl)
theorem dX4_sample_32 : decode cX4_sample 32 = .ok (.iconst 1, 1) := dk_4 (dk_at dksX4_sample_1 8 rfl rfl)
theorem dX4_sample_33 : decode cX4_sample 33 = .ok (.iconst 1, 1) := dk_4 (dk_at dksX4_sample_1 9 rfl rfl)
theorem dX4_sample_34 : decode cX4_sample 34 = .ok (.invokevirtual 204, 3) := dk_182 0 204 (dk_at dksX4_sample_1 10 rfl rfl)
theorem dX4_sample_37 : decode cX4_sample 37 = .ok (.ifCond .eq 5, 3) := dk_153 0 5 (dk_at dksX4_sample_1 13 rfl rfl)
theorem dX4_sample_40 : decode cX4_sample 40 = .ok (.iconst 0, 1) := dk_3 (dk_at dksX4_sample_1 16 rfl rfl)
theorem dX4_sample_41 : decode cX4_sample 41 = .ok (.ireturn, 1) := dk_172 (dk_at dksX4_sample_1 17 rfl rfl)
theorem dX4_sample_42 : decode cX4_sample 42 = .ok (.aload_n 0, 1) := dk_42 (dk_at dksX4_sample_1 18 rfl rfl)
theorem dX4_sample_43 : decode cX4_sample 43 = .ok (.invokevirtual 211, 3) := dk_182 0 211 (dk_at dksX4_sample_1 19 rfl rfl)
theorem dX4_sample_46 : decode cX4_sample 46 = .ok (.iconst 0, 1) := dk_3 (dk_at dksX4_sample_1 22 rfl rfl)
theorem dX4_sample_47 : decode cX4_sample 47 = .ok (.istore 4, 2) := dk_54 4 (dk_at dksX4_sample_2 0 rfl rfl)
theorem dX4_sample_49 : decode cX4_sample 49 = .ok (.iload 4, 2) := dk_21 4 (dk_at dksX4_sample_2 2 rfl rfl)
theorem dX4_sample_51 : decode cX4_sample 51 = .ok (.bipush 40, 2) := dk_16 40 (dk_at dksX4_sample_2 4 rfl rfl)
theorem dX4_sample_53 : decode cX4_sample 53 = .ok (.if_icmp .ge 26, 3) := dk_162 0 26 (dk_at dksX4_sample_2 6 rfl rfl)
theorem dX4_sample_56 : decode cX4_sample 56 = .ok (.aload_n 0, 1) := dk_42 (dk_at dksX4_sample_2 9 rfl rfl)
theorem dX4_sample_57 : decode cX4_sample 57 = .ok (.getfield 20, 3) := dk_180 0 20 (dk_at dksX4_sample_2 10 rfl rfl)
theorem dX4_sample_60 : decode cX4_sample 60 = .ok (.sipush 225, 3) := dk_17 0 225 (dk_at dksX4_sample_2 13 rfl rfl)
theorem dX4_sample_63 : decode cX4_sample 63 = .ok (.bipush 40, 2) := dk_16 40 (dk_at dksX4_sample_2 16 rfl rfl)
theorem dX4_sample_65 : decode cX4_sample 65 = .ok (.iload_n 1, 1) := dk_27 (dk_at dksX4_sample_2 18 rfl rfl)
theorem dX4_sample_66 : decode cX4_sample 66 = .ok (.imul, 1) := dk_104 (dk_at dksX4_sample_2 19 rfl rfl)
theorem dX4_sample_67 : decode cX4_sample 67 = .ok (.iadd, 1) := dk_96 (dk_at dksX4_sample_2 20 rfl rfl)
theorem dX4_sample_68 : decode cX4_sample 68 = .ok (.iload 4, 2) := dk_21 4 (dk_at dksX4_sample_2 21 rfl rfl)
theorem dX4_sample_70 : decode cX4_sample 70 = .ok (.iadd, 1) := dk_96 (dk_at dksX4_sample_2 23 rfl rfl)
theorem dX4_sample_71 : decode cX4_sample 71 = .ok (.iconst 0, 1) := dk_3 (dk_at dksX4_sample_3 0 rfl rfl)
theorem dX4_sample_72 : decode cX4_sample 72 = .ok (.iastore, 1) := dk_79 (dk_at dksX4_sample_3 1 rfl rfl)
theorem dX4_sample_73 : decode cX4_sample 73 = .ok (.iinc 4 1, 3) := dk_132 4 1 (dk_at dksX4_sample_3 2 rfl rfl)
theorem dX4_sample_76 : decode cX4_sample 76 = .ok (.goto (-27), 3) := dk_167 255 229 (dk_at dksX4_sample_3 5 rfl rfl)
theorem dX4_sample_79 : decode cX4_sample 79 = .ok (.iload_n 3, 1) := dk_29 (dk_at dksX4_sample_3 8 rfl rfl)
theorem dX4_sample_80 : decode cX4_sample 80 = .ok (.istore 4, 2) := dk_54 4 (dk_at dksX4_sample_3 9 rfl rfl)
theorem dX4_sample_82 : decode cX4_sample 82 = .ok (.iconst 0, 1) := dk_3 (dk_at dksX4_sample_3 11 rfl rfl)
theorem dX4_sample_83 : decode cX4_sample 83 = .ok (.istore 5, 2) := dk_54 5 (dk_at dksX4_sample_3 12 rfl rfl)
theorem dX4_sample_85 : decode cX4_sample 85 = .ok (.iload 5, 2) := dk_21 5 (dk_at dksX4_sample_3 14 rfl rfl)
theorem dX4_sample_87 : decode cX4_sample 87 = .ok (.iload_n 2, 1) := dk_28 (dk_at dksX4_sample_3 16 rfl rfl)
theorem dX4_sample_88 : decode cX4_sample 88 = .ok (.if_icmp .ge 96, 3) := dk_162 0 96 (dk_at dksX4_sample_3 17 rfl rfl)
theorem dX4_sample_91 : decode cX4_sample 91 = .ok (.ldc 254, 2) := dk_18 254 (dk_at dksX4_sample_3 20 rfl rfl)
theorem dX4_sample_93 : decode cX4_sample 93 = .ok (.iload 4, 2) := dk_21 4 (dk_at dksX4_sample_3 22 rfl rfl)
theorem dX4_sample_95 : decode cX4_sample 95 = .ok (.imul, 1) := dk_104 (dk_at dksX4_sample_4 0 rfl rfl)
theorem dX4_sample_96 : decode cX4_sample 96 = .ok (.sipush 12345, 3) := dk_17 48 57 (dk_at dksX4_sample_4 1 rfl rfl)
theorem dX4_sample_99 : decode cX4_sample 99 = .ok (.iadd, 1) := dk_96 (dk_at dksX4_sample_4 4 rfl rfl)
theorem dX4_sample_100 : decode cX4_sample 100 = .ok (.istore 4, 2) := dk_54 4 (dk_at dksX4_sample_4 5 rfl rfl)
theorem dX4_sample_102 : decode cX4_sample 102 = .ok (.iload 4, 2) := dk_21 4 (dk_at dksX4_sample_4 7 rfl rfl)
theorem dX4_sample_104 : decode cX4_sample 104 = .ok (.bipush 8, 2) := dk_16 8 (dk_at dksX4_sample_4 9 rfl rfl)
theorem dX4_sample_106 : decode cX4_sample 106 = .ok (.iushr, 1) := dk_124 (dk_at dksX4_sample_4 11 rfl rfl)
theorem dX4_sample_107 : decode cX4_sample 107 = .ok (.aload_n 0, 1) := dk_42 (dk_at dksX4_sample_4 12 rfl rfl)
theorem dX4_sample_108 : decode cX4_sample 108 = .ok (.invokevirtual 218, 3) := dk_182 0 218 (dk_at dksX4_sample_4 13 rfl rfl)
theorem dX4_sample_111 : decode cX4_sample 111 = .ok (.iload 5, 2) := dk_21 5 (dk_at dksX4_sample_4 16 rfl rfl)
theorem dX4_sample_113 : decode cX4_sample 113 = .ok (.isub, 1) := dk_100 (dk_at dksX4_sample_4 18 rfl rfl)
theorem dX4_sample_114 : decode cX4_sample 114 = .ok (.irem, 1) := dk_112 (dk_at dksX4_sample_4 19 rfl rfl)
theorem dX4_sample_115 : decode cX4_sample 115 = .ok (.istore 6, 2) := dk_54 6 (dk_at dksX4_sample_4 20 rfl rfl)
theorem dX4_sample_117 : decode cX4_sample 117 = .ok (.iconst 0, 1) := dk_3 (dk_at dksX4_sample_4 22 rfl rfl)
theorem dX4_sample_118 : decode cX4_sample 118 = .ok (.istore 7, 2) := dk_54 7 (dk_at dksX4_sample_5 0 rfl rfl)
theorem dX4_sample_120 : decode cX4_sample 120 = .ok (.aload_n 0, 1) := dk_42 (dk_at dksX4_sample_5 2 rfl rfl)
theorem dX4_sample_121 : decode cX4_sample 121 = .ok (.iload_n 1, 1) := dk_27 (dk_at dksX4_sample_5 3 rfl rfl)
theorem dX4_sample_122 : decode cX4_sample 122 = .ok (.iload 7, 2) := dk_21 7 (dk_at dksX4_sample_5 4 rfl rfl)
theorem dX4_sample_124 : decode cX4_sample 124 = .ok (.invokevirtual 244, 3) := dk_182 0 244 (dk_at dksX4_sample_5 6 rfl rfl)
theorem dX4_sample_127 : decode cX4_sample 127 = .ok (.ifCond .ne 8, 3) := dk_154 0 8 (dk_at dksX4_sample_5 9 rfl rfl)
theorem dX4_sample_130 : decode cX4_sample 130 = .ok (.iload 6, 2) := dk_21 6 (dk_at dksX4_sample_5 12 rfl rfl)
theorem dX4_sample_132 : decode cX4_sample 132 = .ok (.ifCond .le 29, 3) := dk_158 0 29 (dk_at dksX4_sample_5 14 rfl rfl)
theorem dX4_sample_135 : decode cX4_sample 135 = .ok (.iload 6, 2) := dk_21 6 (dk_at dksX4_sample_5 17 rfl rfl)
theorem dX4_sample_137 : decode cX4_sample 137 = .ok (.aload_n 0, 1) := dk_42 (dk_at dksX4_sample_5 19 rfl rfl)
theorem dX4_sample_138 : decode cX4_sample 138 = .ok (.iload_n 1, 1) := dk_27 (dk_at dksX4_sample_5 20 rfl rfl)
theorem dX4_sample_139 : decode cX4_sample 139 = .ok (.iload 7, 2) := dk_21 7 (dk_at dksX4_sample_5 21 rfl rfl)
theorem dX4_sample_141 : decode cX4_sample 141 = .ok (.invokevirtual 244, 3) := dk_182 0 244 (dk_at dksX4_sample_6 0 rfl rfl)
theorem dX4_sample_144 : decode cX4_sample 144 = .ok (.ifCond .eq 7, 3) := dk_153 0 7 (dk_at dksX4_sample_6 3 rfl rfl)
theorem dX4_sample_147 : decode cX4_sample 147 = .ok (.iconst 0, 1) := dk_3 (dk_at dksX4_sample_6 6 rfl rfl)
theorem dX4_sample_148 : decode cX4_sample 148 = .ok (.goto 4, 3) := dk_167 0 4 (dk_at dksX4_sample_6 7 rfl rfl)
theorem dX4_sample_151 : decode cX4_sample 151 = .ok (.iconst 1, 1) := dk_4 (dk_at dksX4_sample_6 10 rfl rfl)
theorem dX4_sample_152 : decode cX4_sample 152 = .ok (.isub, 1) := dk_100 (dk_at dksX4_sample_6 11 rfl rfl)
theorem dX4_sample_153 : decode cX4_sample 153 = .ok (.istore 6, 2) := dk_54 6 (dk_at dksX4_sample_6 12 rfl rfl)
theorem dX4_sample_155 : decode cX4_sample 155 = .ok (.iinc 7 1, 3) := dk_132 7 1 (dk_at dksX4_sample_6 14 rfl rfl)
theorem dX4_sample_158 : decode cX4_sample 158 = .ok (.goto (-38), 3) := dk_167 255 218 (dk_at dksX4_sample_6 17 rfl rfl)
theorem dX4_sample_161 : decode cX4_sample 161 = .ok (.aload_n 0, 1) := dk_42 (dk_at dksX4_sample_6 20 rfl rfl)
theorem dX4_sample_162 : decode cX4_sample 162 = .ok (.getfield 20, 3) := dk_180 0 20 (dk_at dksX4_sample_6 21 rfl rfl)
theorem dX4_sample_165 : decode cX4_sample 165 = .ok (.sipush 225, 3) := dk_17 0 225 (dk_at dksX4_sample_7 0 rfl rfl)
theorem dX4_sample_168 : decode cX4_sample 168 = .ok (.bipush 40, 2) := dk_16 40 (dk_at dksX4_sample_7 3 rfl rfl)
theorem dX4_sample_170 : decode cX4_sample 170 = .ok (.iload_n 1, 1) := dk_27 (dk_at dksX4_sample_7 5 rfl rfl)
theorem dX4_sample_171 : decode cX4_sample 171 = .ok (.imul, 1) := dk_104 (dk_at dksX4_sample_7 6 rfl rfl)
theorem dX4_sample_172 : decode cX4_sample 172 = .ok (.iadd, 1) := dk_96 (dk_at dksX4_sample_7 7 rfl rfl)
theorem dX4_sample_173 : decode cX4_sample 173 = .ok (.iload 7, 2) := dk_21 7 (dk_at dksX4_sample_7 8 rfl rfl)
theorem dX4_sample_175 : decode cX4_sample 175 = .ok (.iadd, 1) := dk_96 (dk_at dksX4_sample_7 10 rfl rfl)
theorem dX4_sample_176 : decode cX4_sample 176 = .ok (.iconst 1, 1) := dk_4 (dk_at dksX4_sample_7 11 rfl rfl)
theorem dX4_sample_177 : decode cX4_sample 177 = .ok (.iastore, 1) := dk_79 (dk_at dksX4_sample_7 12 rfl rfl)
theorem dX4_sample_178 : decode cX4_sample 178 = .ok (.iinc 5 1, 3) := dk_132 5 1 (dk_at dksX4_sample_7 13 rfl rfl)
theorem dX4_sample_181 : decode cX4_sample 181 = .ok (.goto (-96), 3) := dk_167 255 160 (dk_at dksX4_sample_7 16 rfl rfl)
theorem dX4_sample_184 : decode cX4_sample 184 = .ok (.aload_n 0, 1) := dk_42 (dk_at dksX4_sample_7 19 rfl rfl)
theorem dX4_sample_185 : decode cX4_sample 185 = .ok (.aload_n 0, 1) := dk_42 (dk_at dksX4_sample_7 20 rfl rfl)
theorem dX4_sample_186 : decode cX4_sample 186 = .ok (.getfield 20, 3) := dk_180 0 20 (dk_at dksX4_sample_7 21 rfl rfl)
theorem dX4_sample_189 : decode cX4_sample 189 = .ok (.iconst 0, 1) := dk_3 (dk_at dksX4_sample_8 0 rfl rfl)
theorem dX4_sample_190 : decode cX4_sample 190 = .ok (.invokevirtual 255, 3) := dk_182 0 255 (dk_at dksX4_sample_8 1 rfl rfl)
theorem dX4_sample_193 : decode cX4_sample 193 = .ok (.aload_n 0, 1) := dk_42 (dk_at dksX4_sample_8 4 rfl rfl)
theorem dX4_sample_194 : decode cX4_sample 194 = .ok (.iload_n 1, 1) := dk_27 (dk_at dksX4_sample_8 5 rfl rfl)
theorem dX4_sample_195 : decode cX4_sample 195 = .ok (.invokevirtual 259, 3) := dk_182 1 3 (dk_at dksX4_sample_8 6 rfl rfl)
theorem dX4_sample_198 : decode cX4_sample 198 = .ok (.ireturn, 1) := dk_172 (dk_at dksX4_sample_8 9 rfl rfl)
abbrev cX4_isSample : ByteArray := prog_12_method_51_code
def yX4_isSample : MethodName := ⟨RX4, "isSample", "(I)Z"⟩
def dkwX4_isSample_0 : List UInt8 := [26, 133, 9, 10, 184, 0, 107, 172]
abbrev dktX4_isSample_0 : List UInt8 := dkwX4_isSample_0 ++ []
theorem dksX4_isSample_0 : cX4_isSample.data.toList.drop 0 = dktX4_isSample_0 := by decide +kernel
theorem dX4_isSample_0 : decode cX4_isSample 0 = .ok (.iload_n 0, 1) := dk_26 (dk_at dksX4_isSample_0 0 rfl rfl)
theorem dX4_isSample_1 : decode cX4_isSample 1 = .ok (.i2l, 1) := dk_133 (dk_at dksX4_isSample_0 1 rfl rfl)
theorem dX4_isSample_2 : decode cX4_isSample 2 = .ok (.lconst 0, 1) := dk_9 (dk_at dksX4_isSample_0 2 rfl rfl)
theorem dX4_isSample_3 : decode cX4_isSample 3 = .ok (.lconst 1, 1) := dk_10 (dk_at dksX4_isSample_0 3 rfl rfl)
theorem dX4_isSample_4 : decode cX4_isSample 4 = .ok (.invokestatic 107, 3) := dk_184 0 107 (dk_at dksX4_isSample_0 4 rfl rfl)
theorem dX4_isSample_7 : decode cX4_isSample 7 = .ok (.ireturn, 1) := dk_172 (dk_at dksX4_isSample_0 7 rfl rfl)
abbrev cX4_isIn : ByteArray := prog_12_method_49_code
def yX4_isIn : MethodName := ⟨RX4, "isIn", "(II)Z"⟩
def dkwX4_isIn_1 : List UInt8 := [172]
abbrev dktX4_isIn_1 : List UInt8 := dkwX4_isIn_1 ++ []
def dkwX4_isIn_0 : List UInt8 := [42, 180, 0, 20, 17, 0, 225, 16, 40, 27, 104, 96, 28, 96, 46, 4, 160, 0, 7, 4, 167, 0, 4, 3]
abbrev dktX4_isIn_0 : List UInt8 := dkwX4_isIn_0 ++ dktX4_isIn_1
theorem dksX4_isIn_0 : cX4_isIn.data.toList.drop 0 = dktX4_isIn_0 := by decide +kernel
theorem dksX4_isIn_1 : cX4_isIn.data.toList.drop 24 = dktX4_isIn_1 := dk_seg dksX4_isIn_0 24 rfl rfl
theorem dX4_isIn_0 : decode cX4_isIn 0 = .ok (.aload_n 0, 1) := dk_42 (dk_at dksX4_isIn_0 0 rfl rfl)
theorem dX4_isIn_1 : decode cX4_isIn 1 = .ok (.getfield 20, 3) := dk_180 0 20 (dk_at dksX4_isIn_0 1 rfl rfl)
theorem dX4_isIn_4 : decode cX4_isIn 4 = .ok (.sipush 225, 3) := dk_17 0 225 (dk_at dksX4_isIn_0 4 rfl rfl)
theorem dX4_isIn_7 : decode cX4_isIn 7 = .ok (.bipush 40, 2) := dk_16 40 (dk_at dksX4_isIn_0 7 rfl rfl)
theorem dX4_isIn_9 : decode cX4_isIn 9 = .ok (.iload_n 1, 1) := dk_27 (dk_at dksX4_isIn_0 9 rfl rfl)
theorem dX4_isIn_10 : decode cX4_isIn 10 = .ok (.imul, 1) := dk_104 (dk_at dksX4_isIn_0 10 rfl rfl)
theorem dX4_isIn_11 : decode cX4_isIn 11 = .ok (.iadd, 1) := dk_96 (dk_at dksX4_isIn_0 11 rfl rfl)
theorem dX4_isIn_12 : decode cX4_isIn 12 = .ok (.iload_n 2, 1) := dk_28 (dk_at dksX4_isIn_0 12 rfl rfl)
theorem dX4_isIn_13 : decode cX4_isIn 13 = .ok (.iadd, 1) := dk_96 (dk_at dksX4_isIn_0 13 rfl rfl)
theorem dX4_isIn_14 : decode cX4_isIn 14 = .ok (.iaload, 1) := dk_46 (dk_at dksX4_isIn_0 14 rfl rfl)
theorem dX4_isIn_15 : decode cX4_isIn 15 = .ok (.iconst 1, 1) := dk_4 (dk_at dksX4_isIn_0 15 rfl rfl)
theorem dX4_isIn_16 : decode cX4_isIn 16 = .ok (.if_icmp .ne 7, 3) := dk_160 0 7 (dk_at dksX4_isIn_0 16 rfl rfl)
theorem dX4_isIn_19 : decode cX4_isIn 19 = .ok (.iconst 1, 1) := dk_4 (dk_at dksX4_isIn_0 19 rfl rfl)
theorem dX4_isIn_20 : decode cX4_isIn 20 = .ok (.goto 4, 3) := dk_167 0 4 (dk_at dksX4_isIn_0 20 rfl rfl)
theorem dX4_isIn_23 : decode cX4_isIn 23 = .ok (.iconst 0, 1) := dk_3 (dk_at dksX4_isIn_0 23 rfl rfl)
theorem dX4_isIn_24 : decode cX4_isIn 24 = .ok (.ireturn, 1) := dk_172 (dk_at dksX4_isIn_1 0 rfl rfl)
abbrev cX4_judges : ByteArray := prog_12_method_39_code
def yX4_judges : MethodName := ⟨RX4, "judges", "([II)V"⟩
def dkwX4_judges_14 : List UInt8 := [180, 0, 34, 21, 4, 46, 120, 128, 62, 132, 4, 1, 167, 255, 164, 177]
abbrev dktX4_judges_14 : List UInt8 := dkwX4_judges_14 ++ []
def dkwX4_judges_13 : List UInt8 := [21, 4, 46, 122, 4, 126, 4, 160, 0, 14, 42, 180, 0, 31, 21, 4, 8, 79, 167, 0, 15, 29, 4, 42]
abbrev dktX4_judges_13 : List UInt8 := dkwX4_judges_13 ++ dktX4_judges_14
def dkwX4_judges_12 : List UInt8 := [122, 4, 126, 4, 160, 0, 14, 42, 180, 0, 31, 21, 4, 7, 79, 167, 0, 41, 29, 42, 180, 0, 34]
abbrev dktX4_judges_12 : List UInt8 := dkwX4_judges_12 ++ dktX4_judges_13
def dkwX4_judges_11 : List UInt8 := [180, 0, 31, 21, 4, 46, 153, 0, 6, 167, 0, 71, 42, 180, 0, 228, 43, 21, 4, 5, 184, 0, 124, 46]
abbrev dktX4_judges_11 : List UInt8 := dkwX4_judges_11 ++ dktX4_judges_12
def dkwX4_judges_10 : List UInt8 := [181, 0, 228, 132, 3, 1, 167, 255, 139, 3, 62, 3, 54, 4, 21, 4, 43, 5, 46, 162, 0, 90, 42]
abbrev dktX4_judges_10 : List UInt8 := dkwX4_judges_10 ++ dktX4_judges_11
def dkwX4_judges_9 : List UInt8 := [21, 5, 104, 43, 16, 6, 46, 21, 4, 104, 164, 0, 15, 42, 89, 180, 0, 228, 4, 29, 120, 128]
abbrev dktX4_judges_9 : List UInt8 := dkwX4_judges_9 ++ dktX4_judges_10
def dkwX4_judges_8 : List UInt8 := [167, 255, 207, 43, 16, 57, 29, 96, 46, 4, 159, 0, 27, 28, 29, 122, 4, 126, 4, 159, 0, 18, 16, 100]
abbrev dktX4_judges_8 : List UInt8 := dkwX4_judges_8 ++ dktX4_judges_9
def dkwX4_judges_7 : List UInt8 := [21, 5, 42, 180, 0, 31, 21, 6, 46, 154, 0, 7, 3, 167, 0, 4, 4, 96, 54, 5, 132, 6, 1]
abbrev dktX4_judges_7 : List UInt8 := dkwX4_judges_7 ++ dktX4_judges_8
def dkwX4_judges_6 : List UInt8 := [5, 46, 162, 0, 47, 43, 21, 6, 5, 184, 0, 124, 46, 29, 159, 0, 6, 167, 0, 26, 132, 4, 1]
abbrev dktX4_judges_6 : List UInt8 := dkwX4_judges_6 ++ dktX4_judges_7
def dkwX4_judges_5 : List UInt8 := [167, 255, 145, 3, 62, 29, 43, 4, 46, 162, 0, 116, 3, 54, 4, 3, 54, 5, 3, 54, 6, 21, 6, 43]
abbrev dktX4_judges_5 : List UInt8 := dkwX4_judges_5 ++ dktX4_judges_6
def dkwX4_judges_4 : List UInt8 := [5, 167, 0, 17, 42, 43, 29, 182, 0, 231, 153, 0, 7, 3, 167, 0, 4, 6, 79, 132, 3, 1]
abbrev dktX4_judges_4 : List UInt8 := dkwX4_judges_4 ++ dktX4_judges_5
def dkwX4_judges_3 : List UInt8 := [133, 43, 8, 46, 133, 184, 0, 107, 153, 0, 16, 43, 21, 4, 5, 184, 0, 111, 46, 21, 5, 164, 0, 7]
abbrev dktX4_judges_3 : List UInt8 := dkwX4_judges_3 ++ dktX4_judges_4
def dkwX4_judges_2 : List UInt8 := [21, 4, 79, 42, 180, 0, 31, 29, 21, 4, 2, 160, 0, 7, 4, 167, 0, 51, 21, 5, 133, 43, 7, 46]
abbrev dktX4_judges_2 : List UInt8 := dkwX4_judges_2 ++ dktX4_judges_3
def dkwX4_judges_1 : List UInt8 := [4, 184, 0, 124, 46, 184, 0, 120, 54, 4, 43, 29, 6, 184, 0, 124, 46, 54, 5, 42, 180, 0, 34, 29]
abbrev dktX4_judges_1 : List UInt8 := dkwX4_judges_1 ++ dktX4_judges_2
def dkwX4_judges_0 : List UInt8 := [42, 3, 181, 0, 228, 3, 62, 29, 43, 5, 46, 162, 0, 110, 43, 43, 29, 3, 184, 0, 124, 46, 43, 29]
abbrev dktX4_judges_0 : List UInt8 := dkwX4_judges_0 ++ dktX4_judges_1
theorem dksX4_judges_0 : cX4_judges.data.toList.drop 0 = dktX4_judges_0 := by decide +kernel
theorem dksX4_judges_1 : cX4_judges.data.toList.drop 24 = dktX4_judges_1 := dk_seg dksX4_judges_0 24 rfl rfl
theorem dksX4_judges_2 : cX4_judges.data.toList.drop 48 = dktX4_judges_2 := dk_seg dksX4_judges_1 24 rfl rfl
theorem dksX4_judges_3 : cX4_judges.data.toList.drop 72 = dktX4_judges_3 := dk_seg dksX4_judges_2 24 rfl rfl
theorem dksX4_judges_4 : cX4_judges.data.toList.drop 96 = dktX4_judges_4 := dk_seg dksX4_judges_3 24 rfl rfl
theorem dksX4_judges_5 : cX4_judges.data.toList.drop 118 = dktX4_judges_5 := dk_seg dksX4_judges_4 22 rfl rfl
theorem dksX4_judges_6 : cX4_judges.data.toList.drop 142 = dktX4_judges_6 := dk_seg dksX4_judges_5 24 rfl rfl
theorem dksX4_judges_7 : cX4_judges.data.toList.drop 165 = dktX4_judges_7 := dk_seg dksX4_judges_6 23 rfl rfl
theorem dksX4_judges_8 : cX4_judges.data.toList.drop 188 = dktX4_judges_8 := dk_seg dksX4_judges_7 23 rfl rfl
theorem dksX4_judges_9 : cX4_judges.data.toList.drop 212 = dktX4_judges_9 := dk_seg dksX4_judges_8 24 rfl rfl
theorem dksX4_judges_10 : cX4_judges.data.toList.drop 234 = dktX4_judges_10 := dk_seg dksX4_judges_9 22 rfl rfl
theorem dksX4_judges_11 : cX4_judges.data.toList.drop 257 = dktX4_judges_11 := dk_seg dksX4_judges_10 23 rfl rfl
theorem dksX4_judges_12 : cX4_judges.data.toList.drop 281 = dktX4_judges_12 := dk_seg dksX4_judges_11 24 rfl rfl
theorem dksX4_judges_13 : cX4_judges.data.toList.drop 304 = dktX4_judges_13 := dk_seg dksX4_judges_12 23 rfl rfl
theorem dksX4_judges_14 : cX4_judges.data.toList.drop 328 = dktX4_judges_14 := dk_seg dksX4_judges_13 24 rfl rfl
theorem dX4_judges_0 : decode cX4_judges 0 = .ok (.aload_n 0, 1) := dk_42 (dk_at dksX4_judges_0 0 rfl rfl)
theorem dX4_judges_1 : decode cX4_judges 1 = .ok (.iconst 0, 1) := dk_3 (dk_at dksX4_judges_0 1 rfl rfl)
theorem dX4_judges_2 : decode cX4_judges 2 = .ok (.putfield 228, 3) := dk_181 0 228 (dk_at dksX4_judges_0 2 rfl rfl)
theorem dX4_judges_5 : decode cX4_judges 5 = .ok (.iconst 0, 1) := dk_3 (dk_at dksX4_judges_0 5 rfl rfl)
theorem dX4_judges_6 : decode cX4_judges 6 = .ok (.istore_n 3, 1) := dk_62 (dk_at dksX4_judges_0 6 rfl rfl)
theorem dX4_judges_7 : decode cX4_judges 7 = .ok (.iload_n 3, 1) := dk_29 (dk_at dksX4_judges_0 7 rfl rfl)
theorem dX4_judges_8 : decode cX4_judges 8 = .ok (.aload_n 1, 1) := dk_43 (dk_at dksX4_judges_0 8 rfl rfl)
theorem dX4_judges_9 : decode cX4_judges 9 = .ok (.iconst 2, 1) := dk_5 (dk_at dksX4_judges_0 9 rfl rfl)
theorem dX4_judges_10 : decode cX4_judges 10 = .ok (.iaload, 1) := dk_46 (dk_at dksX4_judges_0 10 rfl rfl)
theorem dX4_judges_11 : decode cX4_judges 11 = .ok (.if_icmp .ge 110, 3) := dk_162 0 110 (dk_at dksX4_judges_0 11 rfl rfl)
theorem dX4_judges_14 : decode cX4_judges 14 = .ok (.aload_n 1, 1) := dk_43 (dk_at dksX4_judges_0 14 rfl rfl)
theorem dX4_judges_15 : decode cX4_judges 15 = .ok (.aload_n 1, 1) := dk_43 (dk_at dksX4_judges_0 15 rfl rfl)
theorem dX4_judges_16 : decode cX4_judges 16 = .ok (.iload_n 3, 1) := dk_29 (dk_at dksX4_judges_0 16 rfl rfl)
theorem dX4_judges_17 : decode cX4_judges 17 = .ok (.iconst 0, 1) := dk_3 (dk_at dksX4_judges_0 17 rfl rfl)
theorem dX4_judges_18 : decode cX4_judges 18 = .ok (.invokestatic 124, 3) := dk_184 0 124 (dk_at dksX4_judges_0 18 rfl rfl)
theorem dX4_judges_21 : decode cX4_judges 21 = .ok (.iaload, 1) := dk_46 (dk_at dksX4_judges_0 21 rfl rfl)
theorem dX4_judges_22 : decode cX4_judges 22 = .ok (.aload_n 1, 1) := dk_43 (dk_at dksX4_judges_0 22 rfl rfl)
theorem dX4_judges_23 : decode cX4_judges 23 = .ok (.iload_n 3, 1) := dk_29 (dk_at dksX4_judges_0 23 rfl rfl)
theorem dX4_judges_24 : decode cX4_judges 24 = .ok (.iconst 1, 1) := dk_4 (dk_at dksX4_judges_1 0 rfl rfl)
theorem dX4_judges_25 : decode cX4_judges 25 = .ok (.invokestatic 124, 3) := dk_184 0 124 (dk_at dksX4_judges_1 1 rfl rfl)
theorem dX4_judges_28 : decode cX4_judges 28 = .ok (.iaload, 1) := dk_46 (dk_at dksX4_judges_1 4 rfl rfl)
theorem dX4_judges_29 : decode cX4_judges 29 = .ok (.invokestatic 120, 3) := dk_184 0 120 (dk_at dksX4_judges_1 5 rfl rfl)
theorem dX4_judges_32 : decode cX4_judges 32 = .ok (.istore 4, 2) := dk_54 4 (dk_at dksX4_judges_1 8 rfl rfl)
theorem dX4_judges_34 : decode cX4_judges 34 = .ok (.aload_n 1, 1) := dk_43 (dk_at dksX4_judges_1 10 rfl rfl)
theorem dX4_judges_35 : decode cX4_judges 35 = .ok (.iload_n 3, 1) := dk_29 (dk_at dksX4_judges_1 11 rfl rfl)
theorem dX4_judges_36 : decode cX4_judges 36 = .ok (.iconst 3, 1) := dk_6 (dk_at dksX4_judges_1 12 rfl rfl)
theorem dX4_judges_37 : decode cX4_judges 37 = .ok (.invokestatic 124, 3) := dk_184 0 124 (dk_at dksX4_judges_1 13 rfl rfl)
theorem dX4_judges_40 : decode cX4_judges 40 = .ok (.iaload, 1) := dk_46 (dk_at dksX4_judges_1 16 rfl rfl)
theorem dX4_judges_41 : decode cX4_judges 41 = .ok (.istore 5, 2) := dk_54 5 (dk_at dksX4_judges_1 17 rfl rfl)
theorem dX4_judges_43 : decode cX4_judges 43 = .ok (.aload_n 0, 1) := dk_42 (dk_at dksX4_judges_1 19 rfl rfl)
theorem dX4_judges_44 : decode cX4_judges 44 = .ok (.getfield 34, 3) := dk_180 0 34 (dk_at dksX4_judges_1 20 rfl rfl)
theorem dX4_judges_47 : decode cX4_judges 47 = .ok (.iload_n 3, 1) := dk_29 (dk_at dksX4_judges_1 23 rfl rfl)
theorem dX4_judges_48 : decode cX4_judges 48 = .ok (.iload 4, 2) := dk_21 4 (dk_at dksX4_judges_2 0 rfl rfl)
theorem dX4_judges_50 : decode cX4_judges 50 = .ok (.iastore, 1) := dk_79 (dk_at dksX4_judges_2 2 rfl rfl)
theorem dX4_judges_51 : decode cX4_judges 51 = .ok (.aload_n 0, 1) := dk_42 (dk_at dksX4_judges_2 3 rfl rfl)
theorem dX4_judges_52 : decode cX4_judges 52 = .ok (.getfield 31, 3) := dk_180 0 31 (dk_at dksX4_judges_2 4 rfl rfl)
theorem dX4_judges_55 : decode cX4_judges 55 = .ok (.iload_n 3, 1) := dk_29 (dk_at dksX4_judges_2 7 rfl rfl)
theorem dX4_judges_56 : decode cX4_judges 56 = .ok (.iload 4, 2) := dk_21 4 (dk_at dksX4_judges_2 8 rfl rfl)
theorem dX4_judges_58 : decode cX4_judges 58 = .ok (.iconst (-1), 1) := dk_2 (dk_at dksX4_judges_2 10 rfl rfl)
theorem dX4_judges_59 : decode cX4_judges 59 = .ok (.if_icmp .ne 7, 3) := dk_160 0 7 (dk_at dksX4_judges_2 11 rfl rfl)
theorem dX4_judges_62 : decode cX4_judges 62 = .ok (.iconst 1, 1) := dk_4 (dk_at dksX4_judges_2 14 rfl rfl)
theorem dX4_judges_63 : decode cX4_judges 63 = .ok (.goto 51, 3) := dk_167 0 51 (dk_at dksX4_judges_2 15 rfl rfl)
theorem dX4_judges_66 : decode cX4_judges 66 = .ok (.iload 5, 2) := dk_21 5 (dk_at dksX4_judges_2 18 rfl rfl)
theorem dX4_judges_68 : decode cX4_judges 68 = .ok (.i2l, 1) := dk_133 (dk_at dksX4_judges_2 20 rfl rfl)
theorem dX4_judges_69 : decode cX4_judges 69 = .ok (.aload_n 1, 1) := dk_43 (dk_at dksX4_judges_2 21 rfl rfl)
theorem dX4_judges_70 : decode cX4_judges 70 = .ok (.iconst 4, 1) := dk_7 (dk_at dksX4_judges_2 22 rfl rfl)
theorem dX4_judges_71 : decode cX4_judges 71 = .ok (.iaload, 1) := dk_46 (dk_at dksX4_judges_2 23 rfl rfl)
theorem dX4_judges_72 : decode cX4_judges 72 = .ok (.i2l, 1) := dk_133 (dk_at dksX4_judges_3 0 rfl rfl)
theorem dX4_judges_73 : decode cX4_judges 73 = .ok (.aload_n 1, 1) := dk_43 (dk_at dksX4_judges_3 1 rfl rfl)
theorem dX4_judges_74 : decode cX4_judges 74 = .ok (.iconst 5, 1) := dk_8 (dk_at dksX4_judges_3 2 rfl rfl)
theorem dX4_judges_75 : decode cX4_judges 75 = .ok (.iaload, 1) := dk_46 (dk_at dksX4_judges_3 3 rfl rfl)
theorem dX4_judges_76 : decode cX4_judges 76 = .ok (.i2l, 1) := dk_133 (dk_at dksX4_judges_3 4 rfl rfl)
theorem dX4_judges_77 : decode cX4_judges 77 = .ok (.invokestatic 107, 3) := dk_184 0 107 (dk_at dksX4_judges_3 5 rfl rfl)
theorem dX4_judges_80 : decode cX4_judges 80 = .ok (.ifCond .eq 16, 3) := dk_153 0 16 (dk_at dksX4_judges_3 8 rfl rfl)
theorem dX4_judges_83 : decode cX4_judges 83 = .ok (.aload_n 1, 1) := dk_43 (dk_at dksX4_judges_3 11 rfl rfl)
theorem dX4_judges_84 : decode cX4_judges 84 = .ok (.iload 4, 2) := dk_21 4 (dk_at dksX4_judges_3 12 rfl rfl)
theorem dX4_judges_86 : decode cX4_judges 86 = .ok (.iconst 2, 1) := dk_5 (dk_at dksX4_judges_3 14 rfl rfl)
theorem dX4_judges_87 : decode cX4_judges 87 = .ok (.invokestatic 111, 3) := dk_184 0 111 (dk_at dksX4_judges_3 15 rfl rfl)
theorem dX4_judges_90 : decode cX4_judges 90 = .ok (.iaload, 1) := dk_46 (dk_at dksX4_judges_3 18 rfl rfl)
theorem dX4_judges_91 : decode cX4_judges 91 = .ok (.iload 5, 2) := dk_21 5 (dk_at dksX4_judges_3 19 rfl rfl)
theorem dX4_judges_93 : decode cX4_judges 93 = .ok (.if_icmp .le 7, 3) := dk_164 0 7 (dk_at dksX4_judges_3 21 rfl rfl)
theorem dX4_judges_96 : decode cX4_judges 96 = .ok (.iconst 2, 1) := dk_5 (dk_at dksX4_judges_4 0 rfl rfl)
theorem dX4_judges_97 : decode cX4_judges 97 = .ok (.goto 17, 3) := dk_167 0 17 (dk_at dksX4_judges_4 1 rfl rfl)
theorem dX4_judges_100 : decode cX4_judges 100 = .ok (.aload_n 0, 1) := dk_42 (dk_at dksX4_judges_4 4 rfl rfl)
theorem dX4_judges_101 : decode cX4_judges 101 = .ok (.aload_n 1, 1) := dk_43 (dk_at dksX4_judges_4 5 rfl rfl)
theorem dX4_judges_102 : decode cX4_judges 102 = .ok (.iload_n 3, 1) := dk_29 (dk_at dksX4_judges_4 6 rfl rfl)
theorem dX4_judges_103 : decode cX4_judges 103 = .ok (.invokevirtual 231, 3) := dk_182 0 231 (dk_at dksX4_judges_4 7 rfl rfl)
theorem dX4_judges_106 : decode cX4_judges 106 = .ok (.ifCond .eq 7, 3) := dk_153 0 7 (dk_at dksX4_judges_4 10 rfl rfl)
theorem dX4_judges_109 : decode cX4_judges 109 = .ok (.iconst 0, 1) := dk_3 (dk_at dksX4_judges_4 13 rfl rfl)
theorem dX4_judges_110 : decode cX4_judges 110 = .ok (.goto 4, 3) := dk_167 0 4 (dk_at dksX4_judges_4 14 rfl rfl)
theorem dX4_judges_113 : decode cX4_judges 113 = .ok (.iconst 3, 1) := dk_6 (dk_at dksX4_judges_4 17 rfl rfl)
theorem dX4_judges_114 : decode cX4_judges 114 = .ok (.iastore, 1) := dk_79 (dk_at dksX4_judges_4 18 rfl rfl)
theorem dX4_judges_115 : decode cX4_judges 115 = .ok (.iinc 3 1, 3) := dk_132 3 1 (dk_at dksX4_judges_4 19 rfl rfl)
theorem dX4_judges_118 : decode cX4_judges 118 = .ok (.goto (-111), 3) := dk_167 255 145 (dk_at dksX4_judges_5 0 rfl rfl)
theorem dX4_judges_121 : decode cX4_judges 121 = .ok (.iconst 0, 1) := dk_3 (dk_at dksX4_judges_5 3 rfl rfl)
theorem dX4_judges_122 : decode cX4_judges 122 = .ok (.istore_n 3, 1) := dk_62 (dk_at dksX4_judges_5 4 rfl rfl)
theorem dX4_judges_123 : decode cX4_judges 123 = .ok (.iload_n 3, 1) := dk_29 (dk_at dksX4_judges_5 5 rfl rfl)
theorem dX4_judges_124 : decode cX4_judges 124 = .ok (.aload_n 1, 1) := dk_43 (dk_at dksX4_judges_5 6 rfl rfl)
theorem dX4_judges_125 : decode cX4_judges 125 = .ok (.iconst 1, 1) := dk_4 (dk_at dksX4_judges_5 7 rfl rfl)
theorem dX4_judges_126 : decode cX4_judges 126 = .ok (.iaload, 1) := dk_46 (dk_at dksX4_judges_5 8 rfl rfl)
theorem dX4_judges_127 : decode cX4_judges 127 = .ok (.if_icmp .ge 116, 3) := dk_162 0 116 (dk_at dksX4_judges_5 9 rfl rfl)
theorem dX4_judges_130 : decode cX4_judges 130 = .ok (.iconst 0, 1) := dk_3 (dk_at dksX4_judges_5 12 rfl rfl)
theorem dX4_judges_131 : decode cX4_judges 131 = .ok (.istore 4, 2) := dk_54 4 (dk_at dksX4_judges_5 13 rfl rfl)
theorem dX4_judges_133 : decode cX4_judges 133 = .ok (.iconst 0, 1) := dk_3 (dk_at dksX4_judges_5 15 rfl rfl)
theorem dX4_judges_134 : decode cX4_judges 134 = .ok (.istore 5, 2) := dk_54 5 (dk_at dksX4_judges_5 16 rfl rfl)
theorem dX4_judges_136 : decode cX4_judges 136 = .ok (.iconst 0, 1) := dk_3 (dk_at dksX4_judges_5 18 rfl rfl)
theorem dX4_judges_137 : decode cX4_judges 137 = .ok (.istore 6, 2) := dk_54 6 (dk_at dksX4_judges_5 19 rfl rfl)
theorem dX4_judges_139 : decode cX4_judges 139 = .ok (.iload 6, 2) := dk_21 6 (dk_at dksX4_judges_5 21 rfl rfl)
theorem dX4_judges_141 : decode cX4_judges 141 = .ok (.aload_n 1, 1) := dk_43 (dk_at dksX4_judges_5 23 rfl rfl)
theorem dX4_judges_142 : decode cX4_judges 142 = .ok (.iconst 2, 1) := dk_5 (dk_at dksX4_judges_6 0 rfl rfl)
theorem dX4_judges_143 : decode cX4_judges 143 = .ok (.iaload, 1) := dk_46 (dk_at dksX4_judges_6 1 rfl rfl)
theorem dX4_judges_144 : decode cX4_judges 144 = .ok (.if_icmp .ge 47, 3) := dk_162 0 47 (dk_at dksX4_judges_6 2 rfl rfl)
theorem dX4_judges_147 : decode cX4_judges 147 = .ok (.aload_n 1, 1) := dk_43 (dk_at dksX4_judges_6 5 rfl rfl)
theorem dX4_judges_148 : decode cX4_judges 148 = .ok (.iload 6, 2) := dk_21 6 (dk_at dksX4_judges_6 6 rfl rfl)
theorem dX4_judges_150 : decode cX4_judges 150 = .ok (.iconst 2, 1) := dk_5 (dk_at dksX4_judges_6 8 rfl rfl)
theorem dX4_judges_151 : decode cX4_judges 151 = .ok (.invokestatic 124, 3) := dk_184 0 124 (dk_at dksX4_judges_6 9 rfl rfl)
theorem dX4_judges_154 : decode cX4_judges 154 = .ok (.iaload, 1) := dk_46 (dk_at dksX4_judges_6 12 rfl rfl)
theorem dX4_judges_155 : decode cX4_judges 155 = .ok (.iload_n 3, 1) := dk_29 (dk_at dksX4_judges_6 13 rfl rfl)
theorem dX4_judges_156 : decode cX4_judges 156 = .ok (.if_icmp .eq 6, 3) := dk_159 0 6 (dk_at dksX4_judges_6 14 rfl rfl)
theorem dX4_judges_159 : decode cX4_judges 159 = .ok (.goto 26, 3) := dk_167 0 26 (dk_at dksX4_judges_6 17 rfl rfl)
theorem dX4_judges_162 : decode cX4_judges 162 = .ok (.iinc 4 1, 3) := dk_132 4 1 (dk_at dksX4_judges_6 20 rfl rfl)
theorem dX4_judges_165 : decode cX4_judges 165 = .ok (.iload 5, 2) := dk_21 5 (dk_at dksX4_judges_7 0 rfl rfl)
theorem dX4_judges_167 : decode cX4_judges 167 = .ok (.aload_n 0, 1) := dk_42 (dk_at dksX4_judges_7 2 rfl rfl)
theorem dX4_judges_168 : decode cX4_judges 168 = .ok (.getfield 31, 3) := dk_180 0 31 (dk_at dksX4_judges_7 3 rfl rfl)
theorem dX4_judges_171 : decode cX4_judges 171 = .ok (.iload 6, 2) := dk_21 6 (dk_at dksX4_judges_7 6 rfl rfl)
theorem dX4_judges_173 : decode cX4_judges 173 = .ok (.iaload, 1) := dk_46 (dk_at dksX4_judges_7 8 rfl rfl)
theorem dX4_judges_174 : decode cX4_judges 174 = .ok (.ifCond .ne 7, 3) := dk_154 0 7 (dk_at dksX4_judges_7 9 rfl rfl)
theorem dX4_judges_177 : decode cX4_judges 177 = .ok (.iconst 0, 1) := dk_3 (dk_at dksX4_judges_7 12 rfl rfl)
theorem dX4_judges_178 : decode cX4_judges 178 = .ok (.goto 4, 3) := dk_167 0 4 (dk_at dksX4_judges_7 13 rfl rfl)
theorem dX4_judges_181 : decode cX4_judges 181 = .ok (.iconst 1, 1) := dk_4 (dk_at dksX4_judges_7 16 rfl rfl)
theorem dX4_judges_182 : decode cX4_judges 182 = .ok (.iadd, 1) := dk_96 (dk_at dksX4_judges_7 17 rfl rfl)
theorem dX4_judges_183 : decode cX4_judges 183 = .ok (.istore 5, 2) := dk_54 5 (dk_at dksX4_judges_7 18 rfl rfl)
theorem dX4_judges_185 : decode cX4_judges 185 = .ok (.iinc 6 1, 3) := dk_132 6 1 (dk_at dksX4_judges_7 20 rfl rfl)
theorem dX4_judges_188 : decode cX4_judges 188 = .ok (.goto (-49), 3) := dk_167 255 207 (dk_at dksX4_judges_8 0 rfl rfl)
theorem dX4_judges_191 : decode cX4_judges 191 = .ok (.aload_n 1, 1) := dk_43 (dk_at dksX4_judges_8 3 rfl rfl)
theorem dX4_judges_192 : decode cX4_judges 192 = .ok (.bipush 57, 2) := dk_16 57 (dk_at dksX4_judges_8 4 rfl rfl)
theorem dX4_judges_194 : decode cX4_judges 194 = .ok (.iload_n 3, 1) := dk_29 (dk_at dksX4_judges_8 6 rfl rfl)
theorem dX4_judges_195 : decode cX4_judges 195 = .ok (.iadd, 1) := dk_96 (dk_at dksX4_judges_8 7 rfl rfl)
theorem dX4_judges_196 : decode cX4_judges 196 = .ok (.iaload, 1) := dk_46 (dk_at dksX4_judges_8 8 rfl rfl)
theorem dX4_judges_197 : decode cX4_judges 197 = .ok (.iconst 1, 1) := dk_4 (dk_at dksX4_judges_8 9 rfl rfl)
theorem dX4_judges_198 : decode cX4_judges 198 = .ok (.if_icmp .eq 27, 3) := dk_159 0 27 (dk_at dksX4_judges_8 10 rfl rfl)
theorem dX4_judges_201 : decode cX4_judges 201 = .ok (.iload_n 2, 1) := dk_28 (dk_at dksX4_judges_8 13 rfl rfl)
theorem dX4_judges_202 : decode cX4_judges 202 = .ok (.iload_n 3, 1) := dk_29 (dk_at dksX4_judges_8 14 rfl rfl)
theorem dX4_judges_203 : decode cX4_judges 203 = .ok (.ishr, 1) := dk_122 (dk_at dksX4_judges_8 15 rfl rfl)
theorem dX4_judges_204 : decode cX4_judges 204 = .ok (.iconst 1, 1) := dk_4 (dk_at dksX4_judges_8 16 rfl rfl)
theorem dX4_judges_205 : decode cX4_judges 205 = .ok (.iand, 1) := dk_126 (dk_at dksX4_judges_8 17 rfl rfl)
theorem dX4_judges_206 : decode cX4_judges 206 = .ok (.iconst 1, 1) := dk_4 (dk_at dksX4_judges_8 18 rfl rfl)
theorem dX4_judges_207 : decode cX4_judges 207 = .ok (.if_icmp .eq 18, 3) := dk_159 0 18 (dk_at dksX4_judges_8 19 rfl rfl)
theorem dX4_judges_210 : decode cX4_judges 210 = .ok (.bipush 100, 2) := dk_16 100 (dk_at dksX4_judges_8 22 rfl rfl)
theorem dX4_judges_212 : decode cX4_judges 212 = .ok (.iload 5, 2) := dk_21 5 (dk_at dksX4_judges_9 0 rfl rfl)
theorem dX4_judges_214 : decode cX4_judges 214 = .ok (.imul, 1) := dk_104 (dk_at dksX4_judges_9 2 rfl rfl)
theorem dX4_judges_215 : decode cX4_judges 215 = .ok (.aload_n 1, 1) := dk_43 (dk_at dksX4_judges_9 3 rfl rfl)
theorem dX4_judges_216 : decode cX4_judges 216 = .ok (.bipush 6, 2) := dk_16 6 (dk_at dksX4_judges_9 4 rfl rfl)
theorem dX4_judges_218 : decode cX4_judges 218 = .ok (.iaload, 1) := dk_46 (dk_at dksX4_judges_9 6 rfl rfl)
theorem dX4_judges_219 : decode cX4_judges 219 = .ok (.iload 4, 2) := dk_21 4 (dk_at dksX4_judges_9 7 rfl rfl)
theorem dX4_judges_221 : decode cX4_judges 221 = .ok (.imul, 1) := dk_104 (dk_at dksX4_judges_9 9 rfl rfl)
theorem dX4_judges_222 : decode cX4_judges 222 = .ok (.if_icmp .le 15, 3) := dk_164 0 15 (dk_at dksX4_judges_9 10 rfl rfl)
theorem dX4_judges_225 : decode cX4_judges 225 = .ok (.aload_n 0, 1) := dk_42 (dk_at dksX4_judges_9 13 rfl rfl)
theorem dX4_judges_226 : decode cX4_judges 226 = .ok (.dup, 1) := dk_89 (dk_at dksX4_judges_9 14 rfl rfl)
theorem dX4_judges_227 : decode cX4_judges 227 = .ok (.getfield 228, 3) := dk_180 0 228 (dk_at dksX4_judges_9 15 rfl rfl)
theorem dX4_judges_230 : decode cX4_judges 230 = .ok (.iconst 1, 1) := dk_4 (dk_at dksX4_judges_9 18 rfl rfl)
theorem dX4_judges_231 : decode cX4_judges 231 = .ok (.iload_n 3, 1) := dk_29 (dk_at dksX4_judges_9 19 rfl rfl)
theorem dX4_judges_232 : decode cX4_judges 232 = .ok (.ishl, 1) := dk_120 (dk_at dksX4_judges_9 20 rfl rfl)
theorem dX4_judges_233 : decode cX4_judges 233 = .ok (.ior, 1) := dk_128 (dk_at dksX4_judges_9 21 rfl rfl)
theorem dX4_judges_234 : decode cX4_judges 234 = .ok (.putfield 228, 3) := dk_181 0 228 (dk_at dksX4_judges_10 0 rfl rfl)
theorem dX4_judges_237 : decode cX4_judges 237 = .ok (.iinc 3 1, 3) := dk_132 3 1 (dk_at dksX4_judges_10 3 rfl rfl)
theorem dX4_judges_240 : decode cX4_judges 240 = .ok (.goto (-117), 3) := dk_167 255 139 (dk_at dksX4_judges_10 6 rfl rfl)
theorem dX4_judges_243 : decode cX4_judges 243 = .ok (.iconst 0, 1) := dk_3 (dk_at dksX4_judges_10 9 rfl rfl)
theorem dX4_judges_244 : decode cX4_judges 244 = .ok (.istore_n 3, 1) := dk_62 (dk_at dksX4_judges_10 10 rfl rfl)
theorem dX4_judges_245 : decode cX4_judges 245 = .ok (.iconst 0, 1) := dk_3 (dk_at dksX4_judges_10 11 rfl rfl)
theorem dX4_judges_246 : decode cX4_judges 246 = .ok (.istore 4, 2) := dk_54 4 (dk_at dksX4_judges_10 12 rfl rfl)
theorem dX4_judges_248 : decode cX4_judges 248 = .ok (.iload 4, 2) := dk_21 4 (dk_at dksX4_judges_10 14 rfl rfl)
theorem dX4_judges_250 : decode cX4_judges 250 = .ok (.aload_n 1, 1) := dk_43 (dk_at dksX4_judges_10 16 rfl rfl)
theorem dX4_judges_251 : decode cX4_judges 251 = .ok (.iconst 2, 1) := dk_5 (dk_at dksX4_judges_10 17 rfl rfl)
theorem dX4_judges_252 : decode cX4_judges 252 = .ok (.iaload, 1) := dk_46 (dk_at dksX4_judges_10 18 rfl rfl)
theorem dX4_judges_253 : decode cX4_judges 253 = .ok (.if_icmp .ge 90, 3) := dk_162 0 90 (dk_at dksX4_judges_10 19 rfl rfl)
theorem dX4_judges_256 : decode cX4_judges 256 = .ok (.aload_n 0, 1) := dk_42 (dk_at dksX4_judges_10 22 rfl rfl)
theorem dX4_judges_257 : decode cX4_judges 257 = .ok (.getfield 31, 3) := dk_180 0 31 (dk_at dksX4_judges_11 0 rfl rfl)
theorem dX4_judges_260 : decode cX4_judges 260 = .ok (.iload 4, 2) := dk_21 4 (dk_at dksX4_judges_11 3 rfl rfl)
theorem dX4_judges_262 : decode cX4_judges 262 = .ok (.iaload, 1) := dk_46 (dk_at dksX4_judges_11 5 rfl rfl)
theorem dX4_judges_263 : decode cX4_judges 263 = .ok (.ifCond .eq 6, 3) := dk_153 0 6 (dk_at dksX4_judges_11 6 rfl rfl)
theorem dX4_judges_266 : decode cX4_judges 266 = .ok (.goto 71, 3) := dk_167 0 71 (dk_at dksX4_judges_11 9 rfl rfl)
theorem dX4_judges_269 : decode cX4_judges 269 = .ok (.aload_n 0, 1) := dk_42 (dk_at dksX4_judges_11 12 rfl rfl)
theorem dX4_judges_270 : decode cX4_judges 270 = .ok (.getfield 228, 3) := dk_180 0 228 (dk_at dksX4_judges_11 13 rfl rfl)
theorem dX4_judges_273 : decode cX4_judges 273 = .ok (.aload_n 1, 1) := dk_43 (dk_at dksX4_judges_11 16 rfl rfl)
theorem dX4_judges_274 : decode cX4_judges 274 = .ok (.iload 4, 2) := dk_21 4 (dk_at dksX4_judges_11 17 rfl rfl)
theorem dX4_judges_276 : decode cX4_judges 276 = .ok (.iconst 2, 1) := dk_5 (dk_at dksX4_judges_11 19 rfl rfl)
theorem dX4_judges_277 : decode cX4_judges 277 = .ok (.invokestatic 124, 3) := dk_184 0 124 (dk_at dksX4_judges_11 20 rfl rfl)
theorem dX4_judges_280 : decode cX4_judges 280 = .ok (.iaload, 1) := dk_46 (dk_at dksX4_judges_11 23 rfl rfl)
theorem dX4_judges_281 : decode cX4_judges 281 = .ok (.ishr, 1) := dk_122 (dk_at dksX4_judges_12 0 rfl rfl)
theorem dX4_judges_282 : decode cX4_judges 282 = .ok (.iconst 1, 1) := dk_4 (dk_at dksX4_judges_12 1 rfl rfl)
theorem dX4_judges_283 : decode cX4_judges 283 = .ok (.iand, 1) := dk_126 (dk_at dksX4_judges_12 2 rfl rfl)
theorem dX4_judges_284 : decode cX4_judges 284 = .ok (.iconst 1, 1) := dk_4 (dk_at dksX4_judges_12 3 rfl rfl)
theorem dX4_judges_285 : decode cX4_judges 285 = .ok (.if_icmp .ne 14, 3) := dk_160 0 14 (dk_at dksX4_judges_12 4 rfl rfl)
theorem dX4_judges_288 : decode cX4_judges 288 = .ok (.aload_n 0, 1) := dk_42 (dk_at dksX4_judges_12 7 rfl rfl)
theorem dX4_judges_289 : decode cX4_judges 289 = .ok (.getfield 31, 3) := dk_180 0 31 (dk_at dksX4_judges_12 8 rfl rfl)
theorem dX4_judges_292 : decode cX4_judges 292 = .ok (.iload 4, 2) := dk_21 4 (dk_at dksX4_judges_12 11 rfl rfl)
theorem dX4_judges_294 : decode cX4_judges 294 = .ok (.iconst 4, 1) := dk_7 (dk_at dksX4_judges_12 13 rfl rfl)
theorem dX4_judges_295 : decode cX4_judges 295 = .ok (.iastore, 1) := dk_79 (dk_at dksX4_judges_12 14 rfl rfl)
theorem dX4_judges_296 : decode cX4_judges 296 = .ok (.goto 41, 3) := dk_167 0 41 (dk_at dksX4_judges_12 15 rfl rfl)
theorem dX4_judges_299 : decode cX4_judges 299 = .ok (.iload_n 3, 1) := dk_29 (dk_at dksX4_judges_12 18 rfl rfl)
theorem dX4_judges_300 : decode cX4_judges 300 = .ok (.aload_n 0, 1) := dk_42 (dk_at dksX4_judges_12 19 rfl rfl)
theorem dX4_judges_301 : decode cX4_judges 301 = .ok (.getfield 34, 3) := dk_180 0 34 (dk_at dksX4_judges_12 20 rfl rfl)
theorem dX4_judges_304 : decode cX4_judges 304 = .ok (.iload 4, 2) := dk_21 4 (dk_at dksX4_judges_13 0 rfl rfl)
theorem dX4_judges_306 : decode cX4_judges 306 = .ok (.iaload, 1) := dk_46 (dk_at dksX4_judges_13 2 rfl rfl)
theorem dX4_judges_307 : decode cX4_judges 307 = .ok (.ishr, 1) := dk_122 (dk_at dksX4_judges_13 3 rfl rfl)
theorem dX4_judges_308 : decode cX4_judges 308 = .ok (.iconst 1, 1) := dk_4 (dk_at dksX4_judges_13 4 rfl rfl)
theorem dX4_judges_309 : decode cX4_judges 309 = .ok (.iand, 1) := dk_126 (dk_at dksX4_judges_13 5 rfl rfl)
theorem dX4_judges_310 : decode cX4_judges 310 = .ok (.iconst 1, 1) := dk_4 (dk_at dksX4_judges_13 6 rfl rfl)
theorem dX4_judges_311 : decode cX4_judges 311 = .ok (.if_icmp .ne 14, 3) := dk_160 0 14 (dk_at dksX4_judges_13 7 rfl rfl)
theorem dX4_judges_314 : decode cX4_judges 314 = .ok (.aload_n 0, 1) := dk_42 (dk_at dksX4_judges_13 10 rfl rfl)
theorem dX4_judges_315 : decode cX4_judges 315 = .ok (.getfield 31, 3) := dk_180 0 31 (dk_at dksX4_judges_13 11 rfl rfl)
theorem dX4_judges_318 : decode cX4_judges 318 = .ok (.iload 4, 2) := dk_21 4 (dk_at dksX4_judges_13 14 rfl rfl)
theorem dX4_judges_320 : decode cX4_judges 320 = .ok (.iconst 5, 1) := dk_8 (dk_at dksX4_judges_13 16 rfl rfl)
theorem dX4_judges_321 : decode cX4_judges 321 = .ok (.iastore, 1) := dk_79 (dk_at dksX4_judges_13 17 rfl rfl)
theorem dX4_judges_322 : decode cX4_judges 322 = .ok (.goto 15, 3) := dk_167 0 15 (dk_at dksX4_judges_13 18 rfl rfl)
theorem dX4_judges_325 : decode cX4_judges 325 = .ok (.iload_n 3, 1) := dk_29 (dk_at dksX4_judges_13 21 rfl rfl)
theorem dX4_judges_326 : decode cX4_judges 326 = .ok (.iconst 1, 1) := dk_4 (dk_at dksX4_judges_13 22 rfl rfl)
theorem dX4_judges_327 : decode cX4_judges 327 = .ok (.aload_n 0, 1) := dk_42 (dk_at dksX4_judges_13 23 rfl rfl)
theorem dX4_judges_328 : decode cX4_judges 328 = .ok (.getfield 34, 3) := dk_180 0 34 (dk_at dksX4_judges_14 0 rfl rfl)
theorem dX4_judges_331 : decode cX4_judges 331 = .ok (.iload 4, 2) := dk_21 4 (dk_at dksX4_judges_14 3 rfl rfl)
theorem dX4_judges_333 : decode cX4_judges 333 = .ok (.iaload, 1) := dk_46 (dk_at dksX4_judges_14 5 rfl rfl)
theorem dX4_judges_334 : decode cX4_judges 334 = .ok (.ishl, 1) := dk_120 (dk_at dksX4_judges_14 6 rfl rfl)
theorem dX4_judges_335 : decode cX4_judges 335 = .ok (.ior, 1) := dk_128 (dk_at dksX4_judges_14 7 rfl rfl)
theorem dX4_judges_336 : decode cX4_judges 336 = .ok (.istore_n 3, 1) := dk_62 (dk_at dksX4_judges_14 8 rfl rfl)
theorem dX4_judges_337 : decode cX4_judges 337 = .ok (.iinc 4 1, 3) := dk_132 4 1 (dk_at dksX4_judges_14 9 rfl rfl)
theorem dX4_judges_340 : decode cX4_judges 340 = .ok (.goto (-92), 3) := dk_167 255 164 (dk_at dksX4_judges_14 12 rfl rfl)
theorem dX4_judges_343 : decode cX4_judges 343 = .ok (.return_, 1) := dk_177 (dk_at dksX4_judges_14 15 rfl rfl)
abbrev cX4_isGood : ByteArray := prog_12_method_38_code
def yX4_isGood : MethodName := ⟨RX4, "isGood", "([II)Z"⟩
def dkwX4_isGood_10 : List UInt8 := [160, 0, 7, 4, 167, 0, 4, 3, 172]
abbrev dktX4_isGood_10 : List UInt8 := dkwX4_isGood_10 ++ []
def dkwX4_isGood_9 : List UInt8 := [158, 0, 7, 4, 167, 0, 4, 3, 79, 132, 4, 1, 167, 255, 46, 42, 180, 0, 37, 3, 46, 4]
abbrev dktX4_isGood_9 : List UInt8 := dkwX4_isGood_9 ++ dktX4_isGood_10
def dkwX4_isGood_8 : List UInt8 := [21, 5, 16, 12, 160, 0, 15, 21, 6, 21, 7, 96, 5, 160, 0, 18, 167, 0, 11, 21, 6, 21, 7, 96]
abbrev dktX4_isGood_8 : List UInt8 := dkwX4_isGood_8 ++ dktX4_isGood_9
def dkwX4_isGood_7 : List UInt8 := [160, 0, 54, 167, 0, 47, 21, 5, 16, 10, 160, 0, 13, 21, 6, 21, 7, 164, 0, 37, 167, 0, 30]
abbrev dktX4_isGood_7 : List UInt8 := dkwX4_isGood_7 ++ dktX4_isGood_8
def dkwX4_isGood_6 : List UInt8 := [160, 0, 13, 21, 6, 21, 7, 162, 0, 71, 167, 0, 64, 21, 5, 16, 9, 160, 0, 13, 21, 6, 21, 7]
abbrev dktX4_isGood_6 : List UInt8 := dkwX4_isGood_6 ++ dktX4_isGood_7
def dkwX4_isGood_5 : List UInt8 := [100, 46, 54, 6, 42, 180, 0, 37, 29, 46, 54, 7, 42, 180, 0, 37, 29, 4, 100, 21, 5, 16, 8]
abbrev dktX4_isGood_5 : List UInt8 := dkwX4_isGood_5 ++ dktX4_isGood_6
def dkwX4_isGood_4 : List UInt8 := [100, 4, 42, 180, 0, 37, 29, 4, 100, 46, 100, 79, 167, 0, 115, 132, 3, 255, 42, 180, 0, 37, 29, 4]
abbrev dktX4_isGood_4 : List UInt8 := dkwX4_isGood_4 ++ dktX4_isGood_5
def dkwX4_isGood_3 : List UInt8 := [100, 182, 0, 225, 79, 132, 3, 1, 167, 0, 143, 21, 5, 16, 11, 160, 0, 24, 42, 180, 0, 37, 29, 4]
abbrev dktX4_isGood_3 : List UInt8 := dkwX4_isGood_3 ++ dktX4_isGood_4
def dkwX4_isGood_2 : List UInt8 := [132, 3, 1, 167, 0, 172, 21, 5, 16, 8, 162, 0, 25, 42, 180, 0, 37, 29, 42, 43, 28, 21, 5, 5]
abbrev dktX4_isGood_2 : List UInt8 := dkwX4_isGood_2 ++ dktX4_isGood_3
def dkwX4_isGood_1 : List UInt8 := [21, 4, 46, 54, 5, 21, 5, 4, 160, 0, 22, 132, 4, 1, 42, 180, 0, 37, 29, 43, 21, 4, 46, 79]
abbrev dktX4_isGood_1 : List UInt8 := dkwX4_isGood_1 ++ dktX4_isGood_2
def dkwX4_isGood_0 : List UInt8 := [43, 16, 8, 46, 154, 0, 5, 4, 172, 3, 62, 17, 1, 49, 54, 4, 43, 21, 4, 46, 153, 0, 209, 43]
abbrev dktX4_isGood_0 : List UInt8 := dkwX4_isGood_0 ++ dktX4_isGood_1
theorem dksX4_isGood_0 : cX4_isGood.data.toList.drop 0 = dktX4_isGood_0 := by decide +kernel
theorem dksX4_isGood_1 : cX4_isGood.data.toList.drop 24 = dktX4_isGood_1 := dk_seg dksX4_isGood_0 24 rfl rfl
theorem dksX4_isGood_2 : cX4_isGood.data.toList.drop 48 = dktX4_isGood_2 := dk_seg dksX4_isGood_1 24 rfl rfl
theorem dksX4_isGood_3 : cX4_isGood.data.toList.drop 72 = dktX4_isGood_3 := dk_seg dksX4_isGood_2 24 rfl rfl
theorem dksX4_isGood_4 : cX4_isGood.data.toList.drop 96 = dktX4_isGood_4 := dk_seg dksX4_isGood_3 24 rfl rfl
theorem dksX4_isGood_5 : cX4_isGood.data.toList.drop 120 = dktX4_isGood_5 := dk_seg dksX4_isGood_4 24 rfl rfl
theorem dksX4_isGood_6 : cX4_isGood.data.toList.drop 143 = dktX4_isGood_6 := dk_seg dksX4_isGood_5 23 rfl rfl
theorem dksX4_isGood_7 : cX4_isGood.data.toList.drop 167 = dktX4_isGood_7 := dk_seg dksX4_isGood_6 24 rfl rfl
theorem dksX4_isGood_8 : cX4_isGood.data.toList.drop 190 = dktX4_isGood_8 := dk_seg dksX4_isGood_7 23 rfl rfl
theorem dksX4_isGood_9 : cX4_isGood.data.toList.drop 214 = dktX4_isGood_9 := dk_seg dksX4_isGood_8 24 rfl rfl
theorem dksX4_isGood_10 : cX4_isGood.data.toList.drop 236 = dktX4_isGood_10 := dk_seg dksX4_isGood_9 22 rfl rfl
theorem dX4_isGood_0 : decode cX4_isGood 0 = .ok (.aload_n 1, 1) := dk_43 (dk_at dksX4_isGood_0 0 rfl rfl)
theorem dX4_isGood_1 : decode cX4_isGood 1 = .ok (.bipush 8, 2) := dk_16 8 (dk_at dksX4_isGood_0 1 rfl rfl)
theorem dX4_isGood_3 : decode cX4_isGood 3 = .ok (.iaload, 1) := dk_46 (dk_at dksX4_isGood_0 3 rfl rfl)
theorem dX4_isGood_4 : decode cX4_isGood 4 = .ok (.ifCond .ne 5, 3) := dk_154 0 5 (dk_at dksX4_isGood_0 4 rfl rfl)
theorem dX4_isGood_7 : decode cX4_isGood 7 = .ok (.iconst 1, 1) := dk_4 (dk_at dksX4_isGood_0 7 rfl rfl)
theorem dX4_isGood_8 : decode cX4_isGood 8 = .ok (.ireturn, 1) := dk_172 (dk_at dksX4_isGood_0 8 rfl rfl)
theorem dX4_isGood_9 : decode cX4_isGood 9 = .ok (.iconst 0, 1) := dk_3 (dk_at dksX4_isGood_0 9 rfl rfl)
theorem dX4_isGood_10 : decode cX4_isGood 10 = .ok (.istore_n 3, 1) := dk_62 (dk_at dksX4_isGood_0 10 rfl rfl)
theorem dX4_isGood_11 : decode cX4_isGood 11 = .ok (.sipush 305, 3) := dk_17 1 49 (dk_at dksX4_isGood_0 11 rfl rfl)
theorem dX4_isGood_14 : decode cX4_isGood 14 = .ok (.istore 4, 2) := dk_54 4 (dk_at dksX4_isGood_0 14 rfl rfl)
theorem dX4_isGood_16 : decode cX4_isGood 16 = .ok (.aload_n 1, 1) := dk_43 (dk_at dksX4_isGood_0 16 rfl rfl)
theorem dX4_isGood_17 : decode cX4_isGood 17 = .ok (.iload 4, 2) := dk_21 4 (dk_at dksX4_isGood_0 17 rfl rfl)
theorem dX4_isGood_19 : decode cX4_isGood 19 = .ok (.iaload, 1) := dk_46 (dk_at dksX4_isGood_0 19 rfl rfl)
theorem dX4_isGood_20 : decode cX4_isGood 20 = .ok (.ifCond .eq 209, 3) := dk_153 0 209 (dk_at dksX4_isGood_0 20 rfl rfl)
theorem dX4_isGood_23 : decode cX4_isGood 23 = .ok (.aload_n 1, 1) := dk_43 (dk_at dksX4_isGood_0 23 rfl rfl)
theorem dX4_isGood_24 : decode cX4_isGood 24 = .ok (.iload 4, 2) := dk_21 4 (dk_at dksX4_isGood_1 0 rfl rfl)
theorem dX4_isGood_26 : decode cX4_isGood 26 = .ok (.iaload, 1) := dk_46 (dk_at dksX4_isGood_1 2 rfl rfl)
theorem dX4_isGood_27 : decode cX4_isGood 27 = .ok (.istore 5, 2) := dk_54 5 (dk_at dksX4_isGood_1 3 rfl rfl)
theorem dX4_isGood_29 : decode cX4_isGood 29 = .ok (.iload 5, 2) := dk_21 5 (dk_at dksX4_isGood_1 5 rfl rfl)
theorem dX4_isGood_31 : decode cX4_isGood 31 = .ok (.iconst 1, 1) := dk_4 (dk_at dksX4_isGood_1 7 rfl rfl)
theorem dX4_isGood_32 : decode cX4_isGood 32 = .ok (.if_icmp .ne 22, 3) := dk_160 0 22 (dk_at dksX4_isGood_1 8 rfl rfl)
theorem dX4_isGood_35 : decode cX4_isGood 35 = .ok (.iinc 4 1, 3) := dk_132 4 1 (dk_at dksX4_isGood_1 11 rfl rfl)
theorem dX4_isGood_38 : decode cX4_isGood 38 = .ok (.aload_n 0, 1) := dk_42 (dk_at dksX4_isGood_1 14 rfl rfl)
theorem dX4_isGood_39 : decode cX4_isGood 39 = .ok (.getfield 37, 3) := dk_180 0 37 (dk_at dksX4_isGood_1 15 rfl rfl)
theorem dX4_isGood_42 : decode cX4_isGood 42 = .ok (.iload_n 3, 1) := dk_29 (dk_at dksX4_isGood_1 18 rfl rfl)
theorem dX4_isGood_43 : decode cX4_isGood 43 = .ok (.aload_n 1, 1) := dk_43 (dk_at dksX4_isGood_1 19 rfl rfl)
theorem dX4_isGood_44 : decode cX4_isGood 44 = .ok (.iload 4, 2) := dk_21 4 (dk_at dksX4_isGood_1 20 rfl rfl)
theorem dX4_isGood_46 : decode cX4_isGood 46 = .ok (.iaload, 1) := dk_46 (dk_at dksX4_isGood_1 22 rfl rfl)
theorem dX4_isGood_47 : decode cX4_isGood 47 = .ok (.iastore, 1) := dk_79 (dk_at dksX4_isGood_1 23 rfl rfl)
theorem dX4_isGood_48 : decode cX4_isGood 48 = .ok (.iinc 3 1, 3) := dk_132 3 1 (dk_at dksX4_isGood_2 0 rfl rfl)
theorem dX4_isGood_51 : decode cX4_isGood 51 = .ok (.goto 172, 3) := dk_167 0 172 (dk_at dksX4_isGood_2 3 rfl rfl)
theorem dX4_isGood_54 : decode cX4_isGood 54 = .ok (.iload 5, 2) := dk_21 5 (dk_at dksX4_isGood_2 6 rfl rfl)
theorem dX4_isGood_56 : decode cX4_isGood 56 = .ok (.bipush 8, 2) := dk_16 8 (dk_at dksX4_isGood_2 8 rfl rfl)
theorem dX4_isGood_58 : decode cX4_isGood 58 = .ok (.if_icmp .ge 25, 3) := dk_162 0 25 (dk_at dksX4_isGood_2 10 rfl rfl)
theorem dX4_isGood_61 : decode cX4_isGood 61 = .ok (.aload_n 0, 1) := dk_42 (dk_at dksX4_isGood_2 13 rfl rfl)
theorem dX4_isGood_62 : decode cX4_isGood 62 = .ok (.getfield 37, 3) := dk_180 0 37 (dk_at dksX4_isGood_2 14 rfl rfl)
theorem dX4_isGood_65 : decode cX4_isGood 65 = .ok (.iload_n 3, 1) := dk_29 (dk_at dksX4_isGood_2 17 rfl rfl)
theorem dX4_isGood_66 : decode cX4_isGood 66 = .ok (.aload_n 0, 1) := dk_42 (dk_at dksX4_isGood_2 18 rfl rfl)
theorem dX4_isGood_67 : decode cX4_isGood 67 = .ok (.aload_n 1, 1) := dk_43 (dk_at dksX4_isGood_2 19 rfl rfl)
theorem dX4_isGood_68 : decode cX4_isGood 68 = .ok (.iload_n 2, 1) := dk_28 (dk_at dksX4_isGood_2 20 rfl rfl)
theorem dX4_isGood_69 : decode cX4_isGood 69 = .ok (.iload 5, 2) := dk_21 5 (dk_at dksX4_isGood_2 21 rfl rfl)
theorem dX4_isGood_71 : decode cX4_isGood 71 = .ok (.iconst 2, 1) := dk_5 (dk_at dksX4_isGood_2 23 rfl rfl)
theorem dX4_isGood_72 : decode cX4_isGood 72 = .ok (.isub, 1) := dk_100 (dk_at dksX4_isGood_3 0 rfl rfl)
theorem dX4_isGood_73 : decode cX4_isGood 73 = .ok (.invokevirtual 225, 3) := dk_182 0 225 (dk_at dksX4_isGood_3 1 rfl rfl)
theorem dX4_isGood_76 : decode cX4_isGood 76 = .ok (.iastore, 1) := dk_79 (dk_at dksX4_isGood_3 4 rfl rfl)
theorem dX4_isGood_77 : decode cX4_isGood 77 = .ok (.iinc 3 1, 3) := dk_132 3 1 (dk_at dksX4_isGood_3 5 rfl rfl)
theorem dX4_isGood_80 : decode cX4_isGood 80 = .ok (.goto 143, 3) := dk_167 0 143 (dk_at dksX4_isGood_3 8 rfl rfl)
theorem dX4_isGood_83 : decode cX4_isGood 83 = .ok (.iload 5, 2) := dk_21 5 (dk_at dksX4_isGood_3 11 rfl rfl)
theorem dX4_isGood_85 : decode cX4_isGood 85 = .ok (.bipush 11, 2) := dk_16 11 (dk_at dksX4_isGood_3 13 rfl rfl)
theorem dX4_isGood_87 : decode cX4_isGood 87 = .ok (.if_icmp .ne 24, 3) := dk_160 0 24 (dk_at dksX4_isGood_3 15 rfl rfl)
theorem dX4_isGood_90 : decode cX4_isGood 90 = .ok (.aload_n 0, 1) := dk_42 (dk_at dksX4_isGood_3 18 rfl rfl)
theorem dX4_isGood_91 : decode cX4_isGood 91 = .ok (.getfield 37, 3) := dk_180 0 37 (dk_at dksX4_isGood_3 19 rfl rfl)
theorem dX4_isGood_94 : decode cX4_isGood 94 = .ok (.iload_n 3, 1) := dk_29 (dk_at dksX4_isGood_3 22 rfl rfl)
theorem dX4_isGood_95 : decode cX4_isGood 95 = .ok (.iconst 1, 1) := dk_4 (dk_at dksX4_isGood_3 23 rfl rfl)
theorem dX4_isGood_96 : decode cX4_isGood 96 = .ok (.isub, 1) := dk_100 (dk_at dksX4_isGood_4 0 rfl rfl)
theorem dX4_isGood_97 : decode cX4_isGood 97 = .ok (.iconst 1, 1) := dk_4 (dk_at dksX4_isGood_4 1 rfl rfl)
theorem dX4_isGood_98 : decode cX4_isGood 98 = .ok (.aload_n 0, 1) := dk_42 (dk_at dksX4_isGood_4 2 rfl rfl)
theorem dX4_isGood_99 : decode cX4_isGood 99 = .ok (.getfield 37, 3) := dk_180 0 37 (dk_at dksX4_isGood_4 3 rfl rfl)
theorem dX4_isGood_102 : decode cX4_isGood 102 = .ok (.iload_n 3, 1) := dk_29 (dk_at dksX4_isGood_4 6 rfl rfl)
theorem dX4_isGood_103 : decode cX4_isGood 103 = .ok (.iconst 1, 1) := dk_4 (dk_at dksX4_isGood_4 7 rfl rfl)
theorem dX4_isGood_104 : decode cX4_isGood 104 = .ok (.isub, 1) := dk_100 (dk_at dksX4_isGood_4 8 rfl rfl)
theorem dX4_isGood_105 : decode cX4_isGood 105 = .ok (.iaload, 1) := dk_46 (dk_at dksX4_isGood_4 9 rfl rfl)
theorem dX4_isGood_106 : decode cX4_isGood 106 = .ok (.isub, 1) := dk_100 (dk_at dksX4_isGood_4 10 rfl rfl)
theorem dX4_isGood_107 : decode cX4_isGood 107 = .ok (.iastore, 1) := dk_79 (dk_at dksX4_isGood_4 11 rfl rfl)
theorem dX4_isGood_108 : decode cX4_isGood 108 = .ok (.goto 115, 3) := dk_167 0 115 (dk_at dksX4_isGood_4 12 rfl rfl)
theorem dX4_isGood_111 : decode cX4_isGood 111 = .ok (.iinc 3 (-1), 3) := dk_132 3 255 (dk_at dksX4_isGood_4 15 rfl rfl)
theorem dX4_isGood_114 : decode cX4_isGood 114 = .ok (.aload_n 0, 1) := dk_42 (dk_at dksX4_isGood_4 18 rfl rfl)
theorem dX4_isGood_115 : decode cX4_isGood 115 = .ok (.getfield 37, 3) := dk_180 0 37 (dk_at dksX4_isGood_4 19 rfl rfl)
theorem dX4_isGood_118 : decode cX4_isGood 118 = .ok (.iload_n 3, 1) := dk_29 (dk_at dksX4_isGood_4 22 rfl rfl)
theorem dX4_isGood_119 : decode cX4_isGood 119 = .ok (.iconst 1, 1) := dk_4 (dk_at dksX4_isGood_4 23 rfl rfl)
theorem dX4_isGood_120 : decode cX4_isGood 120 = .ok (.isub, 1) := dk_100 (dk_at dksX4_isGood_5 0 rfl rfl)
theorem dX4_isGood_121 : decode cX4_isGood 121 = .ok (.iaload, 1) := dk_46 (dk_at dksX4_isGood_5 1 rfl rfl)
theorem dX4_isGood_122 : decode cX4_isGood 122 = .ok (.istore 6, 2) := dk_54 6 (dk_at dksX4_isGood_5 2 rfl rfl)
theorem dX4_isGood_124 : decode cX4_isGood 124 = .ok (.aload_n 0, 1) := dk_42 (dk_at dksX4_isGood_5 4 rfl rfl)
theorem dX4_isGood_125 : decode cX4_isGood 125 = .ok (.getfield 37, 3) := dk_180 0 37 (dk_at dksX4_isGood_5 5 rfl rfl)
theorem dX4_isGood_128 : decode cX4_isGood 128 = .ok (.iload_n 3, 1) := dk_29 (dk_at dksX4_isGood_5 8 rfl rfl)
theorem dX4_isGood_129 : decode cX4_isGood 129 = .ok (.iaload, 1) := dk_46 (dk_at dksX4_isGood_5 9 rfl rfl)
theorem dX4_isGood_130 : decode cX4_isGood 130 = .ok (.istore 7, 2) := dk_54 7 (dk_at dksX4_isGood_5 10 rfl rfl)
theorem dX4_isGood_132 : decode cX4_isGood 132 = .ok (.aload_n 0, 1) := dk_42 (dk_at dksX4_isGood_5 12 rfl rfl)
theorem dX4_isGood_133 : decode cX4_isGood 133 = .ok (.getfield 37, 3) := dk_180 0 37 (dk_at dksX4_isGood_5 13 rfl rfl)
theorem dX4_isGood_136 : decode cX4_isGood 136 = .ok (.iload_n 3, 1) := dk_29 (dk_at dksX4_isGood_5 16 rfl rfl)
theorem dX4_isGood_137 : decode cX4_isGood 137 = .ok (.iconst 1, 1) := dk_4 (dk_at dksX4_isGood_5 17 rfl rfl)
theorem dX4_isGood_138 : decode cX4_isGood 138 = .ok (.isub, 1) := dk_100 (dk_at dksX4_isGood_5 18 rfl rfl)
theorem dX4_isGood_139 : decode cX4_isGood 139 = .ok (.iload 5, 2) := dk_21 5 (dk_at dksX4_isGood_5 19 rfl rfl)
theorem dX4_isGood_141 : decode cX4_isGood 141 = .ok (.bipush 8, 2) := dk_16 8 (dk_at dksX4_isGood_5 21 rfl rfl)
theorem dX4_isGood_143 : decode cX4_isGood 143 = .ok (.if_icmp .ne 13, 3) := dk_160 0 13 (dk_at dksX4_isGood_6 0 rfl rfl)
theorem dX4_isGood_146 : decode cX4_isGood 146 = .ok (.iload 6, 2) := dk_21 6 (dk_at dksX4_isGood_6 3 rfl rfl)
theorem dX4_isGood_148 : decode cX4_isGood 148 = .ok (.iload 7, 2) := dk_21 7 (dk_at dksX4_isGood_6 5 rfl rfl)
theorem dX4_isGood_150 : decode cX4_isGood 150 = .ok (.if_icmp .ge 71, 3) := dk_162 0 71 (dk_at dksX4_isGood_6 7 rfl rfl)
theorem dX4_isGood_153 : decode cX4_isGood 153 = .ok (.goto 64, 3) := dk_167 0 64 (dk_at dksX4_isGood_6 10 rfl rfl)
theorem dX4_isGood_156 : decode cX4_isGood 156 = .ok (.iload 5, 2) := dk_21 5 (dk_at dksX4_isGood_6 13 rfl rfl)
theorem dX4_isGood_158 : decode cX4_isGood 158 = .ok (.bipush 9, 2) := dk_16 9 (dk_at dksX4_isGood_6 15 rfl rfl)
theorem dX4_isGood_160 : decode cX4_isGood 160 = .ok (.if_icmp .ne 13, 3) := dk_160 0 13 (dk_at dksX4_isGood_6 17 rfl rfl)
theorem dX4_isGood_163 : decode cX4_isGood 163 = .ok (.iload 6, 2) := dk_21 6 (dk_at dksX4_isGood_6 20 rfl rfl)
theorem dX4_isGood_165 : decode cX4_isGood 165 = .ok (.iload 7, 2) := dk_21 7 (dk_at dksX4_isGood_6 22 rfl rfl)
theorem dX4_isGood_167 : decode cX4_isGood 167 = .ok (.if_icmp .ne 54, 3) := dk_160 0 54 (dk_at dksX4_isGood_7 0 rfl rfl)
theorem dX4_isGood_170 : decode cX4_isGood 170 = .ok (.goto 47, 3) := dk_167 0 47 (dk_at dksX4_isGood_7 3 rfl rfl)
theorem dX4_isGood_173 : decode cX4_isGood 173 = .ok (.iload 5, 2) := dk_21 5 (dk_at dksX4_isGood_7 6 rfl rfl)
theorem dX4_isGood_175 : decode cX4_isGood 175 = .ok (.bipush 10, 2) := dk_16 10 (dk_at dksX4_isGood_7 8 rfl rfl)
theorem dX4_isGood_177 : decode cX4_isGood 177 = .ok (.if_icmp .ne 13, 3) := dk_160 0 13 (dk_at dksX4_isGood_7 10 rfl rfl)
theorem dX4_isGood_180 : decode cX4_isGood 180 = .ok (.iload 6, 2) := dk_21 6 (dk_at dksX4_isGood_7 13 rfl rfl)
theorem dX4_isGood_182 : decode cX4_isGood 182 = .ok (.iload 7, 2) := dk_21 7 (dk_at dksX4_isGood_7 15 rfl rfl)
theorem dX4_isGood_184 : decode cX4_isGood 184 = .ok (.if_icmp .le 37, 3) := dk_164 0 37 (dk_at dksX4_isGood_7 17 rfl rfl)
theorem dX4_isGood_187 : decode cX4_isGood 187 = .ok (.goto 30, 3) := dk_167 0 30 (dk_at dksX4_isGood_7 20 rfl rfl)
theorem dX4_isGood_190 : decode cX4_isGood 190 = .ok (.iload 5, 2) := dk_21 5 (dk_at dksX4_isGood_8 0 rfl rfl)
theorem dX4_isGood_192 : decode cX4_isGood 192 = .ok (.bipush 12, 2) := dk_16 12 (dk_at dksX4_isGood_8 2 rfl rfl)
theorem dX4_isGood_194 : decode cX4_isGood 194 = .ok (.if_icmp .ne 15, 3) := dk_160 0 15 (dk_at dksX4_isGood_8 4 rfl rfl)
theorem dX4_isGood_197 : decode cX4_isGood 197 = .ok (.iload 6, 2) := dk_21 6 (dk_at dksX4_isGood_8 7 rfl rfl)
theorem dX4_isGood_199 : decode cX4_isGood 199 = .ok (.iload 7, 2) := dk_21 7 (dk_at dksX4_isGood_8 9 rfl rfl)
theorem dX4_isGood_201 : decode cX4_isGood 201 = .ok (.iadd, 1) := dk_96 (dk_at dksX4_isGood_8 11 rfl rfl)
theorem dX4_isGood_202 : decode cX4_isGood 202 = .ok (.iconst 2, 1) := dk_5 (dk_at dksX4_isGood_8 12 rfl rfl)
theorem dX4_isGood_203 : decode cX4_isGood 203 = .ok (.if_icmp .ne 18, 3) := dk_160 0 18 (dk_at dksX4_isGood_8 13 rfl rfl)
theorem dX4_isGood_206 : decode cX4_isGood 206 = .ok (.goto 11, 3) := dk_167 0 11 (dk_at dksX4_isGood_8 16 rfl rfl)
theorem dX4_isGood_209 : decode cX4_isGood 209 = .ok (.iload 6, 2) := dk_21 6 (dk_at dksX4_isGood_8 19 rfl rfl)
theorem dX4_isGood_211 : decode cX4_isGood 211 = .ok (.iload 7, 2) := dk_21 7 (dk_at dksX4_isGood_8 21 rfl rfl)
theorem dX4_isGood_213 : decode cX4_isGood 213 = .ok (.iadd, 1) := dk_96 (dk_at dksX4_isGood_8 23 rfl rfl)
theorem dX4_isGood_214 : decode cX4_isGood 214 = .ok (.ifCond .le 7, 3) := dk_158 0 7 (dk_at dksX4_isGood_9 0 rfl rfl)
theorem dX4_isGood_217 : decode cX4_isGood 217 = .ok (.iconst 1, 1) := dk_4 (dk_at dksX4_isGood_9 3 rfl rfl)
theorem dX4_isGood_218 : decode cX4_isGood 218 = .ok (.goto 4, 3) := dk_167 0 4 (dk_at dksX4_isGood_9 4 rfl rfl)
theorem dX4_isGood_221 : decode cX4_isGood 221 = .ok (.iconst 0, 1) := dk_3 (dk_at dksX4_isGood_9 7 rfl rfl)
theorem dX4_isGood_222 : decode cX4_isGood 222 = .ok (.iastore, 1) := dk_79 (dk_at dksX4_isGood_9 8 rfl rfl)
theorem dX4_isGood_223 : decode cX4_isGood 223 = .ok (.iinc 4 1, 3) := dk_132 4 1 (dk_at dksX4_isGood_9 9 rfl rfl)
theorem dX4_isGood_226 : decode cX4_isGood 226 = .ok (.goto (-210), 3) := dk_167 255 46 (dk_at dksX4_isGood_9 12 rfl rfl)
theorem dX4_isGood_229 : decode cX4_isGood 229 = .ok (.aload_n 0, 1) := dk_42 (dk_at dksX4_isGood_9 15 rfl rfl)
theorem dX4_isGood_230 : decode cX4_isGood 230 = .ok (.getfield 37, 3) := dk_180 0 37 (dk_at dksX4_isGood_9 16 rfl rfl)
theorem dX4_isGood_233 : decode cX4_isGood 233 = .ok (.iconst 0, 1) := dk_3 (dk_at dksX4_isGood_9 19 rfl rfl)
theorem dX4_isGood_234 : decode cX4_isGood 234 = .ok (.iaload, 1) := dk_46 (dk_at dksX4_isGood_9 20 rfl rfl)
theorem dX4_isGood_235 : decode cX4_isGood 235 = .ok (.iconst 1, 1) := dk_4 (dk_at dksX4_isGood_9 21 rfl rfl)
theorem dX4_isGood_236 : decode cX4_isGood 236 = .ok (.if_icmp .ne 7, 3) := dk_160 0 7 (dk_at dksX4_isGood_10 0 rfl rfl)
theorem dX4_isGood_239 : decode cX4_isGood 239 = .ok (.iconst 1, 1) := dk_4 (dk_at dksX4_isGood_10 3 rfl rfl)
theorem dX4_isGood_240 : decode cX4_isGood 240 = .ok (.goto 4, 3) := dk_167 0 4 (dk_at dksX4_isGood_10 4 rfl rfl)
theorem dX4_isGood_243 : decode cX4_isGood 243 = .ok (.iconst 0, 1) := dk_3 (dk_at dksX4_isGood_10 7 rfl rfl)
theorem dX4_isGood_244 : decode cX4_isGood 244 = .ok (.ireturn, 1) := dk_172 (dk_at dksX4_isGood_10 8 rfl rfl)
abbrev cX4_fact : ByteArray := prog_12_method_37_code
def yX4_fact : MethodName := ⟨RX4, "fact", "([III)I"⟩
def dkwX4_fact_4 : List UInt8 := [5, 184, 0, 124, 46, 172, 43, 42, 180, 0, 34, 28, 46, 5, 184, 0, 111, 46, 172, 21, 4, 172]
abbrev dktX4_fact_4 : List UInt8 := dkwX4_fact_4 ++ []
def dkwX4_fact_3 : List UInt8 := [43, 28, 6, 184, 0, 124, 46, 172, 43, 28, 4, 184, 0, 124, 46, 172, 43, 28, 184, 0, 221, 172, 43, 28]
abbrev dktX4_fact_3 : List UInt8 := dkwX4_fact_3 ++ dktX4_fact_4
def dkwX4_fact_2 : List UInt8 := [170, 0, 0, 0, 0, 0, 78, 0, 0, 0, 0, 0, 0, 0, 4, 0, 0, 0, 35, 0, 0, 0, 43, 0, 0, 0, 51, 0, 0, 0, 57, 0, 0, 0, 65]
abbrev dktX4_fact_2 : List UInt8 := dkwX4_fact_2 ++ dktX4_fact_3
def dkwX4_fact_1 : List UInt8 := [180, 0, 34, 28, 46, 160, 0, 7, 4, 167, 0, 4, 3, 96, 54, 4, 132, 5, 1, 167, 255, 221, 29]
abbrev dktX4_fact_1 : List UInt8 := dkwX4_fact_1 ++ dktX4_fact_2
def dkwX4_fact_0 : List UInt8 := [3, 54, 4, 3, 54, 5, 21, 5, 28, 162, 0, 35, 21, 4, 42, 180, 0, 34, 21, 5, 46, 42]
abbrev dktX4_fact_0 : List UInt8 := dkwX4_fact_0 ++ dktX4_fact_1
theorem dksX4_fact_0 : cX4_fact.data.toList.drop 0 = dktX4_fact_0 := by decide +kernel
theorem dksX4_fact_1 : cX4_fact.data.toList.drop 22 = dktX4_fact_1 := dk_seg dksX4_fact_0 22 rfl rfl
theorem dksX4_fact_2 : cX4_fact.data.toList.drop 45 = dktX4_fact_2 := dk_seg dksX4_fact_1 23 rfl rfl
theorem dksX4_fact_3 : cX4_fact.data.toList.drop 80 = dktX4_fact_3 := dk_seg dksX4_fact_2 35 rfl rfl
theorem dksX4_fact_4 : cX4_fact.data.toList.drop 104 = dktX4_fact_4 := dk_seg dksX4_fact_3 24 rfl rfl
theorem dX4_fact_0 : decode cX4_fact 0 = .ok (.iconst 0, 1) := dk_3 (dk_at dksX4_fact_0 0 rfl rfl)
theorem dX4_fact_1 : decode cX4_fact 1 = .ok (.istore 4, 2) := dk_54 4 (dk_at dksX4_fact_0 1 rfl rfl)
theorem dX4_fact_3 : decode cX4_fact 3 = .ok (.iconst 0, 1) := dk_3 (dk_at dksX4_fact_0 3 rfl rfl)
theorem dX4_fact_4 : decode cX4_fact 4 = .ok (.istore 5, 2) := dk_54 5 (dk_at dksX4_fact_0 4 rfl rfl)
theorem dX4_fact_6 : decode cX4_fact 6 = .ok (.iload 5, 2) := dk_21 5 (dk_at dksX4_fact_0 6 rfl rfl)
theorem dX4_fact_8 : decode cX4_fact 8 = .ok (.iload_n 2, 1) := dk_28 (dk_at dksX4_fact_0 8 rfl rfl)
theorem dX4_fact_9 : decode cX4_fact 9 = .ok (.if_icmp .ge 35, 3) := dk_162 0 35 (dk_at dksX4_fact_0 9 rfl rfl)
theorem dX4_fact_12 : decode cX4_fact 12 = .ok (.iload 4, 2) := dk_21 4 (dk_at dksX4_fact_0 12 rfl rfl)
theorem dX4_fact_14 : decode cX4_fact 14 = .ok (.aload_n 0, 1) := dk_42 (dk_at dksX4_fact_0 14 rfl rfl)
theorem dX4_fact_15 : decode cX4_fact 15 = .ok (.getfield 34, 3) := dk_180 0 34 (dk_at dksX4_fact_0 15 rfl rfl)
theorem dX4_fact_18 : decode cX4_fact 18 = .ok (.iload 5, 2) := dk_21 5 (dk_at dksX4_fact_0 18 rfl rfl)
theorem dX4_fact_20 : decode cX4_fact 20 = .ok (.iaload, 1) := dk_46 (dk_at dksX4_fact_0 20 rfl rfl)
theorem dX4_fact_21 : decode cX4_fact 21 = .ok (.aload_n 0, 1) := dk_42 (dk_at dksX4_fact_0 21 rfl rfl)
theorem dX4_fact_22 : decode cX4_fact 22 = .ok (.getfield 34, 3) := dk_180 0 34 (dk_at dksX4_fact_1 0 rfl rfl)
theorem dX4_fact_25 : decode cX4_fact 25 = .ok (.iload_n 2, 1) := dk_28 (dk_at dksX4_fact_1 3 rfl rfl)
theorem dX4_fact_26 : decode cX4_fact 26 = .ok (.iaload, 1) := dk_46 (dk_at dksX4_fact_1 4 rfl rfl)
theorem dX4_fact_27 : decode cX4_fact 27 = .ok (.if_icmp .ne 7, 3) := dk_160 0 7 (dk_at dksX4_fact_1 5 rfl rfl)
theorem dX4_fact_30 : decode cX4_fact 30 = .ok (.iconst 1, 1) := dk_4 (dk_at dksX4_fact_1 8 rfl rfl)
theorem dX4_fact_31 : decode cX4_fact 31 = .ok (.goto 4, 3) := dk_167 0 4 (dk_at dksX4_fact_1 9 rfl rfl)
theorem dX4_fact_34 : decode cX4_fact 34 = .ok (.iconst 0, 1) := dk_3 (dk_at dksX4_fact_1 12 rfl rfl)
theorem dX4_fact_35 : decode cX4_fact 35 = .ok (.iadd, 1) := dk_96 (dk_at dksX4_fact_1 13 rfl rfl)
theorem dX4_fact_36 : decode cX4_fact 36 = .ok (.istore 4, 2) := dk_54 4 (dk_at dksX4_fact_1 14 rfl rfl)
theorem dX4_fact_38 : decode cX4_fact 38 = .ok (.iinc 5 1, 3) := dk_132 5 1 (dk_at dksX4_fact_1 16 rfl rfl)
theorem dX4_fact_41 : decode cX4_fact 41 = .ok (.goto (-35), 3) := dk_167 255 221 (dk_at dksX4_fact_1 19 rfl rfl)
theorem dX4_fact_44 : decode cX4_fact 44 = .ok (.iload_n 3, 1) := dk_29 (dk_at dksX4_fact_1 22 rfl rfl)
theorem dX4_fact_45 : decode cX4_fact 45 = .ok (.tableswitch 78 0 4 #[35, 43, 51, 57, 65], 35) := by decide +kernel
theorem dX4_fact_80 : decode cX4_fact 80 = .ok (.aload_n 1, 1) := dk_43 (dk_at dksX4_fact_3 0 rfl rfl)
theorem dX4_fact_81 : decode cX4_fact 81 = .ok (.iload_n 2, 1) := dk_28 (dk_at dksX4_fact_3 1 rfl rfl)
theorem dX4_fact_82 : decode cX4_fact 82 = .ok (.iconst 3, 1) := dk_6 (dk_at dksX4_fact_3 2 rfl rfl)
theorem dX4_fact_83 : decode cX4_fact 83 = .ok (.invokestatic 124, 3) := dk_184 0 124 (dk_at dksX4_fact_3 3 rfl rfl)
theorem dX4_fact_86 : decode cX4_fact 86 = .ok (.iaload, 1) := dk_46 (dk_at dksX4_fact_3 6 rfl rfl)
theorem dX4_fact_87 : decode cX4_fact 87 = .ok (.ireturn, 1) := dk_172 (dk_at dksX4_fact_3 7 rfl rfl)
theorem dX4_fact_88 : decode cX4_fact 88 = .ok (.aload_n 1, 1) := dk_43 (dk_at dksX4_fact_3 8 rfl rfl)
theorem dX4_fact_89 : decode cX4_fact 89 = .ok (.iload_n 2, 1) := dk_28 (dk_at dksX4_fact_3 9 rfl rfl)
theorem dX4_fact_90 : decode cX4_fact 90 = .ok (.iconst 1, 1) := dk_4 (dk_at dksX4_fact_3 10 rfl rfl)
theorem dX4_fact_91 : decode cX4_fact 91 = .ok (.invokestatic 124, 3) := dk_184 0 124 (dk_at dksX4_fact_3 11 rfl rfl)
theorem dX4_fact_94 : decode cX4_fact 94 = .ok (.iaload, 1) := dk_46 (dk_at dksX4_fact_3 14 rfl rfl)
theorem dX4_fact_95 : decode cX4_fact 95 = .ok (.ireturn, 1) := dk_172 (dk_at dksX4_fact_3 15 rfl rfl)
theorem dX4_fact_96 : decode cX4_fact 96 = .ok (.aload_n 1, 1) := dk_43 (dk_at dksX4_fact_3 16 rfl rfl)
theorem dX4_fact_97 : decode cX4_fact 97 = .ok (.iload_n 2, 1) := dk_28 (dk_at dksX4_fact_3 17 rfl rfl)
theorem dX4_fact_98 : decode cX4_fact 98 = .ok (.invokestatic 221, 3) := dk_184 0 221 (dk_at dksX4_fact_3 18 rfl rfl)
theorem dX4_fact_101 : decode cX4_fact 101 = .ok (.ireturn, 1) := dk_172 (dk_at dksX4_fact_3 21 rfl rfl)
theorem dX4_fact_102 : decode cX4_fact 102 = .ok (.aload_n 1, 1) := dk_43 (dk_at dksX4_fact_3 22 rfl rfl)
theorem dX4_fact_103 : decode cX4_fact 103 = .ok (.iload_n 2, 1) := dk_28 (dk_at dksX4_fact_3 23 rfl rfl)
theorem dX4_fact_104 : decode cX4_fact 104 = .ok (.iconst 2, 1) := dk_5 (dk_at dksX4_fact_4 0 rfl rfl)
theorem dX4_fact_105 : decode cX4_fact 105 = .ok (.invokestatic 124, 3) := dk_184 0 124 (dk_at dksX4_fact_4 1 rfl rfl)
theorem dX4_fact_108 : decode cX4_fact 108 = .ok (.iaload, 1) := dk_46 (dk_at dksX4_fact_4 4 rfl rfl)
theorem dX4_fact_109 : decode cX4_fact 109 = .ok (.ireturn, 1) := dk_172 (dk_at dksX4_fact_4 5 rfl rfl)
theorem dX4_fact_110 : decode cX4_fact 110 = .ok (.aload_n 1, 1) := dk_43 (dk_at dksX4_fact_4 6 rfl rfl)
theorem dX4_fact_111 : decode cX4_fact 111 = .ok (.aload_n 0, 1) := dk_42 (dk_at dksX4_fact_4 7 rfl rfl)
theorem dX4_fact_112 : decode cX4_fact 112 = .ok (.getfield 34, 3) := dk_180 0 34 (dk_at dksX4_fact_4 8 rfl rfl)
theorem dX4_fact_115 : decode cX4_fact 115 = .ok (.iload_n 2, 1) := dk_28 (dk_at dksX4_fact_4 11 rfl rfl)
theorem dX4_fact_116 : decode cX4_fact 116 = .ok (.iaload, 1) := dk_46 (dk_at dksX4_fact_4 12 rfl rfl)
theorem dX4_fact_117 : decode cX4_fact 117 = .ok (.iconst 2, 1) := dk_5 (dk_at dksX4_fact_4 13 rfl rfl)
theorem dX4_fact_118 : decode cX4_fact 118 = .ok (.invokestatic 111, 3) := dk_184 0 111 (dk_at dksX4_fact_4 14 rfl rfl)
theorem dX4_fact_121 : decode cX4_fact 121 = .ok (.iaload, 1) := dk_46 (dk_at dksX4_fact_4 17 rfl rfl)
theorem dX4_fact_122 : decode cX4_fact 122 = .ok (.ireturn, 1) := dk_172 (dk_at dksX4_fact_4 18 rfl rfl)
theorem dX4_fact_123 : decode cX4_fact 123 = .ok (.iload 4, 2) := dk_21 4 (dk_at dksX4_fact_4 19 rfl rfl)
theorem dX4_fact_125 : decode cX4_fact 125 = .ok (.ireturn, 1) := dk_172 (dk_at dksX4_fact_4 21 rfl rfl)
abbrev cX4_numberOf : ByteArray := prog_12_method_36_code
def yX4_numberOf : MethodName := ⟨RX4, "numberOf", "([II)I"⟩
def dkwX4_numberOf_1 : List UInt8 := [160, 0, 7, 4, 167, 0, 4, 3, 96, 61, 132, 3, 1, 167, 255, 223, 28, 172]
abbrev dktX4_numberOf_1 : List UInt8 := dkwX4_numberOf_1 ++ []
def dkwX4_numberOf_0 : List UInt8 := [3, 61, 3, 62, 29, 27, 162, 0, 34, 28, 42, 29, 5, 184, 0, 124, 46, 42, 27, 5, 184, 0, 124, 46]
abbrev dktX4_numberOf_0 : List UInt8 := dkwX4_numberOf_0 ++ dktX4_numberOf_1
theorem dksX4_numberOf_0 : cX4_numberOf.data.toList.drop 0 = dktX4_numberOf_0 := by decide +kernel
theorem dksX4_numberOf_1 : cX4_numberOf.data.toList.drop 24 = dktX4_numberOf_1 := dk_seg dksX4_numberOf_0 24 rfl rfl
theorem dX4_numberOf_0 : decode cX4_numberOf 0 = .ok (.iconst 0, 1) := dk_3 (dk_at dksX4_numberOf_0 0 rfl rfl)
theorem dX4_numberOf_1 : decode cX4_numberOf 1 = .ok (.istore_n 2, 1) := dk_61 (dk_at dksX4_numberOf_0 1 rfl rfl)
theorem dX4_numberOf_2 : decode cX4_numberOf 2 = .ok (.iconst 0, 1) := dk_3 (dk_at dksX4_numberOf_0 2 rfl rfl)
theorem dX4_numberOf_3 : decode cX4_numberOf 3 = .ok (.istore_n 3, 1) := dk_62 (dk_at dksX4_numberOf_0 3 rfl rfl)
theorem dX4_numberOf_4 : decode cX4_numberOf 4 = .ok (.iload_n 3, 1) := dk_29 (dk_at dksX4_numberOf_0 4 rfl rfl)
theorem dX4_numberOf_5 : decode cX4_numberOf 5 = .ok (.iload_n 1, 1) := dk_27 (dk_at dksX4_numberOf_0 5 rfl rfl)
theorem dX4_numberOf_6 : decode cX4_numberOf 6 = .ok (.if_icmp .ge 34, 3) := dk_162 0 34 (dk_at dksX4_numberOf_0 6 rfl rfl)
theorem dX4_numberOf_9 : decode cX4_numberOf 9 = .ok (.iload_n 2, 1) := dk_28 (dk_at dksX4_numberOf_0 9 rfl rfl)
theorem dX4_numberOf_10 : decode cX4_numberOf 10 = .ok (.aload_n 0, 1) := dk_42 (dk_at dksX4_numberOf_0 10 rfl rfl)
theorem dX4_numberOf_11 : decode cX4_numberOf 11 = .ok (.iload_n 3, 1) := dk_29 (dk_at dksX4_numberOf_0 11 rfl rfl)
theorem dX4_numberOf_12 : decode cX4_numberOf 12 = .ok (.iconst 2, 1) := dk_5 (dk_at dksX4_numberOf_0 12 rfl rfl)
theorem dX4_numberOf_13 : decode cX4_numberOf 13 = .ok (.invokestatic 124, 3) := dk_184 0 124 (dk_at dksX4_numberOf_0 13 rfl rfl)
theorem dX4_numberOf_16 : decode cX4_numberOf 16 = .ok (.iaload, 1) := dk_46 (dk_at dksX4_numberOf_0 16 rfl rfl)
theorem dX4_numberOf_17 : decode cX4_numberOf 17 = .ok (.aload_n 0, 1) := dk_42 (dk_at dksX4_numberOf_0 17 rfl rfl)
theorem dX4_numberOf_18 : decode cX4_numberOf 18 = .ok (.iload_n 1, 1) := dk_27 (dk_at dksX4_numberOf_0 18 rfl rfl)
theorem dX4_numberOf_19 : decode cX4_numberOf 19 = .ok (.iconst 2, 1) := dk_5 (dk_at dksX4_numberOf_0 19 rfl rfl)
theorem dX4_numberOf_20 : decode cX4_numberOf 20 = .ok (.invokestatic 124, 3) := dk_184 0 124 (dk_at dksX4_numberOf_0 20 rfl rfl)
theorem dX4_numberOf_23 : decode cX4_numberOf 23 = .ok (.iaload, 1) := dk_46 (dk_at dksX4_numberOf_0 23 rfl rfl)
theorem dX4_numberOf_24 : decode cX4_numberOf 24 = .ok (.if_icmp .ne 7, 3) := dk_160 0 7 (dk_at dksX4_numberOf_1 0 rfl rfl)
theorem dX4_numberOf_27 : decode cX4_numberOf 27 = .ok (.iconst 1, 1) := dk_4 (dk_at dksX4_numberOf_1 3 rfl rfl)
theorem dX4_numberOf_28 : decode cX4_numberOf 28 = .ok (.goto 4, 3) := dk_167 0 4 (dk_at dksX4_numberOf_1 4 rfl rfl)
theorem dX4_numberOf_31 : decode cX4_numberOf 31 = .ok (.iconst 0, 1) := dk_3 (dk_at dksX4_numberOf_1 7 rfl rfl)
theorem dX4_numberOf_32 : decode cX4_numberOf 32 = .ok (.iadd, 1) := dk_96 (dk_at dksX4_numberOf_1 8 rfl rfl)
theorem dX4_numberOf_33 : decode cX4_numberOf 33 = .ok (.istore_n 2, 1) := dk_61 (dk_at dksX4_numberOf_1 9 rfl rfl)
theorem dX4_numberOf_34 : decode cX4_numberOf 34 = .ok (.iinc 3 1, 3) := dk_132 3 1 (dk_at dksX4_numberOf_1 10 rfl rfl)
theorem dX4_numberOf_37 : decode cX4_numberOf 37 = .ok (.goto (-33), 3) := dk_167 255 223 (dk_at dksX4_numberOf_1 13 rfl rfl)
theorem dX4_numberOf_40 : decode cX4_numberOf 40 = .ok (.iload_n 2, 1) := dk_28 (dk_at dksX4_numberOf_1 16 rfl rfl)
theorem dX4_numberOf_41 : decode cX4_numberOf 41 = .ok (.ireturn, 1) := dk_172 (dk_at dksX4_numberOf_1 17 rfl rfl)
abbrev cX4_goodIn : ByteArray := prog_12_method_52_code
def yX4_goodIn : MethodName := ⟨RX4, "goodIn", "(I)I"⟩
def dkwX4_goodIn_1 : List UInt8 := [182, 0, 248, 153, 0, 7, 4, 167, 0, 4, 3, 96, 61, 132, 3, 1, 167, 255, 220, 28, 172]
abbrev dktX4_goodIn_1 : List UInt8 := dkwX4_goodIn_1 ++ []
def dkwX4_goodIn_0 : List UInt8 := [3, 61, 3, 62, 29, 42, 182, 0, 218, 162, 0, 34, 28, 42, 27, 29, 182, 0, 244, 153, 0, 15, 42, 29]
abbrev dktX4_goodIn_0 : List UInt8 := dkwX4_goodIn_0 ++ dktX4_goodIn_1
theorem dksX4_goodIn_0 : cX4_goodIn.data.toList.drop 0 = dktX4_goodIn_0 := by decide +kernel
theorem dksX4_goodIn_1 : cX4_goodIn.data.toList.drop 24 = dktX4_goodIn_1 := dk_seg dksX4_goodIn_0 24 rfl rfl
theorem dX4_goodIn_0 : decode cX4_goodIn 0 = .ok (.iconst 0, 1) := dk_3 (dk_at dksX4_goodIn_0 0 rfl rfl)
theorem dX4_goodIn_1 : decode cX4_goodIn 1 = .ok (.istore_n 2, 1) := dk_61 (dk_at dksX4_goodIn_0 1 rfl rfl)
theorem dX4_goodIn_2 : decode cX4_goodIn 2 = .ok (.iconst 0, 1) := dk_3 (dk_at dksX4_goodIn_0 2 rfl rfl)
theorem dX4_goodIn_3 : decode cX4_goodIn 3 = .ok (.istore_n 3, 1) := dk_62 (dk_at dksX4_goodIn_0 3 rfl rfl)
theorem dX4_goodIn_4 : decode cX4_goodIn 4 = .ok (.iload_n 3, 1) := dk_29 (dk_at dksX4_goodIn_0 4 rfl rfl)
theorem dX4_goodIn_5 : decode cX4_goodIn 5 = .ok (.aload_n 0, 1) := dk_42 (dk_at dksX4_goodIn_0 5 rfl rfl)
theorem dX4_goodIn_6 : decode cX4_goodIn 6 = .ok (.invokevirtual 218, 3) := dk_182 0 218 (dk_at dksX4_goodIn_0 6 rfl rfl)
theorem dX4_goodIn_9 : decode cX4_goodIn 9 = .ok (.if_icmp .ge 34, 3) := dk_162 0 34 (dk_at dksX4_goodIn_0 9 rfl rfl)
theorem dX4_goodIn_12 : decode cX4_goodIn 12 = .ok (.iload_n 2, 1) := dk_28 (dk_at dksX4_goodIn_0 12 rfl rfl)
theorem dX4_goodIn_13 : decode cX4_goodIn 13 = .ok (.aload_n 0, 1) := dk_42 (dk_at dksX4_goodIn_0 13 rfl rfl)
theorem dX4_goodIn_14 : decode cX4_goodIn 14 = .ok (.iload_n 1, 1) := dk_27 (dk_at dksX4_goodIn_0 14 rfl rfl)
theorem dX4_goodIn_15 : decode cX4_goodIn 15 = .ok (.iload_n 3, 1) := dk_29 (dk_at dksX4_goodIn_0 15 rfl rfl)
theorem dX4_goodIn_16 : decode cX4_goodIn 16 = .ok (.invokevirtual 244, 3) := dk_182 0 244 (dk_at dksX4_goodIn_0 16 rfl rfl)
theorem dX4_goodIn_19 : decode cX4_goodIn 19 = .ok (.ifCond .eq 15, 3) := dk_153 0 15 (dk_at dksX4_goodIn_0 19 rfl rfl)
theorem dX4_goodIn_22 : decode cX4_goodIn 22 = .ok (.aload_n 0, 1) := dk_42 (dk_at dksX4_goodIn_0 22 rfl rfl)
theorem dX4_goodIn_23 : decode cX4_goodIn 23 = .ok (.iload_n 3, 1) := dk_29 (dk_at dksX4_goodIn_0 23 rfl rfl)
theorem dX4_goodIn_24 : decode cX4_goodIn 24 = .ok (.invokevirtual 248, 3) := dk_182 0 248 (dk_at dksX4_goodIn_1 0 rfl rfl)
theorem dX4_goodIn_27 : decode cX4_goodIn 27 = .ok (.ifCond .eq 7, 3) := dk_153 0 7 (dk_at dksX4_goodIn_1 3 rfl rfl)
theorem dX4_goodIn_30 : decode cX4_goodIn 30 = .ok (.iconst 1, 1) := dk_4 (dk_at dksX4_goodIn_1 6 rfl rfl)
theorem dX4_goodIn_31 : decode cX4_goodIn 31 = .ok (.goto 4, 3) := dk_167 0 4 (dk_at dksX4_goodIn_1 7 rfl rfl)
theorem dX4_goodIn_34 : decode cX4_goodIn 34 = .ok (.iconst 0, 1) := dk_3 (dk_at dksX4_goodIn_1 10 rfl rfl)
theorem dX4_goodIn_35 : decode cX4_goodIn 35 = .ok (.iadd, 1) := dk_96 (dk_at dksX4_goodIn_1 11 rfl rfl)
theorem dX4_goodIn_36 : decode cX4_goodIn 36 = .ok (.istore_n 2, 1) := dk_61 (dk_at dksX4_goodIn_1 12 rfl rfl)
theorem dX4_goodIn_37 : decode cX4_goodIn 37 = .ok (.iinc 3 1, 3) := dk_132 3 1 (dk_at dksX4_goodIn_1 13 rfl rfl)
theorem dX4_goodIn_40 : decode cX4_goodIn 40 = .ok (.goto (-36), 3) := dk_167 255 220 (dk_at dksX4_goodIn_1 16 rfl rfl)
theorem dX4_goodIn_43 : decode cX4_goodIn 43 = .ok (.iload_n 2, 1) := dk_28 (dk_at dksX4_goodIn_1 19 rfl rfl)
theorem dX4_goodIn_44 : decode cX4_goodIn 44 = .ok (.ireturn, 1) := dk_172 (dk_at dksX4_goodIn_1 20 rfl rfl)
abbrev cX4_isClean : ByteArray := prog_12_method_40_code
def yX4_isClean : MethodName := ⟨RX4, "isClean", "(I)Z"⟩
def dkwX4_isClean_1 : List UInt8 := [172]
abbrev dktX4_isClean_1 : List UInt8 := dkwX4_isClean_1 ++ []
def dkwX4_isClean_0 : List UInt8 := [42, 180, 0, 31, 27, 46, 153, 0, 13, 42, 180, 0, 31, 27, 46, 8, 160, 0, 7, 4, 167, 0, 4, 3]
abbrev dktX4_isClean_0 : List UInt8 := dkwX4_isClean_0 ++ dktX4_isClean_1
theorem dksX4_isClean_0 : cX4_isClean.data.toList.drop 0 = dktX4_isClean_0 := by decide +kernel
theorem dksX4_isClean_1 : cX4_isClean.data.toList.drop 24 = dktX4_isClean_1 := dk_seg dksX4_isClean_0 24 rfl rfl
theorem dX4_isClean_0 : decode cX4_isClean 0 = .ok (.aload_n 0, 1) := dk_42 (dk_at dksX4_isClean_0 0 rfl rfl)
theorem dX4_isClean_1 : decode cX4_isClean 1 = .ok (.getfield 31, 3) := dk_180 0 31 (dk_at dksX4_isClean_0 1 rfl rfl)
theorem dX4_isClean_4 : decode cX4_isClean 4 = .ok (.iload_n 1, 1) := dk_27 (dk_at dksX4_isClean_0 4 rfl rfl)
theorem dX4_isClean_5 : decode cX4_isClean 5 = .ok (.iaload, 1) := dk_46 (dk_at dksX4_isClean_0 5 rfl rfl)
theorem dX4_isClean_6 : decode cX4_isClean 6 = .ok (.ifCond .eq 13, 3) := dk_153 0 13 (dk_at dksX4_isClean_0 6 rfl rfl)
theorem dX4_isClean_9 : decode cX4_isClean 9 = .ok (.aload_n 0, 1) := dk_42 (dk_at dksX4_isClean_0 9 rfl rfl)
theorem dX4_isClean_10 : decode cX4_isClean 10 = .ok (.getfield 31, 3) := dk_180 0 31 (dk_at dksX4_isClean_0 10 rfl rfl)
theorem dX4_isClean_13 : decode cX4_isClean 13 = .ok (.iload_n 1, 1) := dk_27 (dk_at dksX4_isClean_0 13 rfl rfl)
theorem dX4_isClean_14 : decode cX4_isClean 14 = .ok (.iaload, 1) := dk_46 (dk_at dksX4_isClean_0 14 rfl rfl)
theorem dX4_isClean_15 : decode cX4_isClean 15 = .ok (.iconst 5, 1) := dk_8 (dk_at dksX4_isClean_0 15 rfl rfl)
theorem dX4_isClean_16 : decode cX4_isClean 16 = .ok (.if_icmp .ne 7, 3) := dk_160 0 7 (dk_at dksX4_isClean_0 16 rfl rfl)
theorem dX4_isClean_19 : decode cX4_isClean 19 = .ok (.iconst 1, 1) := dk_4 (dk_at dksX4_isClean_0 19 rfl rfl)
theorem dX4_isClean_20 : decode cX4_isClean 20 = .ok (.goto 4, 3) := dk_167 0 4 (dk_at dksX4_isClean_0 20 rfl rfl)
theorem dX4_isClean_23 : decode cX4_isClean 23 = .ok (.iconst 0, 1) := dk_3 (dk_at dksX4_isClean_0 23 rfl rfl)
theorem dX4_isClean_24 : decode cX4_isClean 24 = .ok (.ireturn, 1) := dk_172 (dk_at dksX4_isClean_1 0 rfl rfl)
abbrev cX4_strike : ByteArray := prog_12_method_54_code
def yX4_strike : MethodName := ⟨RX4, "strike", "(IZ)I"⟩
def dkwX4_strike_3 : List UInt8 := [28, 160, 0, 7, 3, 167, 0, 4, 4, 172]
abbrev dktX4_strike_3 : List UInt8 := dkwX4_strike_3 ++ []
def dkwX4_strike_2 : List UInt8 := [167, 0, 4, 3, 62, 42, 180, 0, 20, 16, 57, 27, 96, 28, 153, 0, 7, 4, 167, 0, 4, 3, 79, 29]
abbrev dktX4_strike_2 : List UInt8 := dkwX4_strike_2 ++ dktX4_strike_3
def dkwX4_strike_1 : List UInt8 := [153, 0, 5, 3, 172, 42, 182, 0, 211, 42, 180, 0, 20, 16, 57, 27, 96, 46, 4, 160, 0, 7, 4]
abbrev dktX4_strike_1 : List UInt8 := dkwX4_strike_1 ++ dktX4_strike_2
def dkwX4_strike_0 : List UInt8 := [42, 3, 181, 0, 48, 42, 42, 27, 182, 0, 238, 154, 0, 7, 4, 167, 0, 4, 3, 4, 3, 182, 0, 204]
abbrev dktX4_strike_0 : List UInt8 := dkwX4_strike_0 ++ dktX4_strike_1
theorem dksX4_strike_0 : cX4_strike.data.toList.drop 0 = dktX4_strike_0 := by decide +kernel
theorem dksX4_strike_1 : cX4_strike.data.toList.drop 24 = dktX4_strike_1 := dk_seg dksX4_strike_0 24 rfl rfl
theorem dksX4_strike_2 : cX4_strike.data.toList.drop 47 = dktX4_strike_2 := dk_seg dksX4_strike_1 23 rfl rfl
theorem dksX4_strike_3 : cX4_strike.data.toList.drop 71 = dktX4_strike_3 := dk_seg dksX4_strike_2 24 rfl rfl
theorem dX4_strike_0 : decode cX4_strike 0 = .ok (.aload_n 0, 1) := dk_42 (dk_at dksX4_strike_0 0 rfl rfl)
theorem dX4_strike_1 : decode cX4_strike 1 = .ok (.iconst 0, 1) := dk_3 (dk_at dksX4_strike_0 1 rfl rfl)
theorem dX4_strike_2 : decode cX4_strike 2 = .ok (.putfield 48, 3) := dk_181 0 48 (dk_at dksX4_strike_0 2 rfl rfl)
theorem dX4_strike_5 : decode cX4_strike 5 = .ok (.aload_n 0, 1) := dk_42 (dk_at dksX4_strike_0 5 rfl rfl)
theorem dX4_strike_6 : decode cX4_strike 6 = .ok (.aload_n 0, 1) := dk_42 (dk_at dksX4_strike_0 6 rfl rfl)
theorem dX4_strike_7 : decode cX4_strike 7 = .ok (.iload_n 1, 1) := dk_27 (dk_at dksX4_strike_0 7 rfl rfl)
theorem dX4_strike_8 : decode cX4_strike 8 = .ok (.invokevirtual 238, 3) := dk_182 0 238 (dk_at dksX4_strike_0 8 rfl rfl)
theorem dX4_strike_11 : decode cX4_strike 11 = .ok (.ifCond .ne 7, 3) := dk_154 0 7 (dk_at dksX4_strike_0 11 rfl rfl)
theorem dX4_strike_14 : decode cX4_strike 14 = .ok (.iconst 1, 1) := dk_4 (dk_at dksX4_strike_0 14 rfl rfl)
theorem dX4_strike_15 : decode cX4_strike 15 = .ok (.goto 4, 3) := dk_167 0 4 (dk_at dksX4_strike_0 15 rfl rfl)
theorem dX4_strike_18 : decode cX4_strike 18 = .ok (.iconst 0, 1) := dk_3 (dk_at dksX4_strike_0 18 rfl rfl)
theorem dX4_strike_19 : decode cX4_strike 19 = .ok (.iconst 1, 1) := dk_4 (dk_at dksX4_strike_0 19 rfl rfl)
theorem dX4_strike_20 : decode cX4_strike 20 = .ok (.iconst 0, 1) := dk_3 (dk_at dksX4_strike_0 20 rfl rfl)
theorem dX4_strike_21 : decode cX4_strike 21 = .ok (.invokevirtual 204, 3) := dk_182 0 204 (dk_at dksX4_strike_0 21 rfl rfl)
theorem dX4_strike_24 : decode cX4_strike 24 = .ok (.ifCond .eq 5, 3) := dk_153 0 5 (dk_at dksX4_strike_1 0 rfl rfl)
theorem dX4_strike_27 : decode cX4_strike 27 = .ok (.iconst 0, 1) := dk_3 (dk_at dksX4_strike_1 3 rfl rfl)
theorem dX4_strike_28 : decode cX4_strike 28 = .ok (.ireturn, 1) := dk_172 (dk_at dksX4_strike_1 4 rfl rfl)
theorem dX4_strike_29 : decode cX4_strike 29 = .ok (.aload_n 0, 1) := dk_42 (dk_at dksX4_strike_1 5 rfl rfl)
theorem dX4_strike_30 : decode cX4_strike 30 = .ok (.invokevirtual 211, 3) := dk_182 0 211 (dk_at dksX4_strike_1 6 rfl rfl)
theorem dX4_strike_33 : decode cX4_strike 33 = .ok (.aload_n 0, 1) := dk_42 (dk_at dksX4_strike_1 9 rfl rfl)
theorem dX4_strike_34 : decode cX4_strike 34 = .ok (.getfield 20, 3) := dk_180 0 20 (dk_at dksX4_strike_1 10 rfl rfl)
theorem dX4_strike_37 : decode cX4_strike 37 = .ok (.bipush 57, 2) := dk_16 57 (dk_at dksX4_strike_1 13 rfl rfl)
theorem dX4_strike_39 : decode cX4_strike 39 = .ok (.iload_n 1, 1) := dk_27 (dk_at dksX4_strike_1 15 rfl rfl)
theorem dX4_strike_40 : decode cX4_strike 40 = .ok (.iadd, 1) := dk_96 (dk_at dksX4_strike_1 16 rfl rfl)
theorem dX4_strike_41 : decode cX4_strike 41 = .ok (.iaload, 1) := dk_46 (dk_at dksX4_strike_1 17 rfl rfl)
theorem dX4_strike_42 : decode cX4_strike 42 = .ok (.iconst 1, 1) := dk_4 (dk_at dksX4_strike_1 18 rfl rfl)
theorem dX4_strike_43 : decode cX4_strike 43 = .ok (.if_icmp .ne 7, 3) := dk_160 0 7 (dk_at dksX4_strike_1 19 rfl rfl)
theorem dX4_strike_46 : decode cX4_strike 46 = .ok (.iconst 1, 1) := dk_4 (dk_at dksX4_strike_1 22 rfl rfl)
theorem dX4_strike_47 : decode cX4_strike 47 = .ok (.goto 4, 3) := dk_167 0 4 (dk_at dksX4_strike_2 0 rfl rfl)
theorem dX4_strike_50 : decode cX4_strike 50 = .ok (.iconst 0, 1) := dk_3 (dk_at dksX4_strike_2 3 rfl rfl)
theorem dX4_strike_51 : decode cX4_strike 51 = .ok (.istore_n 3, 1) := dk_62 (dk_at dksX4_strike_2 4 rfl rfl)
theorem dX4_strike_52 : decode cX4_strike 52 = .ok (.aload_n 0, 1) := dk_42 (dk_at dksX4_strike_2 5 rfl rfl)
theorem dX4_strike_53 : decode cX4_strike 53 = .ok (.getfield 20, 3) := dk_180 0 20 (dk_at dksX4_strike_2 6 rfl rfl)
theorem dX4_strike_56 : decode cX4_strike 56 = .ok (.bipush 57, 2) := dk_16 57 (dk_at dksX4_strike_2 9 rfl rfl)
theorem dX4_strike_58 : decode cX4_strike 58 = .ok (.iload_n 1, 1) := dk_27 (dk_at dksX4_strike_2 11 rfl rfl)
theorem dX4_strike_59 : decode cX4_strike 59 = .ok (.iadd, 1) := dk_96 (dk_at dksX4_strike_2 12 rfl rfl)
theorem dX4_strike_60 : decode cX4_strike 60 = .ok (.iload_n 2, 1) := dk_28 (dk_at dksX4_strike_2 13 rfl rfl)
theorem dX4_strike_61 : decode cX4_strike 61 = .ok (.ifCond .eq 7, 3) := dk_153 0 7 (dk_at dksX4_strike_2 14 rfl rfl)
theorem dX4_strike_64 : decode cX4_strike 64 = .ok (.iconst 1, 1) := dk_4 (dk_at dksX4_strike_2 17 rfl rfl)
theorem dX4_strike_65 : decode cX4_strike 65 = .ok (.goto 4, 3) := dk_167 0 4 (dk_at dksX4_strike_2 18 rfl rfl)
theorem dX4_strike_68 : decode cX4_strike 68 = .ok (.iconst 0, 1) := dk_3 (dk_at dksX4_strike_2 21 rfl rfl)
theorem dX4_strike_69 : decode cX4_strike 69 = .ok (.iastore, 1) := dk_79 (dk_at dksX4_strike_2 22 rfl rfl)
theorem dX4_strike_70 : decode cX4_strike 70 = .ok (.iload_n 3, 1) := dk_29 (dk_at dksX4_strike_2 23 rfl rfl)
theorem dX4_strike_71 : decode cX4_strike 71 = .ok (.iload_n 2, 1) := dk_28 (dk_at dksX4_strike_3 0 rfl rfl)
theorem dX4_strike_72 : decode cX4_strike 72 = .ok (.if_icmp .ne 7, 3) := dk_160 0 7 (dk_at dksX4_strike_3 1 rfl rfl)
theorem dX4_strike_75 : decode cX4_strike 75 = .ok (.iconst 0, 1) := dk_3 (dk_at dksX4_strike_3 4 rfl rfl)
theorem dX4_strike_76 : decode cX4_strike 76 = .ok (.goto 4, 3) := dk_167 0 4 (dk_at dksX4_strike_3 5 rfl rfl)
theorem dX4_strike_79 : decode cX4_strike 79 = .ok (.iconst 1, 1) := dk_4 (dk_at dksX4_strike_3 8 rfl rfl)
theorem dX4_strike_80 : decode cX4_strike 80 = .ok (.ireturn, 1) := dk_172 (dk_at dksX4_strike_3 9 rfl rfl)
abbrev cX4_isSheet : ByteArray := prog_12_method_44_code
def yX4_isSheet : MethodName := ⟨RX4, "isSheet", "(I)Z"⟩
def dkwX4_isSheet_0 : List UInt8 := [27, 133, 9, 42, 180, 0, 20, 4, 46, 4, 100, 133, 184, 0, 107, 172]
abbrev dktX4_isSheet_0 : List UInt8 := dkwX4_isSheet_0 ++ []
theorem dksX4_isSheet_0 : cX4_isSheet.data.toList.drop 0 = dktX4_isSheet_0 := by decide +kernel
theorem dX4_isSheet_0 : decode cX4_isSheet 0 = .ok (.iload_n 1, 1) := dk_27 (dk_at dksX4_isSheet_0 0 rfl rfl)
theorem dX4_isSheet_1 : decode cX4_isSheet 1 = .ok (.i2l, 1) := dk_133 (dk_at dksX4_isSheet_0 1 rfl rfl)
theorem dX4_isSheet_2 : decode cX4_isSheet 2 = .ok (.lconst 0, 1) := dk_9 (dk_at dksX4_isSheet_0 2 rfl rfl)
theorem dX4_isSheet_3 : decode cX4_isSheet 3 = .ok (.aload_n 0, 1) := dk_42 (dk_at dksX4_isSheet_0 3 rfl rfl)
theorem dX4_isSheet_4 : decode cX4_isSheet 4 = .ok (.getfield 20, 3) := dk_180 0 20 (dk_at dksX4_isSheet_0 4 rfl rfl)
theorem dX4_isSheet_7 : decode cX4_isSheet 7 = .ok (.iconst 1, 1) := dk_4 (dk_at dksX4_isSheet_0 7 rfl rfl)
theorem dX4_isSheet_8 : decode cX4_isSheet 8 = .ok (.iaload, 1) := dk_46 (dk_at dksX4_isSheet_0 8 rfl rfl)
theorem dX4_isSheet_9 : decode cX4_isSheet 9 = .ok (.iconst 1, 1) := dk_4 (dk_at dksX4_isSheet_0 9 rfl rfl)
theorem dX4_isSheet_10 : decode cX4_isSheet 10 = .ok (.isub, 1) := dk_100 (dk_at dksX4_isSheet_0 10 rfl rfl)
theorem dX4_isSheet_11 : decode cX4_isSheet 11 = .ok (.i2l, 1) := dk_133 (dk_at dksX4_isSheet_0 11 rfl rfl)
theorem dX4_isSheet_12 : decode cX4_isSheet 12 = .ok (.invokestatic 107, 3) := dk_184 0 107 (dk_at dksX4_isSheet_0 12 rfl rfl)
theorem dX4_isSheet_15 : decode cX4_isSheet 15 = .ok (.ireturn, 1) := dk_172 (dk_at dksX4_isSheet_0 15 rfl rfl)
abbrev cX4_sign : ByteArray := prog_12_method_56_code
def yX4_sign : MethodName := ⟨RX4, "sign", "(III)I"⟩
def dkwX4_sign_9 : List UInt8 := [42, 182, 1, 17, 21, 4, 172]
abbrev dktX4_sign_9 : List UInt8 := dkwX4_sign_9 ++ []
def dkwX4_sign_8 : List UInt8 := [27, 79, 42, 180, 0, 20, 21, 5, 6, 184, 0, 124, 29, 79, 42, 180, 0, 20, 5, 92, 46, 4, 96, 79]
abbrev dktX4_sign_8 : List UInt8 := dkwX4_sign_8 ++ dktX4_sign_9
def dkwX4_sign_7 : List UInt8 := [184, 0, 124, 42, 180, 0, 20, 28, 4, 184, 0, 111, 46, 79, 42, 180, 0, 20, 21, 5, 5, 184, 0, 124]
abbrev dktX4_sign_7 : List UInt8 := dkwX4_sign_7 ++ dktX4_sign_8
def dkwX4_sign_6 : List UInt8 := [21, 5, 3, 184, 0, 124, 42, 180, 0, 20, 28, 3, 184, 0, 111, 46, 79, 42, 180, 0, 20, 21, 5, 4]
abbrev dktX4_sign_6 : List UInt8 := dkwX4_sign_6 ++ dktX4_sign_7
def dkwX4_sign_5 : List UInt8 := [164, 0, 19, 42, 21, 6, 4, 100, 21, 6, 182, 1, 14, 132, 6, 255, 167, 255, 236, 42, 180, 0, 20]
abbrev dktX4_sign_5 : List UInt8 := dkwX4_sign_5 ++ dktX4_sign_6
def dkwX4_sign_4 : List UInt8 := [182, 0, 241, 54, 4, 42, 27, 21, 4, 182, 1, 11, 54, 5, 42, 182, 0, 218, 54, 6, 21, 6, 21, 5]
abbrev dktX4_sign_4 : List UInt8 := dkwX4_sign_4 ++ dktX4_sign_5
def dkwX4_sign_3 : List UInt8 := [160, 0, 7, 4, 167, 0, 4, 3, 6, 5, 182, 0, 204, 153, 0, 5, 3, 172, 42, 182, 0, 211, 42, 27]
abbrev dktX4_sign_3 : List UInt8 := dkwX4_sign_3 ++ dktX4_sign_4
def dkwX4_sign_2 : List UInt8 := [154, 0, 7, 4, 167, 0, 4, 3, 5, 4, 182, 0, 204, 154, 0, 26, 42, 42, 182, 0, 218, 16, 40]
abbrev dktX4_sign_2 : List UInt8 := dkwX4_sign_2 ++ dktX4_sign_3
def dkwX4_sign_1 : List UInt8 := [167, 0, 4, 3, 4, 3, 182, 0, 204, 154, 0, 52, 42, 29, 133, 9, 20, 1, 9, 184, 0, 107]
abbrev dktX4_sign_1 : List UInt8 := dkwX4_sign_1 ++ dktX4_sign_2
def dkwX4_sign_0 : List UInt8 := [42, 3, 181, 0, 48, 42, 42, 27, 182, 0, 238, 153, 0, 11, 42, 28, 182, 1, 6, 154, 0, 7, 4]
abbrev dktX4_sign_0 : List UInt8 := dkwX4_sign_0 ++ dktX4_sign_1
theorem dksX4_sign_0 : cX4_sign.data.toList.drop 0 = dktX4_sign_0 := by decide +kernel
theorem dksX4_sign_1 : cX4_sign.data.toList.drop 23 = dktX4_sign_1 := dk_seg dksX4_sign_0 23 rfl rfl
theorem dksX4_sign_2 : cX4_sign.data.toList.drop 45 = dktX4_sign_2 := dk_seg dksX4_sign_1 22 rfl rfl
theorem dksX4_sign_3 : cX4_sign.data.toList.drop 68 = dktX4_sign_3 := dk_seg dksX4_sign_2 23 rfl rfl
theorem dksX4_sign_4 : cX4_sign.data.toList.drop 92 = dktX4_sign_4 := dk_seg dksX4_sign_3 24 rfl rfl
theorem dksX4_sign_5 : cX4_sign.data.toList.drop 116 = dktX4_sign_5 := dk_seg dksX4_sign_4 24 rfl rfl
theorem dksX4_sign_6 : cX4_sign.data.toList.drop 139 = dktX4_sign_6 := dk_seg dksX4_sign_5 23 rfl rfl
theorem dksX4_sign_7 : cX4_sign.data.toList.drop 163 = dktX4_sign_7 := dk_seg dksX4_sign_6 24 rfl rfl
theorem dksX4_sign_8 : cX4_sign.data.toList.drop 187 = dktX4_sign_8 := dk_seg dksX4_sign_7 24 rfl rfl
theorem dksX4_sign_9 : cX4_sign.data.toList.drop 211 = dktX4_sign_9 := dk_seg dksX4_sign_8 24 rfl rfl
theorem dX4_sign_0 : decode cX4_sign 0 = .ok (.aload_n 0, 1) := dk_42 (dk_at dksX4_sign_0 0 rfl rfl)
theorem dX4_sign_1 : decode cX4_sign 1 = .ok (.iconst 0, 1) := dk_3 (dk_at dksX4_sign_0 1 rfl rfl)
theorem dX4_sign_2 : decode cX4_sign 2 = .ok (.putfield 48, 3) := dk_181 0 48 (dk_at dksX4_sign_0 2 rfl rfl)
theorem dX4_sign_5 : decode cX4_sign 5 = .ok (.aload_n 0, 1) := dk_42 (dk_at dksX4_sign_0 5 rfl rfl)
theorem dX4_sign_6 : decode cX4_sign 6 = .ok (.aload_n 0, 1) := dk_42 (dk_at dksX4_sign_0 6 rfl rfl)
theorem dX4_sign_7 : decode cX4_sign 7 = .ok (.iload_n 1, 1) := dk_27 (dk_at dksX4_sign_0 7 rfl rfl)
theorem dX4_sign_8 : decode cX4_sign 8 = .ok (.invokevirtual 238, 3) := dk_182 0 238 (dk_at dksX4_sign_0 8 rfl rfl)
theorem dX4_sign_11 : decode cX4_sign 11 = .ok (.ifCond .eq 11, 3) := dk_153 0 11 (dk_at dksX4_sign_0 11 rfl rfl)
theorem dX4_sign_14 : decode cX4_sign 14 = .ok (.aload_n 0, 1) := dk_42 (dk_at dksX4_sign_0 14 rfl rfl)
theorem dX4_sign_15 : decode cX4_sign 15 = .ok (.iload_n 2, 1) := dk_28 (dk_at dksX4_sign_0 15 rfl rfl)
theorem dX4_sign_16 : decode cX4_sign 16 = .ok (.invokevirtual 262, 3) := dk_182 1 6 (dk_at dksX4_sign_0 16 rfl rfl)
theorem dX4_sign_19 : decode cX4_sign 19 = .ok (.ifCond .ne 7, 3) := dk_154 0 7 (dk_at dksX4_sign_0 19 rfl rfl)
theorem dX4_sign_22 : decode cX4_sign 22 = .ok (.iconst 1, 1) := dk_4 (dk_at dksX4_sign_0 22 rfl rfl)
theorem dX4_sign_23 : decode cX4_sign 23 = .ok (.goto 4, 3) := dk_167 0 4 (dk_at dksX4_sign_1 0 rfl rfl)
theorem dX4_sign_26 : decode cX4_sign 26 = .ok (.iconst 0, 1) := dk_3 (dk_at dksX4_sign_1 3 rfl rfl)
theorem dX4_sign_27 : decode cX4_sign 27 = .ok (.iconst 1, 1) := dk_4 (dk_at dksX4_sign_1 4 rfl rfl)
theorem dX4_sign_28 : decode cX4_sign 28 = .ok (.iconst 0, 1) := dk_3 (dk_at dksX4_sign_1 5 rfl rfl)
theorem dX4_sign_29 : decode cX4_sign 29 = .ok (.invokevirtual 204, 3) := dk_182 0 204 (dk_at dksX4_sign_1 6 rfl rfl)
theorem dX4_sign_32 : decode cX4_sign 32 = .ok (.ifCond .ne 52, 3) := dk_154 0 52 (dk_at dksX4_sign_1 9 rfl rfl)
theorem dX4_sign_35 : decode cX4_sign 35 = .ok (.aload_n 0, 1) := dk_42 (dk_at dksX4_sign_1 12 rfl rfl)
theorem dX4_sign_36 : decode cX4_sign 36 = .ok (.iload_n 3, 1) := dk_29 (dk_at dksX4_sign_1 13 rfl rfl)
theorem dX4_sign_37 : decode cX4_sign 37 = .ok (.i2l, 1) := dk_133 (dk_at dksX4_sign_1 14 rfl rfl)
theorem dX4_sign_38 : decode cX4_sign 38 = .ok (.lconst 0, 1) := dk_9 (dk_at dksX4_sign_1 15 rfl rfl)
theorem dX4_sign_39 : decode cX4_sign 39 = .ok (.ldc2_w 265, 3) := dk_20 1 9 (dk_at dksX4_sign_1 16 rfl rfl)
theorem dX4_sign_42 : decode cX4_sign 42 = .ok (.invokestatic 107, 3) := dk_184 0 107 (dk_at dksX4_sign_1 19 rfl rfl)
theorem dX4_sign_45 : decode cX4_sign 45 = .ok (.ifCond .ne 7, 3) := dk_154 0 7 (dk_at dksX4_sign_2 0 rfl rfl)
theorem dX4_sign_48 : decode cX4_sign 48 = .ok (.iconst 1, 1) := dk_4 (dk_at dksX4_sign_2 3 rfl rfl)
theorem dX4_sign_49 : decode cX4_sign 49 = .ok (.goto 4, 3) := dk_167 0 4 (dk_at dksX4_sign_2 4 rfl rfl)
theorem dX4_sign_52 : decode cX4_sign 52 = .ok (.iconst 0, 1) := dk_3 (dk_at dksX4_sign_2 7 rfl rfl)
theorem dX4_sign_53 : decode cX4_sign 53 = .ok (.iconst 2, 1) := dk_5 (dk_at dksX4_sign_2 8 rfl rfl)
theorem dX4_sign_54 : decode cX4_sign 54 = .ok (.iconst 1, 1) := dk_4 (dk_at dksX4_sign_2 9 rfl rfl)
theorem dX4_sign_55 : decode cX4_sign 55 = .ok (.invokevirtual 204, 3) := dk_182 0 204 (dk_at dksX4_sign_2 10 rfl rfl)
theorem dX4_sign_58 : decode cX4_sign 58 = .ok (.ifCond .ne 26, 3) := dk_154 0 26 (dk_at dksX4_sign_2 13 rfl rfl)
theorem dX4_sign_61 : decode cX4_sign 61 = .ok (.aload_n 0, 1) := dk_42 (dk_at dksX4_sign_2 16 rfl rfl)
theorem dX4_sign_62 : decode cX4_sign 62 = .ok (.aload_n 0, 1) := dk_42 (dk_at dksX4_sign_2 17 rfl rfl)
theorem dX4_sign_63 : decode cX4_sign 63 = .ok (.invokevirtual 218, 3) := dk_182 0 218 (dk_at dksX4_sign_2 18 rfl rfl)
theorem dX4_sign_66 : decode cX4_sign 66 = .ok (.bipush 40, 2) := dk_16 40 (dk_at dksX4_sign_2 21 rfl rfl)
theorem dX4_sign_68 : decode cX4_sign 68 = .ok (.if_icmp .ne 7, 3) := dk_160 0 7 (dk_at dksX4_sign_3 0 rfl rfl)
theorem dX4_sign_71 : decode cX4_sign 71 = .ok (.iconst 1, 1) := dk_4 (dk_at dksX4_sign_3 3 rfl rfl)
theorem dX4_sign_72 : decode cX4_sign 72 = .ok (.goto 4, 3) := dk_167 0 4 (dk_at dksX4_sign_3 4 rfl rfl)
theorem dX4_sign_75 : decode cX4_sign 75 = .ok (.iconst 0, 1) := dk_3 (dk_at dksX4_sign_3 7 rfl rfl)
theorem dX4_sign_76 : decode cX4_sign 76 = .ok (.iconst 3, 1) := dk_6 (dk_at dksX4_sign_3 8 rfl rfl)
theorem dX4_sign_77 : decode cX4_sign 77 = .ok (.iconst 2, 1) := dk_5 (dk_at dksX4_sign_3 9 rfl rfl)
theorem dX4_sign_78 : decode cX4_sign 78 = .ok (.invokevirtual 204, 3) := dk_182 0 204 (dk_at dksX4_sign_3 10 rfl rfl)
theorem dX4_sign_81 : decode cX4_sign 81 = .ok (.ifCond .eq 5, 3) := dk_153 0 5 (dk_at dksX4_sign_3 13 rfl rfl)
theorem dX4_sign_84 : decode cX4_sign 84 = .ok (.iconst 0, 1) := dk_3 (dk_at dksX4_sign_3 16 rfl rfl)
theorem dX4_sign_85 : decode cX4_sign 85 = .ok (.ireturn, 1) := dk_172 (dk_at dksX4_sign_3 17 rfl rfl)
theorem dX4_sign_86 : decode cX4_sign 86 = .ok (.aload_n 0, 1) := dk_42 (dk_at dksX4_sign_3 18 rfl rfl)
theorem dX4_sign_87 : decode cX4_sign 87 = .ok (.invokevirtual 211, 3) := dk_182 0 211 (dk_at dksX4_sign_3 19 rfl rfl)
theorem dX4_sign_90 : decode cX4_sign 90 = .ok (.aload_n 0, 1) := dk_42 (dk_at dksX4_sign_3 22 rfl rfl)
theorem dX4_sign_91 : decode cX4_sign 91 = .ok (.iload_n 1, 1) := dk_27 (dk_at dksX4_sign_3 23 rfl rfl)
theorem dX4_sign_92 : decode cX4_sign 92 = .ok (.invokevirtual 241, 3) := dk_182 0 241 (dk_at dksX4_sign_4 0 rfl rfl)
theorem dX4_sign_95 : decode cX4_sign 95 = .ok (.istore 4, 2) := dk_54 4 (dk_at dksX4_sign_4 3 rfl rfl)
theorem dX4_sign_97 : decode cX4_sign 97 = .ok (.aload_n 0, 1) := dk_42 (dk_at dksX4_sign_4 5 rfl rfl)
theorem dX4_sign_98 : decode cX4_sign 98 = .ok (.iload_n 1, 1) := dk_27 (dk_at dksX4_sign_4 6 rfl rfl)
theorem dX4_sign_99 : decode cX4_sign 99 = .ok (.iload 4, 2) := dk_21 4 (dk_at dksX4_sign_4 7 rfl rfl)
theorem dX4_sign_101 : decode cX4_sign 101 = .ok (.invokevirtual 267, 3) := dk_182 1 11 (dk_at dksX4_sign_4 9 rfl rfl)
theorem dX4_sign_104 : decode cX4_sign 104 = .ok (.istore 5, 2) := dk_54 5 (dk_at dksX4_sign_4 12 rfl rfl)
theorem dX4_sign_106 : decode cX4_sign 106 = .ok (.aload_n 0, 1) := dk_42 (dk_at dksX4_sign_4 14 rfl rfl)
theorem dX4_sign_107 : decode cX4_sign 107 = .ok (.invokevirtual 218, 3) := dk_182 0 218 (dk_at dksX4_sign_4 15 rfl rfl)
theorem dX4_sign_110 : decode cX4_sign 110 = .ok (.istore 6, 2) := dk_54 6 (dk_at dksX4_sign_4 18 rfl rfl)
theorem dX4_sign_112 : decode cX4_sign 112 = .ok (.iload 6, 2) := dk_21 6 (dk_at dksX4_sign_4 20 rfl rfl)
theorem dX4_sign_114 : decode cX4_sign 114 = .ok (.iload 5, 2) := dk_21 5 (dk_at dksX4_sign_4 22 rfl rfl)
theorem dX4_sign_116 : decode cX4_sign 116 = .ok (.if_icmp .le 19, 3) := dk_164 0 19 (dk_at dksX4_sign_5 0 rfl rfl)
theorem dX4_sign_119 : decode cX4_sign 119 = .ok (.aload_n 0, 1) := dk_42 (dk_at dksX4_sign_5 3 rfl rfl)
theorem dX4_sign_120 : decode cX4_sign 120 = .ok (.iload 6, 2) := dk_21 6 (dk_at dksX4_sign_5 4 rfl rfl)
theorem dX4_sign_122 : decode cX4_sign 122 = .ok (.iconst 1, 1) := dk_4 (dk_at dksX4_sign_5 6 rfl rfl)
theorem dX4_sign_123 : decode cX4_sign 123 = .ok (.isub, 1) := dk_100 (dk_at dksX4_sign_5 7 rfl rfl)
theorem dX4_sign_124 : decode cX4_sign 124 = .ok (.iload 6, 2) := dk_21 6 (dk_at dksX4_sign_5 8 rfl rfl)
theorem dX4_sign_126 : decode cX4_sign 126 = .ok (.invokevirtual 270, 3) := dk_182 1 14 (dk_at dksX4_sign_5 10 rfl rfl)
theorem dX4_sign_129 : decode cX4_sign 129 = .ok (.iinc 6 (-1), 3) := dk_132 6 255 (dk_at dksX4_sign_5 13 rfl rfl)
theorem dX4_sign_132 : decode cX4_sign 132 = .ok (.goto (-20), 3) := dk_167 255 236 (dk_at dksX4_sign_5 16 rfl rfl)
theorem dX4_sign_135 : decode cX4_sign 135 = .ok (.aload_n 0, 1) := dk_42 (dk_at dksX4_sign_5 19 rfl rfl)
theorem dX4_sign_136 : decode cX4_sign 136 = .ok (.getfield 20, 3) := dk_180 0 20 (dk_at dksX4_sign_5 20 rfl rfl)
theorem dX4_sign_139 : decode cX4_sign 139 = .ok (.iload 5, 2) := dk_21 5 (dk_at dksX4_sign_6 0 rfl rfl)
theorem dX4_sign_141 : decode cX4_sign 141 = .ok (.iconst 0, 1) := dk_3 (dk_at dksX4_sign_6 2 rfl rfl)
theorem dX4_sign_142 : decode cX4_sign 142 = .ok (.invokestatic 124, 3) := dk_184 0 124 (dk_at dksX4_sign_6 3 rfl rfl)
theorem dX4_sign_145 : decode cX4_sign 145 = .ok (.aload_n 0, 1) := dk_42 (dk_at dksX4_sign_6 6 rfl rfl)
theorem dX4_sign_146 : decode cX4_sign 146 = .ok (.getfield 20, 3) := dk_180 0 20 (dk_at dksX4_sign_6 7 rfl rfl)
theorem dX4_sign_149 : decode cX4_sign 149 = .ok (.iload_n 2, 1) := dk_28 (dk_at dksX4_sign_6 10 rfl rfl)
theorem dX4_sign_150 : decode cX4_sign 150 = .ok (.iconst 0, 1) := dk_3 (dk_at dksX4_sign_6 11 rfl rfl)
theorem dX4_sign_151 : decode cX4_sign 151 = .ok (.invokestatic 111, 3) := dk_184 0 111 (dk_at dksX4_sign_6 12 rfl rfl)
theorem dX4_sign_154 : decode cX4_sign 154 = .ok (.iaload, 1) := dk_46 (dk_at dksX4_sign_6 15 rfl rfl)
theorem dX4_sign_155 : decode cX4_sign 155 = .ok (.iastore, 1) := dk_79 (dk_at dksX4_sign_6 16 rfl rfl)
theorem dX4_sign_156 : decode cX4_sign 156 = .ok (.aload_n 0, 1) := dk_42 (dk_at dksX4_sign_6 17 rfl rfl)
theorem dX4_sign_157 : decode cX4_sign 157 = .ok (.getfield 20, 3) := dk_180 0 20 (dk_at dksX4_sign_6 18 rfl rfl)
theorem dX4_sign_160 : decode cX4_sign 160 = .ok (.iload 5, 2) := dk_21 5 (dk_at dksX4_sign_6 21 rfl rfl)
theorem dX4_sign_162 : decode cX4_sign 162 = .ok (.iconst 1, 1) := dk_4 (dk_at dksX4_sign_6 23 rfl rfl)
theorem dX4_sign_163 : decode cX4_sign 163 = .ok (.invokestatic 124, 3) := dk_184 0 124 (dk_at dksX4_sign_7 0 rfl rfl)
theorem dX4_sign_166 : decode cX4_sign 166 = .ok (.aload_n 0, 1) := dk_42 (dk_at dksX4_sign_7 3 rfl rfl)
theorem dX4_sign_167 : decode cX4_sign 167 = .ok (.getfield 20, 3) := dk_180 0 20 (dk_at dksX4_sign_7 4 rfl rfl)
theorem dX4_sign_170 : decode cX4_sign 170 = .ok (.iload_n 2, 1) := dk_28 (dk_at dksX4_sign_7 7 rfl rfl)
theorem dX4_sign_171 : decode cX4_sign 171 = .ok (.iconst 1, 1) := dk_4 (dk_at dksX4_sign_7 8 rfl rfl)
theorem dX4_sign_172 : decode cX4_sign 172 = .ok (.invokestatic 111, 3) := dk_184 0 111 (dk_at dksX4_sign_7 9 rfl rfl)
theorem dX4_sign_175 : decode cX4_sign 175 = .ok (.iaload, 1) := dk_46 (dk_at dksX4_sign_7 12 rfl rfl)
theorem dX4_sign_176 : decode cX4_sign 176 = .ok (.iastore, 1) := dk_79 (dk_at dksX4_sign_7 13 rfl rfl)
theorem dX4_sign_177 : decode cX4_sign 177 = .ok (.aload_n 0, 1) := dk_42 (dk_at dksX4_sign_7 14 rfl rfl)
theorem dX4_sign_178 : decode cX4_sign 178 = .ok (.getfield 20, 3) := dk_180 0 20 (dk_at dksX4_sign_7 15 rfl rfl)
theorem dX4_sign_181 : decode cX4_sign 181 = .ok (.iload 5, 2) := dk_21 5 (dk_at dksX4_sign_7 18 rfl rfl)
theorem dX4_sign_183 : decode cX4_sign 183 = .ok (.iconst 2, 1) := dk_5 (dk_at dksX4_sign_7 20 rfl rfl)
theorem dX4_sign_184 : decode cX4_sign 184 = .ok (.invokestatic 124, 3) := dk_184 0 124 (dk_at dksX4_sign_7 21 rfl rfl)
theorem dX4_sign_187 : decode cX4_sign 187 = .ok (.iload_n 1, 1) := dk_27 (dk_at dksX4_sign_8 0 rfl rfl)
theorem dX4_sign_188 : decode cX4_sign 188 = .ok (.iastore, 1) := dk_79 (dk_at dksX4_sign_8 1 rfl rfl)
theorem dX4_sign_189 : decode cX4_sign 189 = .ok (.aload_n 0, 1) := dk_42 (dk_at dksX4_sign_8 2 rfl rfl)
theorem dX4_sign_190 : decode cX4_sign 190 = .ok (.getfield 20, 3) := dk_180 0 20 (dk_at dksX4_sign_8 3 rfl rfl)
theorem dX4_sign_193 : decode cX4_sign 193 = .ok (.iload 5, 2) := dk_21 5 (dk_at dksX4_sign_8 6 rfl rfl)
theorem dX4_sign_195 : decode cX4_sign 195 = .ok (.iconst 3, 1) := dk_6 (dk_at dksX4_sign_8 8 rfl rfl)
theorem dX4_sign_196 : decode cX4_sign 196 = .ok (.invokestatic 124, 3) := dk_184 0 124 (dk_at dksX4_sign_8 9 rfl rfl)
theorem dX4_sign_199 : decode cX4_sign 199 = .ok (.iload_n 3, 1) := dk_29 (dk_at dksX4_sign_8 12 rfl rfl)
theorem dX4_sign_200 : decode cX4_sign 200 = .ok (.iastore, 1) := dk_79 (dk_at dksX4_sign_8 13 rfl rfl)
theorem dX4_sign_201 : decode cX4_sign 201 = .ok (.aload_n 0, 1) := dk_42 (dk_at dksX4_sign_8 14 rfl rfl)
theorem dX4_sign_202 : decode cX4_sign 202 = .ok (.getfield 20, 3) := dk_180 0 20 (dk_at dksX4_sign_8 15 rfl rfl)
theorem dX4_sign_205 : decode cX4_sign 205 = .ok (.iconst 2, 1) := dk_5 (dk_at dksX4_sign_8 18 rfl rfl)
theorem dX4_sign_206 : decode cX4_sign 206 = .ok (.dup2, 1) := dk_92 (dk_at dksX4_sign_8 19 rfl rfl)
theorem dX4_sign_207 : decode cX4_sign 207 = .ok (.iaload, 1) := dk_46 (dk_at dksX4_sign_8 20 rfl rfl)
theorem dX4_sign_208 : decode cX4_sign 208 = .ok (.iconst 1, 1) := dk_4 (dk_at dksX4_sign_8 21 rfl rfl)
theorem dX4_sign_209 : decode cX4_sign 209 = .ok (.iadd, 1) := dk_96 (dk_at dksX4_sign_8 22 rfl rfl)
theorem dX4_sign_210 : decode cX4_sign 210 = .ok (.iastore, 1) := dk_79 (dk_at dksX4_sign_8 23 rfl rfl)
theorem dX4_sign_211 : decode cX4_sign 211 = .ok (.aload_n 0, 1) := dk_42 (dk_at dksX4_sign_9 0 rfl rfl)
theorem dX4_sign_212 : decode cX4_sign 212 = .ok (.invokevirtual 273, 3) := dk_182 1 17 (dk_at dksX4_sign_9 1 rfl rfl)
theorem dX4_sign_215 : decode cX4_sign 215 = .ok (.iload 4, 2) := dk_21 4 (dk_at dksX4_sign_9 4 rfl rfl)
theorem dX4_sign_217 : decode cX4_sign 217 = .ok (.ireturn, 1) := dk_172 (dk_at dksX4_sign_9 6 rfl rfl)
abbrev cX4_isVoter : ByteArray := prog_12_method_45_code
def yX4_isVoter : MethodName := ⟨RX4, "isVoter", "(I)Z"⟩
def dkwX4_isVoter_0 : List UInt8 := [27, 133, 9, 42, 180, 0, 20, 3, 46, 4, 100, 133, 184, 0, 107, 172]
abbrev dktX4_isVoter_0 : List UInt8 := dkwX4_isVoter_0 ++ []
theorem dksX4_isVoter_0 : cX4_isVoter.data.toList.drop 0 = dktX4_isVoter_0 := by decide +kernel
theorem dX4_isVoter_0 : decode cX4_isVoter 0 = .ok (.iload_n 1, 1) := dk_27 (dk_at dksX4_isVoter_0 0 rfl rfl)
theorem dX4_isVoter_1 : decode cX4_isVoter 1 = .ok (.i2l, 1) := dk_133 (dk_at dksX4_isVoter_0 1 rfl rfl)
theorem dX4_isVoter_2 : decode cX4_isVoter 2 = .ok (.lconst 0, 1) := dk_9 (dk_at dksX4_isVoter_0 2 rfl rfl)
theorem dX4_isVoter_3 : decode cX4_isVoter 3 = .ok (.aload_n 0, 1) := dk_42 (dk_at dksX4_isVoter_0 3 rfl rfl)
theorem dX4_isVoter_4 : decode cX4_isVoter 4 = .ok (.getfield 20, 3) := dk_180 0 20 (dk_at dksX4_isVoter_0 4 rfl rfl)
theorem dX4_isVoter_7 : decode cX4_isVoter 7 = .ok (.iconst 0, 1) := dk_3 (dk_at dksX4_isVoter_0 7 rfl rfl)
theorem dX4_isVoter_8 : decode cX4_isVoter 8 = .ok (.iaload, 1) := dk_46 (dk_at dksX4_isVoter_0 8 rfl rfl)
theorem dX4_isVoter_9 : decode cX4_isVoter 9 = .ok (.iconst 1, 1) := dk_4 (dk_at dksX4_isVoter_0 9 rfl rfl)
theorem dX4_isVoter_10 : decode cX4_isVoter 10 = .ok (.isub, 1) := dk_100 (dk_at dksX4_isVoter_0 10 rfl rfl)
theorem dX4_isVoter_11 : decode cX4_isVoter 11 = .ok (.i2l, 1) := dk_133 (dk_at dksX4_isVoter_0 11 rfl rfl)
theorem dX4_isVoter_12 : decode cX4_isVoter 12 = .ok (.invokestatic 107, 3) := dk_184 0 107 (dk_at dksX4_isVoter_0 12 rfl rfl)
theorem dX4_isVoter_15 : decode cX4_isVoter 15 = .ok (.ireturn, 1) := dk_172 (dk_at dksX4_isVoter_0 15 rfl rfl)
abbrev cX4_linesOf : ByteArray := prog_12_method_46_code
def yX4_linesOf : MethodName := ⟨RX4, "linesOf", "(I)I"⟩
def dkwX4_linesOf_1 : List UInt8 := [160, 0, 7, 4, 167, 0, 4, 3, 96, 61, 132, 3, 1, 167, 255, 223, 28, 172]
abbrev dktX4_linesOf_1 : List UInt8 := dkwX4_linesOf_1 ++ []
def dkwX4_linesOf_0 : List UInt8 := [3, 61, 3, 62, 29, 42, 182, 0, 218, 162, 0, 31, 28, 42, 180, 0, 20, 29, 5, 184, 0, 124, 46, 27]
abbrev dktX4_linesOf_0 : List UInt8 := dkwX4_linesOf_0 ++ dktX4_linesOf_1
theorem dksX4_linesOf_0 : cX4_linesOf.data.toList.drop 0 = dktX4_linesOf_0 := by decide +kernel
theorem dksX4_linesOf_1 : cX4_linesOf.data.toList.drop 24 = dktX4_linesOf_1 := dk_seg dksX4_linesOf_0 24 rfl rfl
theorem dX4_linesOf_0 : decode cX4_linesOf 0 = .ok (.iconst 0, 1) := dk_3 (dk_at dksX4_linesOf_0 0 rfl rfl)
theorem dX4_linesOf_1 : decode cX4_linesOf 1 = .ok (.istore_n 2, 1) := dk_61 (dk_at dksX4_linesOf_0 1 rfl rfl)
theorem dX4_linesOf_2 : decode cX4_linesOf 2 = .ok (.iconst 0, 1) := dk_3 (dk_at dksX4_linesOf_0 2 rfl rfl)
theorem dX4_linesOf_3 : decode cX4_linesOf 3 = .ok (.istore_n 3, 1) := dk_62 (dk_at dksX4_linesOf_0 3 rfl rfl)
theorem dX4_linesOf_4 : decode cX4_linesOf 4 = .ok (.iload_n 3, 1) := dk_29 (dk_at dksX4_linesOf_0 4 rfl rfl)
theorem dX4_linesOf_5 : decode cX4_linesOf 5 = .ok (.aload_n 0, 1) := dk_42 (dk_at dksX4_linesOf_0 5 rfl rfl)
theorem dX4_linesOf_6 : decode cX4_linesOf 6 = .ok (.invokevirtual 218, 3) := dk_182 0 218 (dk_at dksX4_linesOf_0 6 rfl rfl)
theorem dX4_linesOf_9 : decode cX4_linesOf 9 = .ok (.if_icmp .ge 31, 3) := dk_162 0 31 (dk_at dksX4_linesOf_0 9 rfl rfl)
theorem dX4_linesOf_12 : decode cX4_linesOf 12 = .ok (.iload_n 2, 1) := dk_28 (dk_at dksX4_linesOf_0 12 rfl rfl)
theorem dX4_linesOf_13 : decode cX4_linesOf 13 = .ok (.aload_n 0, 1) := dk_42 (dk_at dksX4_linesOf_0 13 rfl rfl)
theorem dX4_linesOf_14 : decode cX4_linesOf 14 = .ok (.getfield 20, 3) := dk_180 0 20 (dk_at dksX4_linesOf_0 14 rfl rfl)
theorem dX4_linesOf_17 : decode cX4_linesOf 17 = .ok (.iload_n 3, 1) := dk_29 (dk_at dksX4_linesOf_0 17 rfl rfl)
theorem dX4_linesOf_18 : decode cX4_linesOf 18 = .ok (.iconst 2, 1) := dk_5 (dk_at dksX4_linesOf_0 18 rfl rfl)
theorem dX4_linesOf_19 : decode cX4_linesOf 19 = .ok (.invokestatic 124, 3) := dk_184 0 124 (dk_at dksX4_linesOf_0 19 rfl rfl)
theorem dX4_linesOf_22 : decode cX4_linesOf 22 = .ok (.iaload, 1) := dk_46 (dk_at dksX4_linesOf_0 22 rfl rfl)
theorem dX4_linesOf_23 : decode cX4_linesOf 23 = .ok (.iload_n 1, 1) := dk_27 (dk_at dksX4_linesOf_0 23 rfl rfl)
theorem dX4_linesOf_24 : decode cX4_linesOf 24 = .ok (.if_icmp .ne 7, 3) := dk_160 0 7 (dk_at dksX4_linesOf_1 0 rfl rfl)
theorem dX4_linesOf_27 : decode cX4_linesOf 27 = .ok (.iconst 1, 1) := dk_4 (dk_at dksX4_linesOf_1 3 rfl rfl)
theorem dX4_linesOf_28 : decode cX4_linesOf 28 = .ok (.goto 4, 3) := dk_167 0 4 (dk_at dksX4_linesOf_1 4 rfl rfl)
theorem dX4_linesOf_31 : decode cX4_linesOf 31 = .ok (.iconst 0, 1) := dk_3 (dk_at dksX4_linesOf_1 7 rfl rfl)
theorem dX4_linesOf_32 : decode cX4_linesOf 32 = .ok (.iadd, 1) := dk_96 (dk_at dksX4_linesOf_1 8 rfl rfl)
theorem dX4_linesOf_33 : decode cX4_linesOf 33 = .ok (.istore_n 2, 1) := dk_61 (dk_at dksX4_linesOf_1 9 rfl rfl)
theorem dX4_linesOf_34 : decode cX4_linesOf 34 = .ok (.iinc 3 1, 3) := dk_132 3 1 (dk_at dksX4_linesOf_1 10 rfl rfl)
theorem dX4_linesOf_37 : decode cX4_linesOf 37 = .ok (.goto (-33), 3) := dk_167 255 223 (dk_at dksX4_linesOf_1 13 rfl rfl)
theorem dX4_linesOf_40 : decode cX4_linesOf 40 = .ok (.iload_n 2, 1) := dk_28 (dk_at dksX4_linesOf_1 16 rfl rfl)
theorem dX4_linesOf_41 : decode cX4_linesOf 41 = .ok (.ireturn, 1) := dk_172 (dk_at dksX4_linesOf_1 17 rfl rfl)
abbrev cX4_spotOf : ByteArray := prog_12_method_47_code
def yX4_spotOf : MethodName := ⟨RX4, "spotOf", "(II)I"⟩
def dkwX4_spotOf_1 : List UInt8 := [184, 0, 124, 46, 27, 162, 0, 7, 4, 167, 0, 4, 3, 96, 62, 132, 4, 1, 167, 255, 221, 29, 172]
abbrev dktX4_spotOf_1 : List UInt8 := dkwX4_spotOf_1 ++ []
def dkwX4_spotOf_0 : List UInt8 := [28, 62, 3, 54, 4, 21, 4, 42, 182, 0, 218, 162, 0, 32, 29, 42, 180, 0, 20, 21, 4, 5]
abbrev dktX4_spotOf_0 : List UInt8 := dkwX4_spotOf_0 ++ dktX4_spotOf_1
theorem dksX4_spotOf_0 : cX4_spotOf.data.toList.drop 0 = dktX4_spotOf_0 := by decide +kernel
theorem dksX4_spotOf_1 : cX4_spotOf.data.toList.drop 22 = dktX4_spotOf_1 := dk_seg dksX4_spotOf_0 22 rfl rfl
theorem dX4_spotOf_0 : decode cX4_spotOf 0 = .ok (.iload_n 2, 1) := dk_28 (dk_at dksX4_spotOf_0 0 rfl rfl)
theorem dX4_spotOf_1 : decode cX4_spotOf 1 = .ok (.istore_n 3, 1) := dk_62 (dk_at dksX4_spotOf_0 1 rfl rfl)
theorem dX4_spotOf_2 : decode cX4_spotOf 2 = .ok (.iconst 0, 1) := dk_3 (dk_at dksX4_spotOf_0 2 rfl rfl)
theorem dX4_spotOf_3 : decode cX4_spotOf 3 = .ok (.istore 4, 2) := dk_54 4 (dk_at dksX4_spotOf_0 3 rfl rfl)
theorem dX4_spotOf_5 : decode cX4_spotOf 5 = .ok (.iload 4, 2) := dk_21 4 (dk_at dksX4_spotOf_0 5 rfl rfl)
theorem dX4_spotOf_7 : decode cX4_spotOf 7 = .ok (.aload_n 0, 1) := dk_42 (dk_at dksX4_spotOf_0 7 rfl rfl)
theorem dX4_spotOf_8 : decode cX4_spotOf 8 = .ok (.invokevirtual 218, 3) := dk_182 0 218 (dk_at dksX4_spotOf_0 8 rfl rfl)
theorem dX4_spotOf_11 : decode cX4_spotOf 11 = .ok (.if_icmp .ge 32, 3) := dk_162 0 32 (dk_at dksX4_spotOf_0 11 rfl rfl)
theorem dX4_spotOf_14 : decode cX4_spotOf 14 = .ok (.iload_n 3, 1) := dk_29 (dk_at dksX4_spotOf_0 14 rfl rfl)
theorem dX4_spotOf_15 : decode cX4_spotOf 15 = .ok (.aload_n 0, 1) := dk_42 (dk_at dksX4_spotOf_0 15 rfl rfl)
theorem dX4_spotOf_16 : decode cX4_spotOf 16 = .ok (.getfield 20, 3) := dk_180 0 20 (dk_at dksX4_spotOf_0 16 rfl rfl)
theorem dX4_spotOf_19 : decode cX4_spotOf 19 = .ok (.iload 4, 2) := dk_21 4 (dk_at dksX4_spotOf_0 19 rfl rfl)
theorem dX4_spotOf_21 : decode cX4_spotOf 21 = .ok (.iconst 2, 1) := dk_5 (dk_at dksX4_spotOf_0 21 rfl rfl)
theorem dX4_spotOf_22 : decode cX4_spotOf 22 = .ok (.invokestatic 124, 3) := dk_184 0 124 (dk_at dksX4_spotOf_1 0 rfl rfl)
theorem dX4_spotOf_25 : decode cX4_spotOf 25 = .ok (.iaload, 1) := dk_46 (dk_at dksX4_spotOf_1 3 rfl rfl)
theorem dX4_spotOf_26 : decode cX4_spotOf 26 = .ok (.iload_n 1, 1) := dk_27 (dk_at dksX4_spotOf_1 4 rfl rfl)
theorem dX4_spotOf_27 : decode cX4_spotOf 27 = .ok (.if_icmp .ge 7, 3) := dk_162 0 7 (dk_at dksX4_spotOf_1 5 rfl rfl)
theorem dX4_spotOf_30 : decode cX4_spotOf 30 = .ok (.iconst 1, 1) := dk_4 (dk_at dksX4_spotOf_1 8 rfl rfl)
theorem dX4_spotOf_31 : decode cX4_spotOf 31 = .ok (.goto 4, 3) := dk_167 0 4 (dk_at dksX4_spotOf_1 9 rfl rfl)
theorem dX4_spotOf_34 : decode cX4_spotOf 34 = .ok (.iconst 0, 1) := dk_3 (dk_at dksX4_spotOf_1 12 rfl rfl)
theorem dX4_spotOf_35 : decode cX4_spotOf 35 = .ok (.iadd, 1) := dk_96 (dk_at dksX4_spotOf_1 13 rfl rfl)
theorem dX4_spotOf_36 : decode cX4_spotOf 36 = .ok (.istore_n 3, 1) := dk_62 (dk_at dksX4_spotOf_1 14 rfl rfl)
theorem dX4_spotOf_37 : decode cX4_spotOf 37 = .ok (.iinc 4 1, 3) := dk_132 4 1 (dk_at dksX4_spotOf_1 15 rfl rfl)
theorem dX4_spotOf_40 : decode cX4_spotOf 40 = .ok (.goto (-35), 3) := dk_167 255 221 (dk_at dksX4_spotOf_1 18 rfl rfl)
theorem dX4_spotOf_43 : decode cX4_spotOf 43 = .ok (.iload_n 3, 1) := dk_29 (dk_at dksX4_spotOf_1 21 rfl rfl)
theorem dX4_spotOf_44 : decode cX4_spotOf 44 = .ok (.ireturn, 1) := dk_172 (dk_at dksX4_spotOf_1 22 rfl rfl)
abbrev cX4_moves : ByteArray := prog_12_method_55_code
def yX4_moves : MethodName := ⟨RX4, "moves", "(II)V"⟩
def dkwX4_moves_1 : List UInt8 := [184, 0, 124, 46, 79, 132, 3, 1, 167, 255, 228, 177]
abbrev dktX4_moves_1 : List UInt8 := dkwX4_moves_1 ++ []
def dkwX4_moves_0 : List UInt8 := [3, 62, 29, 7, 162, 0, 29, 42, 180, 0, 20, 28, 29, 184, 0, 124, 42, 180, 0, 20, 27, 29]
abbrev dktX4_moves_0 : List UInt8 := dkwX4_moves_0 ++ dktX4_moves_1
theorem dksX4_moves_0 : cX4_moves.data.toList.drop 0 = dktX4_moves_0 := by decide +kernel
theorem dksX4_moves_1 : cX4_moves.data.toList.drop 22 = dktX4_moves_1 := dk_seg dksX4_moves_0 22 rfl rfl
theorem dX4_moves_0 : decode cX4_moves 0 = .ok (.iconst 0, 1) := dk_3 (dk_at dksX4_moves_0 0 rfl rfl)
theorem dX4_moves_1 : decode cX4_moves 1 = .ok (.istore_n 3, 1) := dk_62 (dk_at dksX4_moves_0 1 rfl rfl)
theorem dX4_moves_2 : decode cX4_moves 2 = .ok (.iload_n 3, 1) := dk_29 (dk_at dksX4_moves_0 2 rfl rfl)
theorem dX4_moves_3 : decode cX4_moves 3 = .ok (.iconst 4, 1) := dk_7 (dk_at dksX4_moves_0 3 rfl rfl)
theorem dX4_moves_4 : decode cX4_moves 4 = .ok (.if_icmp .ge 29, 3) := dk_162 0 29 (dk_at dksX4_moves_0 4 rfl rfl)
theorem dX4_moves_7 : decode cX4_moves 7 = .ok (.aload_n 0, 1) := dk_42 (dk_at dksX4_moves_0 7 rfl rfl)
theorem dX4_moves_8 : decode cX4_moves 8 = .ok (.getfield 20, 3) := dk_180 0 20 (dk_at dksX4_moves_0 8 rfl rfl)
theorem dX4_moves_11 : decode cX4_moves 11 = .ok (.iload_n 2, 1) := dk_28 (dk_at dksX4_moves_0 11 rfl rfl)
theorem dX4_moves_12 : decode cX4_moves 12 = .ok (.iload_n 3, 1) := dk_29 (dk_at dksX4_moves_0 12 rfl rfl)
theorem dX4_moves_13 : decode cX4_moves 13 = .ok (.invokestatic 124, 3) := dk_184 0 124 (dk_at dksX4_moves_0 13 rfl rfl)
theorem dX4_moves_16 : decode cX4_moves 16 = .ok (.aload_n 0, 1) := dk_42 (dk_at dksX4_moves_0 16 rfl rfl)
theorem dX4_moves_17 : decode cX4_moves 17 = .ok (.getfield 20, 3) := dk_180 0 20 (dk_at dksX4_moves_0 17 rfl rfl)
theorem dX4_moves_20 : decode cX4_moves 20 = .ok (.iload_n 1, 1) := dk_27 (dk_at dksX4_moves_0 20 rfl rfl)
theorem dX4_moves_21 : decode cX4_moves 21 = .ok (.iload_n 3, 1) := dk_29 (dk_at dksX4_moves_0 21 rfl rfl)
theorem dX4_moves_22 : decode cX4_moves 22 = .ok (.invokestatic 124, 3) := dk_184 0 124 (dk_at dksX4_moves_1 0 rfl rfl)
theorem dX4_moves_25 : decode cX4_moves 25 = .ok (.iaload, 1) := dk_46 (dk_at dksX4_moves_1 3 rfl rfl)
theorem dX4_moves_26 : decode cX4_moves 26 = .ok (.iastore, 1) := dk_79 (dk_at dksX4_moves_1 4 rfl rfl)
theorem dX4_moves_27 : decode cX4_moves 27 = .ok (.iinc 3 1, 3) := dk_132 3 1 (dk_at dksX4_moves_1 5 rfl rfl)
theorem dX4_moves_30 : decode cX4_moves 30 = .ok (.goto (-28), 3) := dk_167 255 228 (dk_at dksX4_moves_1 8 rfl rfl)
theorem dX4_moves_33 : decode cX4_moves 33 = .ok (.return_, 1) := dk_177 (dk_at dksX4_moves_1 11 rfl rfl)
abbrev cX4_emptiesSamples : ByteArray := prog_12_method_50_code
def yX4_emptiesSamples : MethodName := ⟨RX4, "emptiesSamples", "()V"⟩
def dkwX4_emptiesSamples_1 : List UInt8 := [177]
abbrev dktX4_emptiesSamples_1 : List UInt8 := dkwX4_emptiesSamples_1 ++ []
def dkwX4_emptiesSamples_0 : List UInt8 := [17, 0, 225, 60, 27, 17, 1, 49, 162, 0, 16, 42, 180, 0, 20, 27, 3, 79, 132, 1, 1, 167, 255, 239]
abbrev dktX4_emptiesSamples_0 : List UInt8 := dkwX4_emptiesSamples_0 ++ dktX4_emptiesSamples_1
theorem dksX4_emptiesSamples_0 : cX4_emptiesSamples.data.toList.drop 0 = dktX4_emptiesSamples_0 := by decide +kernel
theorem dksX4_emptiesSamples_1 : cX4_emptiesSamples.data.toList.drop 24 = dktX4_emptiesSamples_1 := dk_seg dksX4_emptiesSamples_0 24 rfl rfl
theorem dX4_emptiesSamples_0 : decode cX4_emptiesSamples 0 = .ok (.sipush 225, 3) := dk_17 0 225 (dk_at dksX4_emptiesSamples_0 0 rfl rfl)
theorem dX4_emptiesSamples_3 : decode cX4_emptiesSamples 3 = .ok (.istore_n 1, 1) := dk_60 (dk_at dksX4_emptiesSamples_0 3 rfl rfl)
theorem dX4_emptiesSamples_4 : decode cX4_emptiesSamples 4 = .ok (.iload_n 1, 1) := dk_27 (dk_at dksX4_emptiesSamples_0 4 rfl rfl)
theorem dX4_emptiesSamples_5 : decode cX4_emptiesSamples 5 = .ok (.sipush 305, 3) := dk_17 1 49 (dk_at dksX4_emptiesSamples_0 5 rfl rfl)
theorem dX4_emptiesSamples_8 : decode cX4_emptiesSamples 8 = .ok (.if_icmp .ge 16, 3) := dk_162 0 16 (dk_at dksX4_emptiesSamples_0 8 rfl rfl)
theorem dX4_emptiesSamples_11 : decode cX4_emptiesSamples 11 = .ok (.aload_n 0, 1) := dk_42 (dk_at dksX4_emptiesSamples_0 11 rfl rfl)
theorem dX4_emptiesSamples_12 : decode cX4_emptiesSamples 12 = .ok (.getfield 20, 3) := dk_180 0 20 (dk_at dksX4_emptiesSamples_0 12 rfl rfl)
theorem dX4_emptiesSamples_15 : decode cX4_emptiesSamples 15 = .ok (.iload_n 1, 1) := dk_27 (dk_at dksX4_emptiesSamples_0 15 rfl rfl)
theorem dX4_emptiesSamples_16 : decode cX4_emptiesSamples 16 = .ok (.iconst 0, 1) := dk_3 (dk_at dksX4_emptiesSamples_0 16 rfl rfl)
theorem dX4_emptiesSamples_17 : decode cX4_emptiesSamples 17 = .ok (.iastore, 1) := dk_79 (dk_at dksX4_emptiesSamples_0 17 rfl rfl)
theorem dX4_emptiesSamples_18 : decode cX4_emptiesSamples 18 = .ok (.iinc 1 1, 3) := dk_132 1 1 (dk_at dksX4_emptiesSamples_0 18 rfl rfl)
theorem dX4_emptiesSamples_21 : decode cX4_emptiesSamples 21 = .ok (.goto (-17), 3) := dk_167 255 239 (dk_at dksX4_emptiesSamples_0 21 rfl rfl)
theorem dX4_emptiesSamples_24 : decode cX4_emptiesSamples 24 = .ok (.return_, 1) := dk_177 (dk_at dksX4_emptiesSamples_1 0 rfl rfl)
abbrev cX4_erase : ByteArray := prog_12_method_57_code
def yX4_erase : MethodName := ⟨RX4, "erase", "(II)I"⟩
def dkwX4_erase_4 : List UInt8 := [167, 255, 234, 42, 182, 1, 17, 21, 4, 172]
abbrev dktX4_erase_4 : List UInt8 := dkwX4_erase_4 ++ []
def dkwX4_erase_3 : List UInt8 := [54, 5, 21, 5, 42, 182, 0, 218, 162, 0, 19, 42, 21, 5, 4, 96, 21, 5, 182, 1, 14, 132, 5, 1]
abbrev dktX4_erase_3 : List UInt8 := dkwX4_erase_3 ++ dktX4_erase_4
def dkwX4_erase_2 : List UInt8 := [182, 1, 11, 62, 42, 180, 0, 31, 29, 46, 54, 4, 42, 180, 0, 20, 5, 92, 46, 4, 100, 79, 29]
abbrev dktX4_erase_2 : List UInt8 := dkwX4_erase_2 ++ dktX4_erase_3
def dkwX4_erase_1 : List UInt8 := [182, 0, 204, 153, 0, 5, 3, 172, 42, 182, 0, 211, 42, 42, 180, 0, 20, 3, 182, 0, 255, 42, 27, 28]
abbrev dktX4_erase_1 : List UInt8 := dkwX4_erase_1 ++ dktX4_erase_2
def dkwX4_erase_0 : List UInt8 := [42, 3, 181, 0, 48, 42, 42, 27, 28, 182, 1, 20, 154, 0, 7, 4, 167, 0, 4, 3, 4, 3]
abbrev dktX4_erase_0 : List UInt8 := dkwX4_erase_0 ++ dktX4_erase_1
theorem dksX4_erase_0 : cX4_erase.data.toList.drop 0 = dktX4_erase_0 := by decide +kernel
theorem dksX4_erase_1 : cX4_erase.data.toList.drop 22 = dktX4_erase_1 := dk_seg dksX4_erase_0 22 rfl rfl
theorem dksX4_erase_2 : cX4_erase.data.toList.drop 46 = dktX4_erase_2 := dk_seg dksX4_erase_1 24 rfl rfl
theorem dksX4_erase_3 : cX4_erase.data.toList.drop 69 = dktX4_erase_3 := dk_seg dksX4_erase_2 23 rfl rfl
theorem dksX4_erase_4 : cX4_erase.data.toList.drop 93 = dktX4_erase_4 := dk_seg dksX4_erase_3 24 rfl rfl
theorem dX4_erase_0 : decode cX4_erase 0 = .ok (.aload_n 0, 1) := dk_42 (dk_at dksX4_erase_0 0 rfl rfl)
theorem dX4_erase_1 : decode cX4_erase 1 = .ok (.iconst 0, 1) := dk_3 (dk_at dksX4_erase_0 1 rfl rfl)
theorem dX4_erase_2 : decode cX4_erase 2 = .ok (.putfield 48, 3) := dk_181 0 48 (dk_at dksX4_erase_0 2 rfl rfl)
theorem dX4_erase_5 : decode cX4_erase 5 = .ok (.aload_n 0, 1) := dk_42 (dk_at dksX4_erase_0 5 rfl rfl)
theorem dX4_erase_6 : decode cX4_erase 6 = .ok (.aload_n 0, 1) := dk_42 (dk_at dksX4_erase_0 6 rfl rfl)
theorem dX4_erase_7 : decode cX4_erase 7 = .ok (.iload_n 1, 1) := dk_27 (dk_at dksX4_erase_0 7 rfl rfl)
theorem dX4_erase_8 : decode cX4_erase 8 = .ok (.iload_n 2, 1) := dk_28 (dk_at dksX4_erase_0 8 rfl rfl)
theorem dX4_erase_9 : decode cX4_erase 9 = .ok (.invokevirtual 276, 3) := dk_182 1 20 (dk_at dksX4_erase_0 9 rfl rfl)
theorem dX4_erase_12 : decode cX4_erase 12 = .ok (.ifCond .ne 7, 3) := dk_154 0 7 (dk_at dksX4_erase_0 12 rfl rfl)
theorem dX4_erase_15 : decode cX4_erase 15 = .ok (.iconst 1, 1) := dk_4 (dk_at dksX4_erase_0 15 rfl rfl)
theorem dX4_erase_16 : decode cX4_erase 16 = .ok (.goto 4, 3) := dk_167 0 4 (dk_at dksX4_erase_0 16 rfl rfl)
theorem dX4_erase_19 : decode cX4_erase 19 = .ok (.iconst 0, 1) := dk_3 (dk_at dksX4_erase_0 19 rfl rfl)
theorem dX4_erase_20 : decode cX4_erase 20 = .ok (.iconst 1, 1) := dk_4 (dk_at dksX4_erase_0 20 rfl rfl)
theorem dX4_erase_21 : decode cX4_erase 21 = .ok (.iconst 0, 1) := dk_3 (dk_at dksX4_erase_0 21 rfl rfl)
theorem dX4_erase_22 : decode cX4_erase 22 = .ok (.invokevirtual 204, 3) := dk_182 0 204 (dk_at dksX4_erase_1 0 rfl rfl)
theorem dX4_erase_25 : decode cX4_erase 25 = .ok (.ifCond .eq 5, 3) := dk_153 0 5 (dk_at dksX4_erase_1 3 rfl rfl)
theorem dX4_erase_28 : decode cX4_erase 28 = .ok (.iconst 0, 1) := dk_3 (dk_at dksX4_erase_1 6 rfl rfl)
theorem dX4_erase_29 : decode cX4_erase 29 = .ok (.ireturn, 1) := dk_172 (dk_at dksX4_erase_1 7 rfl rfl)
theorem dX4_erase_30 : decode cX4_erase 30 = .ok (.aload_n 0, 1) := dk_42 (dk_at dksX4_erase_1 8 rfl rfl)
theorem dX4_erase_31 : decode cX4_erase 31 = .ok (.invokevirtual 211, 3) := dk_182 0 211 (dk_at dksX4_erase_1 9 rfl rfl)
theorem dX4_erase_34 : decode cX4_erase 34 = .ok (.aload_n 0, 1) := dk_42 (dk_at dksX4_erase_1 12 rfl rfl)
theorem dX4_erase_35 : decode cX4_erase 35 = .ok (.aload_n 0, 1) := dk_42 (dk_at dksX4_erase_1 13 rfl rfl)
theorem dX4_erase_36 : decode cX4_erase 36 = .ok (.getfield 20, 3) := dk_180 0 20 (dk_at dksX4_erase_1 14 rfl rfl)
theorem dX4_erase_39 : decode cX4_erase 39 = .ok (.iconst 0, 1) := dk_3 (dk_at dksX4_erase_1 17 rfl rfl)
theorem dX4_erase_40 : decode cX4_erase 40 = .ok (.invokevirtual 255, 3) := dk_182 0 255 (dk_at dksX4_erase_1 18 rfl rfl)
theorem dX4_erase_43 : decode cX4_erase 43 = .ok (.aload_n 0, 1) := dk_42 (dk_at dksX4_erase_1 21 rfl rfl)
theorem dX4_erase_44 : decode cX4_erase 44 = .ok (.iload_n 1, 1) := dk_27 (dk_at dksX4_erase_1 22 rfl rfl)
theorem dX4_erase_45 : decode cX4_erase 45 = .ok (.iload_n 2, 1) := dk_28 (dk_at dksX4_erase_1 23 rfl rfl)
theorem dX4_erase_46 : decode cX4_erase 46 = .ok (.invokevirtual 267, 3) := dk_182 1 11 (dk_at dksX4_erase_2 0 rfl rfl)
theorem dX4_erase_49 : decode cX4_erase 49 = .ok (.istore_n 3, 1) := dk_62 (dk_at dksX4_erase_2 3 rfl rfl)
theorem dX4_erase_50 : decode cX4_erase 50 = .ok (.aload_n 0, 1) := dk_42 (dk_at dksX4_erase_2 4 rfl rfl)
theorem dX4_erase_51 : decode cX4_erase 51 = .ok (.getfield 31, 3) := dk_180 0 31 (dk_at dksX4_erase_2 5 rfl rfl)
theorem dX4_erase_54 : decode cX4_erase 54 = .ok (.iload_n 3, 1) := dk_29 (dk_at dksX4_erase_2 8 rfl rfl)
theorem dX4_erase_55 : decode cX4_erase 55 = .ok (.iaload, 1) := dk_46 (dk_at dksX4_erase_2 9 rfl rfl)
theorem dX4_erase_56 : decode cX4_erase 56 = .ok (.istore 4, 2) := dk_54 4 (dk_at dksX4_erase_2 10 rfl rfl)
theorem dX4_erase_58 : decode cX4_erase 58 = .ok (.aload_n 0, 1) := dk_42 (dk_at dksX4_erase_2 12 rfl rfl)
theorem dX4_erase_59 : decode cX4_erase 59 = .ok (.getfield 20, 3) := dk_180 0 20 (dk_at dksX4_erase_2 13 rfl rfl)
theorem dX4_erase_62 : decode cX4_erase 62 = .ok (.iconst 2, 1) := dk_5 (dk_at dksX4_erase_2 16 rfl rfl)
theorem dX4_erase_63 : decode cX4_erase 63 = .ok (.dup2, 1) := dk_92 (dk_at dksX4_erase_2 17 rfl rfl)
theorem dX4_erase_64 : decode cX4_erase 64 = .ok (.iaload, 1) := dk_46 (dk_at dksX4_erase_2 18 rfl rfl)
theorem dX4_erase_65 : decode cX4_erase 65 = .ok (.iconst 1, 1) := dk_4 (dk_at dksX4_erase_2 19 rfl rfl)
theorem dX4_erase_66 : decode cX4_erase 66 = .ok (.isub, 1) := dk_100 (dk_at dksX4_erase_2 20 rfl rfl)
theorem dX4_erase_67 : decode cX4_erase 67 = .ok (.iastore, 1) := dk_79 (dk_at dksX4_erase_2 21 rfl rfl)
theorem dX4_erase_68 : decode cX4_erase 68 = .ok (.iload_n 3, 1) := dk_29 (dk_at dksX4_erase_2 22 rfl rfl)
theorem dX4_erase_69 : decode cX4_erase 69 = .ok (.istore 5, 2) := dk_54 5 (dk_at dksX4_erase_3 0 rfl rfl)
theorem dX4_erase_71 : decode cX4_erase 71 = .ok (.iload 5, 2) := dk_21 5 (dk_at dksX4_erase_3 2 rfl rfl)
theorem dX4_erase_73 : decode cX4_erase 73 = .ok (.aload_n 0, 1) := dk_42 (dk_at dksX4_erase_3 4 rfl rfl)
theorem dX4_erase_74 : decode cX4_erase 74 = .ok (.invokevirtual 218, 3) := dk_182 0 218 (dk_at dksX4_erase_3 5 rfl rfl)
theorem dX4_erase_77 : decode cX4_erase 77 = .ok (.if_icmp .ge 19, 3) := dk_162 0 19 (dk_at dksX4_erase_3 8 rfl rfl)
theorem dX4_erase_80 : decode cX4_erase 80 = .ok (.aload_n 0, 1) := dk_42 (dk_at dksX4_erase_3 11 rfl rfl)
theorem dX4_erase_81 : decode cX4_erase 81 = .ok (.iload 5, 2) := dk_21 5 (dk_at dksX4_erase_3 12 rfl rfl)
theorem dX4_erase_83 : decode cX4_erase 83 = .ok (.iconst 1, 1) := dk_4 (dk_at dksX4_erase_3 14 rfl rfl)
theorem dX4_erase_84 : decode cX4_erase 84 = .ok (.iadd, 1) := dk_96 (dk_at dksX4_erase_3 15 rfl rfl)
theorem dX4_erase_85 : decode cX4_erase 85 = .ok (.iload 5, 2) := dk_21 5 (dk_at dksX4_erase_3 16 rfl rfl)
theorem dX4_erase_87 : decode cX4_erase 87 = .ok (.invokevirtual 270, 3) := dk_182 1 14 (dk_at dksX4_erase_3 18 rfl rfl)
theorem dX4_erase_90 : decode cX4_erase 90 = .ok (.iinc 5 1, 3) := dk_132 5 1 (dk_at dksX4_erase_3 21 rfl rfl)
theorem dX4_erase_93 : decode cX4_erase 93 = .ok (.goto (-22), 3) := dk_167 255 234 (dk_at dksX4_erase_4 0 rfl rfl)
theorem dX4_erase_96 : decode cX4_erase 96 = .ok (.aload_n 0, 1) := dk_42 (dk_at dksX4_erase_4 3 rfl rfl)
theorem dX4_erase_97 : decode cX4_erase 97 = .ok (.invokevirtual 273, 3) := dk_182 1 17 (dk_at dksX4_erase_4 4 rfl rfl)
theorem dX4_erase_100 : decode cX4_erase 100 = .ok (.iload 4, 2) := dk_21 4 (dk_at dksX4_erase_4 7 rfl rfl)
theorem dX4_erase_102 : decode cX4_erase 102 = .ok (.ireturn, 1) := dk_172 (dk_at dksX4_erase_4 9 rfl rfl)
abbrev cX4_isLine : ByteArray := prog_12_method_48_code
def yX4_isLine : MethodName := ⟨RX4, "isLine", "(II)Z"⟩
def dkwX4_isLine_1 : List UInt8 := [153, 0, 7, 4, 167, 0, 4, 3, 172]
abbrev dktX4_isLine_1 : List UInt8 := dkwX4_isLine_1 ++ []
def dkwX4_isLine_0 : List UInt8 := [42, 27, 182, 0, 238, 153, 0, 24, 28, 133, 9, 42, 27, 182, 0, 241, 4, 100, 133, 184, 0, 107]
abbrev dktX4_isLine_0 : List UInt8 := dkwX4_isLine_0 ++ dktX4_isLine_1
theorem dksX4_isLine_0 : cX4_isLine.data.toList.drop 0 = dktX4_isLine_0 := by decide +kernel
theorem dksX4_isLine_1 : cX4_isLine.data.toList.drop 22 = dktX4_isLine_1 := dk_seg dksX4_isLine_0 22 rfl rfl
theorem dX4_isLine_0 : decode cX4_isLine 0 = .ok (.aload_n 0, 1) := dk_42 (dk_at dksX4_isLine_0 0 rfl rfl)
theorem dX4_isLine_1 : decode cX4_isLine 1 = .ok (.iload_n 1, 1) := dk_27 (dk_at dksX4_isLine_0 1 rfl rfl)
theorem dX4_isLine_2 : decode cX4_isLine 2 = .ok (.invokevirtual 238, 3) := dk_182 0 238 (dk_at dksX4_isLine_0 2 rfl rfl)
theorem dX4_isLine_5 : decode cX4_isLine 5 = .ok (.ifCond .eq 24, 3) := dk_153 0 24 (dk_at dksX4_isLine_0 5 rfl rfl)
theorem dX4_isLine_8 : decode cX4_isLine 8 = .ok (.iload_n 2, 1) := dk_28 (dk_at dksX4_isLine_0 8 rfl rfl)
theorem dX4_isLine_9 : decode cX4_isLine 9 = .ok (.i2l, 1) := dk_133 (dk_at dksX4_isLine_0 9 rfl rfl)
theorem dX4_isLine_10 : decode cX4_isLine 10 = .ok (.lconst 0, 1) := dk_9 (dk_at dksX4_isLine_0 10 rfl rfl)
theorem dX4_isLine_11 : decode cX4_isLine 11 = .ok (.aload_n 0, 1) := dk_42 (dk_at dksX4_isLine_0 11 rfl rfl)
theorem dX4_isLine_12 : decode cX4_isLine 12 = .ok (.iload_n 1, 1) := dk_27 (dk_at dksX4_isLine_0 12 rfl rfl)
theorem dX4_isLine_13 : decode cX4_isLine 13 = .ok (.invokevirtual 241, 3) := dk_182 0 241 (dk_at dksX4_isLine_0 13 rfl rfl)
theorem dX4_isLine_16 : decode cX4_isLine 16 = .ok (.iconst 1, 1) := dk_4 (dk_at dksX4_isLine_0 16 rfl rfl)
theorem dX4_isLine_17 : decode cX4_isLine 17 = .ok (.isub, 1) := dk_100 (dk_at dksX4_isLine_0 17 rfl rfl)
theorem dX4_isLine_18 : decode cX4_isLine 18 = .ok (.i2l, 1) := dk_133 (dk_at dksX4_isLine_0 18 rfl rfl)
theorem dX4_isLine_19 : decode cX4_isLine 19 = .ok (.invokestatic 107, 3) := dk_184 0 107 (dk_at dksX4_isLine_0 19 rfl rfl)
theorem dX4_isLine_22 : decode cX4_isLine 22 = .ok (.ifCond .eq 7, 3) := dk_153 0 7 (dk_at dksX4_isLine_1 0 rfl rfl)
theorem dX4_isLine_25 : decode cX4_isLine 25 = .ok (.iconst 1, 1) := dk_4 (dk_at dksX4_isLine_1 3 rfl rfl)
theorem dX4_isLine_26 : decode cX4_isLine 26 = .ok (.goto 4, 3) := dk_167 0 4 (dk_at dksX4_isLine_1 4 rfl rfl)
theorem dX4_isLine_29 : decode cX4_isLine 29 = .ok (.iconst 0, 1) := dk_3 (dk_at dksX4_isLine_1 7 rfl rfl)
theorem dX4_isLine_30 : decode cX4_isLine 30 = .ok (.ireturn, 1) := dk_172 (dk_at dksX4_isLine_1 8 rfl rfl)
abbrev cX4_told : ByteArray := prog_12_method_58_code
def yX4_told : MethodName := ⟨RX4, "told", "(I)I"⟩
def dkwX4_told_3 : List UInt8 := [160, 0, 10, 42, 180, 0, 51, 167, 0, 7, 42, 180, 0, 235, 172]
abbrev dktX4_told_3 : List UInt8 := dkwX4_told_3 ++ []
def dkwX4_told_2 : List UInt8 := [180, 0, 20, 3, 182, 0, 255, 27, 16, 8, 160, 0, 10, 42, 180, 0, 228, 167, 0, 20, 27, 16, 9]
abbrev dktX4_told_2 : List UInt8 := dkwX4_told_2 ++ dktX4_told_3
def dkwX4_told_1 : List UInt8 := [4, 182, 0, 204, 153, 0, 5, 3, 172, 27, 16, 8, 162, 0, 10, 42, 180, 0, 20, 27, 46, 172, 42, 42]
abbrev dktX4_told_1 : List UInt8 := dkwX4_told_1 ++ dktX4_told_2
def dkwX4_told_0 : List UInt8 := [42, 3, 181, 0, 48, 42, 27, 133, 9, 20, 1, 23, 184, 0, 107, 154, 0, 7, 4, 167, 0, 4, 3, 4]
abbrev dktX4_told_0 : List UInt8 := dkwX4_told_0 ++ dktX4_told_1
theorem dksX4_told_0 : cX4_told.data.toList.drop 0 = dktX4_told_0 := by decide +kernel
theorem dksX4_told_1 : cX4_told.data.toList.drop 24 = dktX4_told_1 := dk_seg dksX4_told_0 24 rfl rfl
theorem dksX4_told_2 : cX4_told.data.toList.drop 48 = dktX4_told_2 := dk_seg dksX4_told_1 24 rfl rfl
theorem dksX4_told_3 : cX4_told.data.toList.drop 71 = dktX4_told_3 := dk_seg dksX4_told_2 23 rfl rfl
theorem dX4_told_0 : decode cX4_told 0 = .ok (.aload_n 0, 1) := dk_42 (dk_at dksX4_told_0 0 rfl rfl)
theorem dX4_told_1 : decode cX4_told 1 = .ok (.iconst 0, 1) := dk_3 (dk_at dksX4_told_0 1 rfl rfl)
theorem dX4_told_2 : decode cX4_told 2 = .ok (.putfield 48, 3) := dk_181 0 48 (dk_at dksX4_told_0 2 rfl rfl)
theorem dX4_told_5 : decode cX4_told 5 = .ok (.aload_n 0, 1) := dk_42 (dk_at dksX4_told_0 5 rfl rfl)
theorem dX4_told_6 : decode cX4_told 6 = .ok (.iload_n 1, 1) := dk_27 (dk_at dksX4_told_0 6 rfl rfl)
theorem dX4_told_7 : decode cX4_told 7 = .ok (.i2l, 1) := dk_133 (dk_at dksX4_told_0 7 rfl rfl)
theorem dX4_told_8 : decode cX4_told 8 = .ok (.lconst 0, 1) := dk_9 (dk_at dksX4_told_0 8 rfl rfl)
theorem dX4_told_9 : decode cX4_told 9 = .ok (.ldc2_w 279, 3) := dk_20 1 23 (dk_at dksX4_told_0 9 rfl rfl)
theorem dX4_told_12 : decode cX4_told 12 = .ok (.invokestatic 107, 3) := dk_184 0 107 (dk_at dksX4_told_0 12 rfl rfl)
theorem dX4_told_15 : decode cX4_told 15 = .ok (.ifCond .ne 7, 3) := dk_154 0 7 (dk_at dksX4_told_0 15 rfl rfl)
theorem dX4_told_18 : decode cX4_told 18 = .ok (.iconst 1, 1) := dk_4 (dk_at dksX4_told_0 18 rfl rfl)
theorem dX4_told_19 : decode cX4_told 19 = .ok (.goto 4, 3) := dk_167 0 4 (dk_at dksX4_told_0 19 rfl rfl)
theorem dX4_told_22 : decode cX4_told 22 = .ok (.iconst 0, 1) := dk_3 (dk_at dksX4_told_0 22 rfl rfl)
theorem dX4_told_23 : decode cX4_told 23 = .ok (.iconst 1, 1) := dk_4 (dk_at dksX4_told_0 23 rfl rfl)
theorem dX4_told_24 : decode cX4_told 24 = .ok (.iconst 1, 1) := dk_4 (dk_at dksX4_told_1 0 rfl rfl)
theorem dX4_told_25 : decode cX4_told 25 = .ok (.invokevirtual 204, 3) := dk_182 0 204 (dk_at dksX4_told_1 1 rfl rfl)
theorem dX4_told_28 : decode cX4_told 28 = .ok (.ifCond .eq 5, 3) := dk_153 0 5 (dk_at dksX4_told_1 4 rfl rfl)
theorem dX4_told_31 : decode cX4_told 31 = .ok (.iconst 0, 1) := dk_3 (dk_at dksX4_told_1 7 rfl rfl)
theorem dX4_told_32 : decode cX4_told 32 = .ok (.ireturn, 1) := dk_172 (dk_at dksX4_told_1 8 rfl rfl)
theorem dX4_told_33 : decode cX4_told 33 = .ok (.iload_n 1, 1) := dk_27 (dk_at dksX4_told_1 9 rfl rfl)
theorem dX4_told_34 : decode cX4_told 34 = .ok (.bipush 8, 2) := dk_16 8 (dk_at dksX4_told_1 10 rfl rfl)
theorem dX4_told_36 : decode cX4_told 36 = .ok (.if_icmp .ge 10, 3) := dk_162 0 10 (dk_at dksX4_told_1 12 rfl rfl)
theorem dX4_told_39 : decode cX4_told 39 = .ok (.aload_n 0, 1) := dk_42 (dk_at dksX4_told_1 15 rfl rfl)
theorem dX4_told_40 : decode cX4_told 40 = .ok (.getfield 20, 3) := dk_180 0 20 (dk_at dksX4_told_1 16 rfl rfl)
theorem dX4_told_43 : decode cX4_told 43 = .ok (.iload_n 1, 1) := dk_27 (dk_at dksX4_told_1 19 rfl rfl)
theorem dX4_told_44 : decode cX4_told 44 = .ok (.iaload, 1) := dk_46 (dk_at dksX4_told_1 20 rfl rfl)
theorem dX4_told_45 : decode cX4_told 45 = .ok (.ireturn, 1) := dk_172 (dk_at dksX4_told_1 21 rfl rfl)
theorem dX4_told_46 : decode cX4_told 46 = .ok (.aload_n 0, 1) := dk_42 (dk_at dksX4_told_1 22 rfl rfl)
theorem dX4_told_47 : decode cX4_told 47 = .ok (.aload_n 0, 1) := dk_42 (dk_at dksX4_told_1 23 rfl rfl)
theorem dX4_told_48 : decode cX4_told 48 = .ok (.getfield 20, 3) := dk_180 0 20 (dk_at dksX4_told_2 0 rfl rfl)
theorem dX4_told_51 : decode cX4_told 51 = .ok (.iconst 0, 1) := dk_3 (dk_at dksX4_told_2 3 rfl rfl)
theorem dX4_told_52 : decode cX4_told 52 = .ok (.invokevirtual 255, 3) := dk_182 0 255 (dk_at dksX4_told_2 4 rfl rfl)
theorem dX4_told_55 : decode cX4_told 55 = .ok (.iload_n 1, 1) := dk_27 (dk_at dksX4_told_2 7 rfl rfl)
theorem dX4_told_56 : decode cX4_told 56 = .ok (.bipush 8, 2) := dk_16 8 (dk_at dksX4_told_2 8 rfl rfl)
theorem dX4_told_58 : decode cX4_told 58 = .ok (.if_icmp .ne 10, 3) := dk_160 0 10 (dk_at dksX4_told_2 10 rfl rfl)
theorem dX4_told_61 : decode cX4_told 61 = .ok (.aload_n 0, 1) := dk_42 (dk_at dksX4_told_2 13 rfl rfl)
theorem dX4_told_62 : decode cX4_told 62 = .ok (.getfield 228, 3) := dk_180 0 228 (dk_at dksX4_told_2 14 rfl rfl)
theorem dX4_told_65 : decode cX4_told 65 = .ok (.goto 20, 3) := dk_167 0 20 (dk_at dksX4_told_2 17 rfl rfl)
theorem dX4_told_68 : decode cX4_told 68 = .ok (.iload_n 1, 1) := dk_27 (dk_at dksX4_told_2 20 rfl rfl)
theorem dX4_told_69 : decode cX4_told 69 = .ok (.bipush 9, 2) := dk_16 9 (dk_at dksX4_told_2 21 rfl rfl)
theorem dX4_told_71 : decode cX4_told 71 = .ok (.if_icmp .ne 10, 3) := dk_160 0 10 (dk_at dksX4_told_3 0 rfl rfl)
theorem dX4_told_74 : decode cX4_told 74 = .ok (.aload_n 0, 1) := dk_42 (dk_at dksX4_told_3 3 rfl rfl)
theorem dX4_told_75 : decode cX4_told 75 = .ok (.getfield 51, 3) := dk_180 0 51 (dk_at dksX4_told_3 4 rfl rfl)
theorem dX4_told_78 : decode cX4_told 78 = .ok (.goto 7, 3) := dk_167 0 7 (dk_at dksX4_told_3 7 rfl rfl)
theorem dX4_told_81 : decode cX4_told 81 = .ok (.aload_n 0, 1) := dk_42 (dk_at dksX4_told_3 10 rfl rfl)
theorem dX4_told_82 : decode cX4_told 82 = .ok (.getfield 235, 3) := dk_180 0 235 (dk_at dksX4_told_3 11 rfl rfl)
theorem dX4_told_85 : decode cX4_told 85 = .ok (.ireturn, 1) := dk_172 (dk_at dksX4_told_3 14 rfl rfl)
abbrev cX4_voter : ByteArray := prog_12_method_59_code
def yX4_voter : MethodName := ⟨RX4, "voter", "(II)I"⟩
def dkwX4_voter_5 : List UInt8 := [21, 4, 46, 154, 0, 7, 4, 167, 0, 4, 3, 96, 62, 132, 4, 1, 167, 255, 210, 29, 172]
abbrev dktX4_voter_5 : List UInt8 := dkwX4_voter_5 ++ []
def dkwX4_voter_4 : List UInt8 := [162, 0, 43, 29, 42, 180, 0, 34, 21, 4, 46, 27, 160, 0, 22, 28, 5, 159, 0, 13, 42, 180, 0, 31]
abbrev dktX4_voter_4 : List UInt8 := dkwX4_voter_4 ++ dktX4_voter_5
def dkwX4_voter_3 : List UInt8 := [46, 172, 42, 42, 180, 0, 20, 3, 182, 0, 255, 3, 62, 3, 54, 4, 21, 4, 42, 182, 0, 218]
abbrev dktX4_voter_3 : List UInt8 := dkwX4_voter_3 ++ dktX4_voter_4
def dkwX4_voter_2 : List UInt8 := [182, 0, 204, 153, 0, 5, 3, 172, 28, 5, 162, 0, 16, 42, 180, 0, 20, 27, 4, 28, 96, 184, 0, 111]
abbrev dktX4_voter_2 : List UInt8 := dkwX4_voter_2 ++ dktX4_voter_3
def dkwX4_voter_1 : List UInt8 := [154, 0, 29, 42, 28, 133, 9, 20, 1, 25, 184, 0, 107, 154, 0, 7, 4, 167, 0, 4, 3, 5, 4]
abbrev dktX4_voter_1 : List UInt8 := dkwX4_voter_1 ++ dktX4_voter_2
def dkwX4_voter_0 : List UInt8 := [42, 3, 181, 0, 48, 42, 42, 27, 182, 1, 6, 154, 0, 7, 4, 167, 0, 4, 3, 4, 3, 182, 0, 204]
abbrev dktX4_voter_0 : List UInt8 := dkwX4_voter_0 ++ dktX4_voter_1
theorem dksX4_voter_0 : cX4_voter.data.toList.drop 0 = dktX4_voter_0 := by decide +kernel
theorem dksX4_voter_1 : cX4_voter.data.toList.drop 24 = dktX4_voter_1 := dk_seg dksX4_voter_0 24 rfl rfl
theorem dksX4_voter_2 : cX4_voter.data.toList.drop 47 = dktX4_voter_2 := dk_seg dksX4_voter_1 23 rfl rfl
theorem dksX4_voter_3 : cX4_voter.data.toList.drop 71 = dktX4_voter_3 := dk_seg dksX4_voter_2 24 rfl rfl
theorem dksX4_voter_4 : cX4_voter.data.toList.drop 93 = dktX4_voter_4 := dk_seg dksX4_voter_3 22 rfl rfl
theorem dksX4_voter_5 : cX4_voter.data.toList.drop 117 = dktX4_voter_5 := dk_seg dksX4_voter_4 24 rfl rfl
theorem dX4_voter_0 : decode cX4_voter 0 = .ok (.aload_n 0, 1) := dk_42 (dk_at dksX4_voter_0 0 rfl rfl)
theorem dX4_voter_1 : decode cX4_voter 1 = .ok (.iconst 0, 1) := dk_3 (dk_at dksX4_voter_0 1 rfl rfl)
theorem dX4_voter_2 : decode cX4_voter 2 = .ok (.putfield 48, 3) := dk_181 0 48 (dk_at dksX4_voter_0 2 rfl rfl)
theorem dX4_voter_5 : decode cX4_voter 5 = .ok (.aload_n 0, 1) := dk_42 (dk_at dksX4_voter_0 5 rfl rfl)
theorem dX4_voter_6 : decode cX4_voter 6 = .ok (.aload_n 0, 1) := dk_42 (dk_at dksX4_voter_0 6 rfl rfl)
theorem dX4_voter_7 : decode cX4_voter 7 = .ok (.iload_n 1, 1) := dk_27 (dk_at dksX4_voter_0 7 rfl rfl)
theorem dX4_voter_8 : decode cX4_voter 8 = .ok (.invokevirtual 262, 3) := dk_182 1 6 (dk_at dksX4_voter_0 8 rfl rfl)
theorem dX4_voter_11 : decode cX4_voter 11 = .ok (.ifCond .ne 7, 3) := dk_154 0 7 (dk_at dksX4_voter_0 11 rfl rfl)
theorem dX4_voter_14 : decode cX4_voter 14 = .ok (.iconst 1, 1) := dk_4 (dk_at dksX4_voter_0 14 rfl rfl)
theorem dX4_voter_15 : decode cX4_voter 15 = .ok (.goto 4, 3) := dk_167 0 4 (dk_at dksX4_voter_0 15 rfl rfl)
theorem dX4_voter_18 : decode cX4_voter 18 = .ok (.iconst 0, 1) := dk_3 (dk_at dksX4_voter_0 18 rfl rfl)
theorem dX4_voter_19 : decode cX4_voter 19 = .ok (.iconst 1, 1) := dk_4 (dk_at dksX4_voter_0 19 rfl rfl)
theorem dX4_voter_20 : decode cX4_voter 20 = .ok (.iconst 0, 1) := dk_3 (dk_at dksX4_voter_0 20 rfl rfl)
theorem dX4_voter_21 : decode cX4_voter 21 = .ok (.invokevirtual 204, 3) := dk_182 0 204 (dk_at dksX4_voter_0 21 rfl rfl)
theorem dX4_voter_24 : decode cX4_voter 24 = .ok (.ifCond .ne 29, 3) := dk_154 0 29 (dk_at dksX4_voter_1 0 rfl rfl)
theorem dX4_voter_27 : decode cX4_voter 27 = .ok (.aload_n 0, 1) := dk_42 (dk_at dksX4_voter_1 3 rfl rfl)
theorem dX4_voter_28 : decode cX4_voter 28 = .ok (.iload_n 2, 1) := dk_28 (dk_at dksX4_voter_1 4 rfl rfl)
theorem dX4_voter_29 : decode cX4_voter 29 = .ok (.i2l, 1) := dk_133 (dk_at dksX4_voter_1 5 rfl rfl)
theorem dX4_voter_30 : decode cX4_voter 30 = .ok (.lconst 0, 1) := dk_9 (dk_at dksX4_voter_1 6 rfl rfl)
theorem dX4_voter_31 : decode cX4_voter 31 = .ok (.ldc2_w 281, 3) := dk_20 1 25 (dk_at dksX4_voter_1 7 rfl rfl)
theorem dX4_voter_34 : decode cX4_voter 34 = .ok (.invokestatic 107, 3) := dk_184 0 107 (dk_at dksX4_voter_1 10 rfl rfl)
theorem dX4_voter_37 : decode cX4_voter 37 = .ok (.ifCond .ne 7, 3) := dk_154 0 7 (dk_at dksX4_voter_1 13 rfl rfl)
theorem dX4_voter_40 : decode cX4_voter 40 = .ok (.iconst 1, 1) := dk_4 (dk_at dksX4_voter_1 16 rfl rfl)
theorem dX4_voter_41 : decode cX4_voter 41 = .ok (.goto 4, 3) := dk_167 0 4 (dk_at dksX4_voter_1 17 rfl rfl)
theorem dX4_voter_44 : decode cX4_voter 44 = .ok (.iconst 0, 1) := dk_3 (dk_at dksX4_voter_1 20 rfl rfl)
theorem dX4_voter_45 : decode cX4_voter 45 = .ok (.iconst 2, 1) := dk_5 (dk_at dksX4_voter_1 21 rfl rfl)
theorem dX4_voter_46 : decode cX4_voter 46 = .ok (.iconst 1, 1) := dk_4 (dk_at dksX4_voter_1 22 rfl rfl)
theorem dX4_voter_47 : decode cX4_voter 47 = .ok (.invokevirtual 204, 3) := dk_182 0 204 (dk_at dksX4_voter_2 0 rfl rfl)
theorem dX4_voter_50 : decode cX4_voter 50 = .ok (.ifCond .eq 5, 3) := dk_153 0 5 (dk_at dksX4_voter_2 3 rfl rfl)
theorem dX4_voter_53 : decode cX4_voter 53 = .ok (.iconst 0, 1) := dk_3 (dk_at dksX4_voter_2 6 rfl rfl)
theorem dX4_voter_54 : decode cX4_voter 54 = .ok (.ireturn, 1) := dk_172 (dk_at dksX4_voter_2 7 rfl rfl)
theorem dX4_voter_55 : decode cX4_voter 55 = .ok (.iload_n 2, 1) := dk_28 (dk_at dksX4_voter_2 8 rfl rfl)
theorem dX4_voter_56 : decode cX4_voter 56 = .ok (.iconst 2, 1) := dk_5 (dk_at dksX4_voter_2 9 rfl rfl)
theorem dX4_voter_57 : decode cX4_voter 57 = .ok (.if_icmp .ge 16, 3) := dk_162 0 16 (dk_at dksX4_voter_2 10 rfl rfl)
theorem dX4_voter_60 : decode cX4_voter 60 = .ok (.aload_n 0, 1) := dk_42 (dk_at dksX4_voter_2 13 rfl rfl)
theorem dX4_voter_61 : decode cX4_voter 61 = .ok (.getfield 20, 3) := dk_180 0 20 (dk_at dksX4_voter_2 14 rfl rfl)
theorem dX4_voter_64 : decode cX4_voter 64 = .ok (.iload_n 1, 1) := dk_27 (dk_at dksX4_voter_2 17 rfl rfl)
theorem dX4_voter_65 : decode cX4_voter 65 = .ok (.iconst 1, 1) := dk_4 (dk_at dksX4_voter_2 18 rfl rfl)
theorem dX4_voter_66 : decode cX4_voter 66 = .ok (.iload_n 2, 1) := dk_28 (dk_at dksX4_voter_2 19 rfl rfl)
theorem dX4_voter_67 : decode cX4_voter 67 = .ok (.iadd, 1) := dk_96 (dk_at dksX4_voter_2 20 rfl rfl)
theorem dX4_voter_68 : decode cX4_voter 68 = .ok (.invokestatic 111, 3) := dk_184 0 111 (dk_at dksX4_voter_2 21 rfl rfl)
theorem dX4_voter_71 : decode cX4_voter 71 = .ok (.iaload, 1) := dk_46 (dk_at dksX4_voter_3 0 rfl rfl)
theorem dX4_voter_72 : decode cX4_voter 72 = .ok (.ireturn, 1) := dk_172 (dk_at dksX4_voter_3 1 rfl rfl)
theorem dX4_voter_73 : decode cX4_voter 73 = .ok (.aload_n 0, 1) := dk_42 (dk_at dksX4_voter_3 2 rfl rfl)
theorem dX4_voter_74 : decode cX4_voter 74 = .ok (.aload_n 0, 1) := dk_42 (dk_at dksX4_voter_3 3 rfl rfl)
theorem dX4_voter_75 : decode cX4_voter 75 = .ok (.getfield 20, 3) := dk_180 0 20 (dk_at dksX4_voter_3 4 rfl rfl)
theorem dX4_voter_78 : decode cX4_voter 78 = .ok (.iconst 0, 1) := dk_3 (dk_at dksX4_voter_3 7 rfl rfl)
theorem dX4_voter_79 : decode cX4_voter 79 = .ok (.invokevirtual 255, 3) := dk_182 0 255 (dk_at dksX4_voter_3 8 rfl rfl)
theorem dX4_voter_82 : decode cX4_voter 82 = .ok (.iconst 0, 1) := dk_3 (dk_at dksX4_voter_3 11 rfl rfl)
theorem dX4_voter_83 : decode cX4_voter 83 = .ok (.istore_n 3, 1) := dk_62 (dk_at dksX4_voter_3 12 rfl rfl)
theorem dX4_voter_84 : decode cX4_voter 84 = .ok (.iconst 0, 1) := dk_3 (dk_at dksX4_voter_3 13 rfl rfl)
theorem dX4_voter_85 : decode cX4_voter 85 = .ok (.istore 4, 2) := dk_54 4 (dk_at dksX4_voter_3 14 rfl rfl)
theorem dX4_voter_87 : decode cX4_voter 87 = .ok (.iload 4, 2) := dk_21 4 (dk_at dksX4_voter_3 16 rfl rfl)
theorem dX4_voter_89 : decode cX4_voter 89 = .ok (.aload_n 0, 1) := dk_42 (dk_at dksX4_voter_3 18 rfl rfl)
theorem dX4_voter_90 : decode cX4_voter 90 = .ok (.invokevirtual 218, 3) := dk_182 0 218 (dk_at dksX4_voter_3 19 rfl rfl)
theorem dX4_voter_93 : decode cX4_voter 93 = .ok (.if_icmp .ge 43, 3) := dk_162 0 43 (dk_at dksX4_voter_4 0 rfl rfl)
theorem dX4_voter_96 : decode cX4_voter 96 = .ok (.iload_n 3, 1) := dk_29 (dk_at dksX4_voter_4 3 rfl rfl)
theorem dX4_voter_97 : decode cX4_voter 97 = .ok (.aload_n 0, 1) := dk_42 (dk_at dksX4_voter_4 4 rfl rfl)
theorem dX4_voter_98 : decode cX4_voter 98 = .ok (.getfield 34, 3) := dk_180 0 34 (dk_at dksX4_voter_4 5 rfl rfl)
theorem dX4_voter_101 : decode cX4_voter 101 = .ok (.iload 4, 2) := dk_21 4 (dk_at dksX4_voter_4 8 rfl rfl)
theorem dX4_voter_103 : decode cX4_voter 103 = .ok (.iaload, 1) := dk_46 (dk_at dksX4_voter_4 10 rfl rfl)
theorem dX4_voter_104 : decode cX4_voter 104 = .ok (.iload_n 1, 1) := dk_27 (dk_at dksX4_voter_4 11 rfl rfl)
theorem dX4_voter_105 : decode cX4_voter 105 = .ok (.if_icmp .ne 22, 3) := dk_160 0 22 (dk_at dksX4_voter_4 12 rfl rfl)
theorem dX4_voter_108 : decode cX4_voter 108 = .ok (.iload_n 2, 1) := dk_28 (dk_at dksX4_voter_4 15 rfl rfl)
theorem dX4_voter_109 : decode cX4_voter 109 = .ok (.iconst 2, 1) := dk_5 (dk_at dksX4_voter_4 16 rfl rfl)
theorem dX4_voter_110 : decode cX4_voter 110 = .ok (.if_icmp .eq 13, 3) := dk_159 0 13 (dk_at dksX4_voter_4 17 rfl rfl)
theorem dX4_voter_113 : decode cX4_voter 113 = .ok (.aload_n 0, 1) := dk_42 (dk_at dksX4_voter_4 20 rfl rfl)
theorem dX4_voter_114 : decode cX4_voter 114 = .ok (.getfield 31, 3) := dk_180 0 31 (dk_at dksX4_voter_4 21 rfl rfl)
theorem dX4_voter_117 : decode cX4_voter 117 = .ok (.iload 4, 2) := dk_21 4 (dk_at dksX4_voter_5 0 rfl rfl)
theorem dX4_voter_119 : decode cX4_voter 119 = .ok (.iaload, 1) := dk_46 (dk_at dksX4_voter_5 2 rfl rfl)
theorem dX4_voter_120 : decode cX4_voter 120 = .ok (.ifCond .ne 7, 3) := dk_154 0 7 (dk_at dksX4_voter_5 3 rfl rfl)
theorem dX4_voter_123 : decode cX4_voter 123 = .ok (.iconst 1, 1) := dk_4 (dk_at dksX4_voter_5 6 rfl rfl)
theorem dX4_voter_124 : decode cX4_voter 124 = .ok (.goto 4, 3) := dk_167 0 4 (dk_at dksX4_voter_5 7 rfl rfl)
theorem dX4_voter_127 : decode cX4_voter 127 = .ok (.iconst 0, 1) := dk_3 (dk_at dksX4_voter_5 10 rfl rfl)
theorem dX4_voter_128 : decode cX4_voter 128 = .ok (.iadd, 1) := dk_96 (dk_at dksX4_voter_5 11 rfl rfl)
theorem dX4_voter_129 : decode cX4_voter 129 = .ok (.istore_n 3, 1) := dk_62 (dk_at dksX4_voter_5 12 rfl rfl)
theorem dX4_voter_130 : decode cX4_voter 130 = .ok (.iinc 4 1, 3) := dk_132 4 1 (dk_at dksX4_voter_5 13 rfl rfl)
theorem dX4_voter_133 : decode cX4_voter 133 = .ok (.goto (-46), 3) := dk_167 255 210 (dk_at dksX4_voter_5 16 rfl rfl)
theorem dX4_voter_136 : decode cX4_voter 136 = .ok (.iload_n 3, 1) := dk_29 (dk_at dksX4_voter_5 19 rfl rfl)
theorem dX4_voter_137 : decode cX4_voter 137 = .ok (.ireturn, 1) := dk_172 (dk_at dksX4_voter_5 20 rfl rfl)
abbrev cX4_letter : ByteArray := prog_12_method_60_code
def yX4_letter : MethodName := ⟨RX4, "letter", "(II)I"⟩
def dkwX4_letter_5 : List UInt8 := [16, 27, 112, 96, 172]
abbrev dktX4_letter_5 : List UInt8 := dkwX4_letter_5 ++ []
def dkwX4_letter_4 : List UInt8 := [100, 54, 5, 21, 5, 28, 164, 0, 14, 29, 16, 27, 108, 62, 132, 5, 255, 167, 255, 242, 16, 96, 29]
abbrev dktX4_letter_4 : List UInt8 := dkwX4_letter_4 ++ dktX4_letter_5
def dkwX4_letter_3 : List UInt8 := [184, 0, 107, 154, 0, 7, 4, 167, 0, 4, 3, 4, 3, 182, 0, 204, 153, 0, 5, 3, 172, 21, 4, 4]
abbrev dktX4_letter_3 : List UInt8 := dkwX4_letter_3 ++ dktX4_letter_4
def dkwX4_letter_2 : List UInt8 := [54, 5, 167, 255, 241, 42, 42, 27, 182, 1, 6, 153, 0, 17, 28, 133, 9, 21, 4, 4, 100, 133]
abbrev dktX4_letter_2 : List UInt8 := dkwX4_letter_2 ++ dktX4_letter_3
def dkwX4_letter_1 : List UInt8 := [167, 0, 4, 3, 62, 3, 54, 4, 29, 54, 5, 21, 5, 158, 0, 16, 132, 4, 1, 21, 5, 16, 27, 108]
abbrev dktX4_letter_1 : List UInt8 := dkwX4_letter_1 ++ dktX4_letter_2
def dkwX4_letter_0 : List UInt8 := [42, 3, 181, 0, 48, 42, 27, 182, 1, 6, 153, 0, 16, 42, 180, 0, 20, 27, 3, 184, 0, 111, 46]
abbrev dktX4_letter_0 : List UInt8 := dkwX4_letter_0 ++ dktX4_letter_1
theorem dksX4_letter_0 : cX4_letter.data.toList.drop 0 = dktX4_letter_0 := by decide +kernel
theorem dksX4_letter_1 : cX4_letter.data.toList.drop 23 = dktX4_letter_1 := dk_seg dksX4_letter_0 23 rfl rfl
theorem dksX4_letter_2 : cX4_letter.data.toList.drop 47 = dktX4_letter_2 := dk_seg dksX4_letter_1 24 rfl rfl
theorem dksX4_letter_3 : cX4_letter.data.toList.drop 69 = dktX4_letter_3 := dk_seg dksX4_letter_2 22 rfl rfl
theorem dksX4_letter_4 : cX4_letter.data.toList.drop 93 = dktX4_letter_4 := dk_seg dksX4_letter_3 24 rfl rfl
theorem dksX4_letter_5 : cX4_letter.data.toList.drop 116 = dktX4_letter_5 := dk_seg dksX4_letter_4 23 rfl rfl
theorem dX4_letter_0 : decode cX4_letter 0 = .ok (.aload_n 0, 1) := dk_42 (dk_at dksX4_letter_0 0 rfl rfl)
theorem dX4_letter_1 : decode cX4_letter 1 = .ok (.iconst 0, 1) := dk_3 (dk_at dksX4_letter_0 1 rfl rfl)
theorem dX4_letter_2 : decode cX4_letter 2 = .ok (.putfield 48, 3) := dk_181 0 48 (dk_at dksX4_letter_0 2 rfl rfl)
theorem dX4_letter_5 : decode cX4_letter 5 = .ok (.aload_n 0, 1) := dk_42 (dk_at dksX4_letter_0 5 rfl rfl)
theorem dX4_letter_6 : decode cX4_letter 6 = .ok (.iload_n 1, 1) := dk_27 (dk_at dksX4_letter_0 6 rfl rfl)
theorem dX4_letter_7 : decode cX4_letter 7 = .ok (.invokevirtual 262, 3) := dk_182 1 6 (dk_at dksX4_letter_0 7 rfl rfl)
theorem dX4_letter_10 : decode cX4_letter 10 = .ok (.ifCond .eq 16, 3) := dk_153 0 16 (dk_at dksX4_letter_0 10 rfl rfl)
theorem dX4_letter_13 : decode cX4_letter 13 = .ok (.aload_n 0, 1) := dk_42 (dk_at dksX4_letter_0 13 rfl rfl)
theorem dX4_letter_14 : decode cX4_letter 14 = .ok (.getfield 20, 3) := dk_180 0 20 (dk_at dksX4_letter_0 14 rfl rfl)
theorem dX4_letter_17 : decode cX4_letter 17 = .ok (.iload_n 1, 1) := dk_27 (dk_at dksX4_letter_0 17 rfl rfl)
theorem dX4_letter_18 : decode cX4_letter 18 = .ok (.iconst 0, 1) := dk_3 (dk_at dksX4_letter_0 18 rfl rfl)
theorem dX4_letter_19 : decode cX4_letter 19 = .ok (.invokestatic 111, 3) := dk_184 0 111 (dk_at dksX4_letter_0 19 rfl rfl)
theorem dX4_letter_22 : decode cX4_letter 22 = .ok (.iaload, 1) := dk_46 (dk_at dksX4_letter_0 22 rfl rfl)
theorem dX4_letter_23 : decode cX4_letter 23 = .ok (.goto 4, 3) := dk_167 0 4 (dk_at dksX4_letter_1 0 rfl rfl)
theorem dX4_letter_26 : decode cX4_letter 26 = .ok (.iconst 0, 1) := dk_3 (dk_at dksX4_letter_1 3 rfl rfl)
theorem dX4_letter_27 : decode cX4_letter 27 = .ok (.istore_n 3, 1) := dk_62 (dk_at dksX4_letter_1 4 rfl rfl)
theorem dX4_letter_28 : decode cX4_letter 28 = .ok (.iconst 0, 1) := dk_3 (dk_at dksX4_letter_1 5 rfl rfl)
theorem dX4_letter_29 : decode cX4_letter 29 = .ok (.istore 4, 2) := dk_54 4 (dk_at dksX4_letter_1 6 rfl rfl)
theorem dX4_letter_31 : decode cX4_letter 31 = .ok (.iload_n 3, 1) := dk_29 (dk_at dksX4_letter_1 8 rfl rfl)
theorem dX4_letter_32 : decode cX4_letter 32 = .ok (.istore 5, 2) := dk_54 5 (dk_at dksX4_letter_1 9 rfl rfl)
theorem dX4_letter_34 : decode cX4_letter 34 = .ok (.iload 5, 2) := dk_21 5 (dk_at dksX4_letter_1 11 rfl rfl)
theorem dX4_letter_36 : decode cX4_letter 36 = .ok (.ifCond .le 16, 3) := dk_158 0 16 (dk_at dksX4_letter_1 13 rfl rfl)
theorem dX4_letter_39 : decode cX4_letter 39 = .ok (.iinc 4 1, 3) := dk_132 4 1 (dk_at dksX4_letter_1 16 rfl rfl)
theorem dX4_letter_42 : decode cX4_letter 42 = .ok (.iload 5, 2) := dk_21 5 (dk_at dksX4_letter_1 19 rfl rfl)
theorem dX4_letter_44 : decode cX4_letter 44 = .ok (.bipush 27, 2) := dk_16 27 (dk_at dksX4_letter_1 21 rfl rfl)
theorem dX4_letter_46 : decode cX4_letter 46 = .ok (.idiv, 1) := dk_108 (dk_at dksX4_letter_1 23 rfl rfl)
theorem dX4_letter_47 : decode cX4_letter 47 = .ok (.istore 5, 2) := dk_54 5 (dk_at dksX4_letter_2 0 rfl rfl)
theorem dX4_letter_49 : decode cX4_letter 49 = .ok (.goto (-15), 3) := dk_167 255 241 (dk_at dksX4_letter_2 2 rfl rfl)
theorem dX4_letter_52 : decode cX4_letter 52 = .ok (.aload_n 0, 1) := dk_42 (dk_at dksX4_letter_2 5 rfl rfl)
theorem dX4_letter_53 : decode cX4_letter 53 = .ok (.aload_n 0, 1) := dk_42 (dk_at dksX4_letter_2 6 rfl rfl)
theorem dX4_letter_54 : decode cX4_letter 54 = .ok (.iload_n 1, 1) := dk_27 (dk_at dksX4_letter_2 7 rfl rfl)
theorem dX4_letter_55 : decode cX4_letter 55 = .ok (.invokevirtual 262, 3) := dk_182 1 6 (dk_at dksX4_letter_2 8 rfl rfl)
theorem dX4_letter_58 : decode cX4_letter 58 = .ok (.ifCond .eq 17, 3) := dk_153 0 17 (dk_at dksX4_letter_2 11 rfl rfl)
theorem dX4_letter_61 : decode cX4_letter 61 = .ok (.iload_n 2, 1) := dk_28 (dk_at dksX4_letter_2 14 rfl rfl)
theorem dX4_letter_62 : decode cX4_letter 62 = .ok (.i2l, 1) := dk_133 (dk_at dksX4_letter_2 15 rfl rfl)
theorem dX4_letter_63 : decode cX4_letter 63 = .ok (.lconst 0, 1) := dk_9 (dk_at dksX4_letter_2 16 rfl rfl)
theorem dX4_letter_64 : decode cX4_letter 64 = .ok (.iload 4, 2) := dk_21 4 (dk_at dksX4_letter_2 17 rfl rfl)
theorem dX4_letter_66 : decode cX4_letter 66 = .ok (.iconst 1, 1) := dk_4 (dk_at dksX4_letter_2 19 rfl rfl)
theorem dX4_letter_67 : decode cX4_letter 67 = .ok (.isub, 1) := dk_100 (dk_at dksX4_letter_2 20 rfl rfl)
theorem dX4_letter_68 : decode cX4_letter 68 = .ok (.i2l, 1) := dk_133 (dk_at dksX4_letter_2 21 rfl rfl)
theorem dX4_letter_69 : decode cX4_letter 69 = .ok (.invokestatic 107, 3) := dk_184 0 107 (dk_at dksX4_letter_3 0 rfl rfl)
theorem dX4_letter_72 : decode cX4_letter 72 = .ok (.ifCond .ne 7, 3) := dk_154 0 7 (dk_at dksX4_letter_3 3 rfl rfl)
theorem dX4_letter_75 : decode cX4_letter 75 = .ok (.iconst 1, 1) := dk_4 (dk_at dksX4_letter_3 6 rfl rfl)
theorem dX4_letter_76 : decode cX4_letter 76 = .ok (.goto 4, 3) := dk_167 0 4 (dk_at dksX4_letter_3 7 rfl rfl)
theorem dX4_letter_79 : decode cX4_letter 79 = .ok (.iconst 0, 1) := dk_3 (dk_at dksX4_letter_3 10 rfl rfl)
theorem dX4_letter_80 : decode cX4_letter 80 = .ok (.iconst 1, 1) := dk_4 (dk_at dksX4_letter_3 11 rfl rfl)
theorem dX4_letter_81 : decode cX4_letter 81 = .ok (.iconst 0, 1) := dk_3 (dk_at dksX4_letter_3 12 rfl rfl)
theorem dX4_letter_82 : decode cX4_letter 82 = .ok (.invokevirtual 204, 3) := dk_182 0 204 (dk_at dksX4_letter_3 13 rfl rfl)
theorem dX4_letter_85 : decode cX4_letter 85 = .ok (.ifCond .eq 5, 3) := dk_153 0 5 (dk_at dksX4_letter_3 16 rfl rfl)
theorem dX4_letter_88 : decode cX4_letter 88 = .ok (.iconst 0, 1) := dk_3 (dk_at dksX4_letter_3 19 rfl rfl)
theorem dX4_letter_89 : decode cX4_letter 89 = .ok (.ireturn, 1) := dk_172 (dk_at dksX4_letter_3 20 rfl rfl)
theorem dX4_letter_90 : decode cX4_letter 90 = .ok (.iload 4, 2) := dk_21 4 (dk_at dksX4_letter_3 21 rfl rfl)
theorem dX4_letter_92 : decode cX4_letter 92 = .ok (.iconst 1, 1) := dk_4 (dk_at dksX4_letter_3 23 rfl rfl)
theorem dX4_letter_93 : decode cX4_letter 93 = .ok (.isub, 1) := dk_100 (dk_at dksX4_letter_4 0 rfl rfl)
theorem dX4_letter_94 : decode cX4_letter 94 = .ok (.istore 5, 2) := dk_54 5 (dk_at dksX4_letter_4 1 rfl rfl)
theorem dX4_letter_96 : decode cX4_letter 96 = .ok (.iload 5, 2) := dk_21 5 (dk_at dksX4_letter_4 3 rfl rfl)
theorem dX4_letter_98 : decode cX4_letter 98 = .ok (.iload_n 2, 1) := dk_28 (dk_at dksX4_letter_4 5 rfl rfl)
theorem dX4_letter_99 : decode cX4_letter 99 = .ok (.if_icmp .le 14, 3) := dk_164 0 14 (dk_at dksX4_letter_4 6 rfl rfl)
theorem dX4_letter_102 : decode cX4_letter 102 = .ok (.iload_n 3, 1) := dk_29 (dk_at dksX4_letter_4 9 rfl rfl)
theorem dX4_letter_103 : decode cX4_letter 103 = .ok (.bipush 27, 2) := dk_16 27 (dk_at dksX4_letter_4 10 rfl rfl)
theorem dX4_letter_105 : decode cX4_letter 105 = .ok (.idiv, 1) := dk_108 (dk_at dksX4_letter_4 12 rfl rfl)
theorem dX4_letter_106 : decode cX4_letter 106 = .ok (.istore_n 3, 1) := dk_62 (dk_at dksX4_letter_4 13 rfl rfl)
theorem dX4_letter_107 : decode cX4_letter 107 = .ok (.iinc 5 (-1), 3) := dk_132 5 255 (dk_at dksX4_letter_4 14 rfl rfl)
theorem dX4_letter_110 : decode cX4_letter 110 = .ok (.goto (-14), 3) := dk_167 255 242 (dk_at dksX4_letter_4 17 rfl rfl)
theorem dX4_letter_113 : decode cX4_letter 113 = .ok (.bipush 96, 2) := dk_16 96 (dk_at dksX4_letter_4 20 rfl rfl)
theorem dX4_letter_115 : decode cX4_letter 115 = .ok (.iload_n 3, 1) := dk_29 (dk_at dksX4_letter_4 22 rfl rfl)
theorem dX4_letter_116 : decode cX4_letter 116 = .ok (.bipush 27, 2) := dk_16 27 (dk_at dksX4_letter_5 0 rfl rfl)
theorem dX4_letter_118 : decode cX4_letter 118 = .ok (.irem, 1) := dk_112 (dk_at dksX4_letter_5 2 rfl rfl)
theorem dX4_letter_119 : decode cX4_letter 119 = .ok (.iadd, 1) := dk_96 (dk_at dksX4_letter_5 3 rfl rfl)
theorem dX4_letter_120 : decode cX4_letter 120 = .ok (.ireturn, 1) := dk_172 (dk_at dksX4_letter_5 4 rfl rfl)
abbrev cX4_sheet : ByteArray := prog_12_method_61_code
def yX4_sheet : MethodName := ⟨RX4, "sheet", "(II)I"⟩
def dkwX4_sheet_6 : List UInt8 := [21, 4, 46, 28, 6, 100, 160, 0, 7, 4, 167, 0, 4, 3, 96, 62, 132, 4, 1, 167, 255, 208, 29, 172]
abbrev dktX4_sheet_6 : List UInt8 := dkwX4_sheet_6 ++ []
def dkwX4_sheet_5 : List UInt8 := [162, 0, 45, 29, 42, 180, 0, 20, 21, 4, 5, 184, 0, 124, 46, 27, 160, 0, 20, 42, 180, 0, 31]
abbrev dktX4_sheet_5 : List UInt8 := dkwX4_sheet_5 ++ dktX4_sheet_6
def dkwX4_sheet_4 : List UInt8 := [167, 0, 12, 42, 180, 0, 20, 16, 57, 27, 96, 46, 172, 3, 62, 3, 54, 4, 21, 4, 42, 182, 0, 218]
abbrev dktX4_sheet_4 : List UInt8 := dkwX4_sheet_4 ++ dktX4_sheet_5
def dkwX4_sheet_3 : List UInt8 := [154, 0, 11, 42, 27, 182, 0, 241, 167, 0, 28, 28, 4, 160, 0, 14, 42, 180, 0, 228, 27, 122, 4, 126]
abbrev dktX4_sheet_3 : List UInt8 := dkwX4_sheet_3 ++ dktX4_sheet_4
def dkwX4_sheet_2 : List UInt8 := [182, 0, 204, 153, 0, 5, 3, 172, 42, 42, 180, 0, 20, 3, 182, 0, 255, 28, 6, 162, 0, 41, 28]
abbrev dktX4_sheet_2 : List UInt8 := dkwX4_sheet_2 ++ dktX4_sheet_3
def dkwX4_sheet_1 : List UInt8 := [154, 0, 29, 42, 28, 133, 9, 20, 1, 27, 184, 0, 107, 154, 0, 7, 4, 167, 0, 4, 3, 5, 4]
abbrev dktX4_sheet_1 : List UInt8 := dkwX4_sheet_1 ++ dktX4_sheet_2
def dkwX4_sheet_0 : List UInt8 := [42, 3, 181, 0, 48, 42, 42, 27, 182, 0, 238, 154, 0, 7, 4, 167, 0, 4, 3, 4, 3, 182, 0, 204]
abbrev dktX4_sheet_0 : List UInt8 := dkwX4_sheet_0 ++ dktX4_sheet_1
theorem dksX4_sheet_0 : cX4_sheet.data.toList.drop 0 = dktX4_sheet_0 := by decide +kernel
theorem dksX4_sheet_1 : cX4_sheet.data.toList.drop 24 = dktX4_sheet_1 := dk_seg dksX4_sheet_0 24 rfl rfl
theorem dksX4_sheet_2 : cX4_sheet.data.toList.drop 47 = dktX4_sheet_2 := dk_seg dksX4_sheet_1 23 rfl rfl
theorem dksX4_sheet_3 : cX4_sheet.data.toList.drop 70 = dktX4_sheet_3 := dk_seg dksX4_sheet_2 23 rfl rfl
theorem dksX4_sheet_4 : cX4_sheet.data.toList.drop 94 = dktX4_sheet_4 := dk_seg dksX4_sheet_3 24 rfl rfl
theorem dksX4_sheet_5 : cX4_sheet.data.toList.drop 118 = dktX4_sheet_5 := dk_seg dksX4_sheet_4 24 rfl rfl
theorem dksX4_sheet_6 : cX4_sheet.data.toList.drop 141 = dktX4_sheet_6 := dk_seg dksX4_sheet_5 23 rfl rfl
theorem dX4_sheet_0 : decode cX4_sheet 0 = .ok (.aload_n 0, 1) := dk_42 (dk_at dksX4_sheet_0 0 rfl rfl)
theorem dX4_sheet_1 : decode cX4_sheet 1 = .ok (.iconst 0, 1) := dk_3 (dk_at dksX4_sheet_0 1 rfl rfl)
theorem dX4_sheet_2 : decode cX4_sheet 2 = .ok (.putfield 48, 3) := dk_181 0 48 (dk_at dksX4_sheet_0 2 rfl rfl)
theorem dX4_sheet_5 : decode cX4_sheet 5 = .ok (.aload_n 0, 1) := dk_42 (dk_at dksX4_sheet_0 5 rfl rfl)
theorem dX4_sheet_6 : decode cX4_sheet 6 = .ok (.aload_n 0, 1) := dk_42 (dk_at dksX4_sheet_0 6 rfl rfl)
theorem dX4_sheet_7 : decode cX4_sheet 7 = .ok (.iload_n 1, 1) := dk_27 (dk_at dksX4_sheet_0 7 rfl rfl)
theorem dX4_sheet_8 : decode cX4_sheet 8 = .ok (.invokevirtual 238, 3) := dk_182 0 238 (dk_at dksX4_sheet_0 8 rfl rfl)
theorem dX4_sheet_11 : decode cX4_sheet 11 = .ok (.ifCond .ne 7, 3) := dk_154 0 7 (dk_at dksX4_sheet_0 11 rfl rfl)
theorem dX4_sheet_14 : decode cX4_sheet 14 = .ok (.iconst 1, 1) := dk_4 (dk_at dksX4_sheet_0 14 rfl rfl)
theorem dX4_sheet_15 : decode cX4_sheet 15 = .ok (.goto 4, 3) := dk_167 0 4 (dk_at dksX4_sheet_0 15 rfl rfl)
theorem dX4_sheet_18 : decode cX4_sheet 18 = .ok (.iconst 0, 1) := dk_3 (dk_at dksX4_sheet_0 18 rfl rfl)
theorem dX4_sheet_19 : decode cX4_sheet 19 = .ok (.iconst 1, 1) := dk_4 (dk_at dksX4_sheet_0 19 rfl rfl)
theorem dX4_sheet_20 : decode cX4_sheet 20 = .ok (.iconst 0, 1) := dk_3 (dk_at dksX4_sheet_0 20 rfl rfl)
theorem dX4_sheet_21 : decode cX4_sheet 21 = .ok (.invokevirtual 204, 3) := dk_182 0 204 (dk_at dksX4_sheet_0 21 rfl rfl)
theorem dX4_sheet_24 : decode cX4_sheet 24 = .ok (.ifCond .ne 29, 3) := dk_154 0 29 (dk_at dksX4_sheet_1 0 rfl rfl)
theorem dX4_sheet_27 : decode cX4_sheet 27 = .ok (.aload_n 0, 1) := dk_42 (dk_at dksX4_sheet_1 3 rfl rfl)
theorem dX4_sheet_28 : decode cX4_sheet 28 = .ok (.iload_n 2, 1) := dk_28 (dk_at dksX4_sheet_1 4 rfl rfl)
theorem dX4_sheet_29 : decode cX4_sheet 29 = .ok (.i2l, 1) := dk_133 (dk_at dksX4_sheet_1 5 rfl rfl)
theorem dX4_sheet_30 : decode cX4_sheet 30 = .ok (.lconst 0, 1) := dk_9 (dk_at dksX4_sheet_1 6 rfl rfl)
theorem dX4_sheet_31 : decode cX4_sheet 31 = .ok (.ldc2_w 283, 3) := dk_20 1 27 (dk_at dksX4_sheet_1 7 rfl rfl)
theorem dX4_sheet_34 : decode cX4_sheet 34 = .ok (.invokestatic 107, 3) := dk_184 0 107 (dk_at dksX4_sheet_1 10 rfl rfl)
theorem dX4_sheet_37 : decode cX4_sheet 37 = .ok (.ifCond .ne 7, 3) := dk_154 0 7 (dk_at dksX4_sheet_1 13 rfl rfl)
theorem dX4_sheet_40 : decode cX4_sheet 40 = .ok (.iconst 1, 1) := dk_4 (dk_at dksX4_sheet_1 16 rfl rfl)
theorem dX4_sheet_41 : decode cX4_sheet 41 = .ok (.goto 4, 3) := dk_167 0 4 (dk_at dksX4_sheet_1 17 rfl rfl)
theorem dX4_sheet_44 : decode cX4_sheet 44 = .ok (.iconst 0, 1) := dk_3 (dk_at dksX4_sheet_1 20 rfl rfl)
theorem dX4_sheet_45 : decode cX4_sheet 45 = .ok (.iconst 2, 1) := dk_5 (dk_at dksX4_sheet_1 21 rfl rfl)
theorem dX4_sheet_46 : decode cX4_sheet 46 = .ok (.iconst 1, 1) := dk_4 (dk_at dksX4_sheet_1 22 rfl rfl)
theorem dX4_sheet_47 : decode cX4_sheet 47 = .ok (.invokevirtual 204, 3) := dk_182 0 204 (dk_at dksX4_sheet_2 0 rfl rfl)
theorem dX4_sheet_50 : decode cX4_sheet 50 = .ok (.ifCond .eq 5, 3) := dk_153 0 5 (dk_at dksX4_sheet_2 3 rfl rfl)
theorem dX4_sheet_53 : decode cX4_sheet 53 = .ok (.iconst 0, 1) := dk_3 (dk_at dksX4_sheet_2 6 rfl rfl)
theorem dX4_sheet_54 : decode cX4_sheet 54 = .ok (.ireturn, 1) := dk_172 (dk_at dksX4_sheet_2 7 rfl rfl)
theorem dX4_sheet_55 : decode cX4_sheet 55 = .ok (.aload_n 0, 1) := dk_42 (dk_at dksX4_sheet_2 8 rfl rfl)
theorem dX4_sheet_56 : decode cX4_sheet 56 = .ok (.aload_n 0, 1) := dk_42 (dk_at dksX4_sheet_2 9 rfl rfl)
theorem dX4_sheet_57 : decode cX4_sheet 57 = .ok (.getfield 20, 3) := dk_180 0 20 (dk_at dksX4_sheet_2 10 rfl rfl)
theorem dX4_sheet_60 : decode cX4_sheet 60 = .ok (.iconst 0, 1) := dk_3 (dk_at dksX4_sheet_2 13 rfl rfl)
theorem dX4_sheet_61 : decode cX4_sheet 61 = .ok (.invokevirtual 255, 3) := dk_182 0 255 (dk_at dksX4_sheet_2 14 rfl rfl)
theorem dX4_sheet_64 : decode cX4_sheet 64 = .ok (.iload_n 2, 1) := dk_28 (dk_at dksX4_sheet_2 17 rfl rfl)
theorem dX4_sheet_65 : decode cX4_sheet 65 = .ok (.iconst 3, 1) := dk_6 (dk_at dksX4_sheet_2 18 rfl rfl)
theorem dX4_sheet_66 : decode cX4_sheet 66 = .ok (.if_icmp .ge 41, 3) := dk_162 0 41 (dk_at dksX4_sheet_2 19 rfl rfl)
theorem dX4_sheet_69 : decode cX4_sheet 69 = .ok (.iload_n 2, 1) := dk_28 (dk_at dksX4_sheet_2 22 rfl rfl)
theorem dX4_sheet_70 : decode cX4_sheet 70 = .ok (.ifCond .ne 11, 3) := dk_154 0 11 (dk_at dksX4_sheet_3 0 rfl rfl)
theorem dX4_sheet_73 : decode cX4_sheet 73 = .ok (.aload_n 0, 1) := dk_42 (dk_at dksX4_sheet_3 3 rfl rfl)
theorem dX4_sheet_74 : decode cX4_sheet 74 = .ok (.iload_n 1, 1) := dk_27 (dk_at dksX4_sheet_3 4 rfl rfl)
theorem dX4_sheet_75 : decode cX4_sheet 75 = .ok (.invokevirtual 241, 3) := dk_182 0 241 (dk_at dksX4_sheet_3 5 rfl rfl)
theorem dX4_sheet_78 : decode cX4_sheet 78 = .ok (.goto 28, 3) := dk_167 0 28 (dk_at dksX4_sheet_3 8 rfl rfl)
theorem dX4_sheet_81 : decode cX4_sheet 81 = .ok (.iload_n 2, 1) := dk_28 (dk_at dksX4_sheet_3 11 rfl rfl)
theorem dX4_sheet_82 : decode cX4_sheet 82 = .ok (.iconst 1, 1) := dk_4 (dk_at dksX4_sheet_3 12 rfl rfl)
theorem dX4_sheet_83 : decode cX4_sheet 83 = .ok (.if_icmp .ne 14, 3) := dk_160 0 14 (dk_at dksX4_sheet_3 13 rfl rfl)
theorem dX4_sheet_86 : decode cX4_sheet 86 = .ok (.aload_n 0, 1) := dk_42 (dk_at dksX4_sheet_3 16 rfl rfl)
theorem dX4_sheet_87 : decode cX4_sheet 87 = .ok (.getfield 228, 3) := dk_180 0 228 (dk_at dksX4_sheet_3 17 rfl rfl)
theorem dX4_sheet_90 : decode cX4_sheet 90 = .ok (.iload_n 1, 1) := dk_27 (dk_at dksX4_sheet_3 20 rfl rfl)
theorem dX4_sheet_91 : decode cX4_sheet 91 = .ok (.ishr, 1) := dk_122 (dk_at dksX4_sheet_3 21 rfl rfl)
theorem dX4_sheet_92 : decode cX4_sheet 92 = .ok (.iconst 1, 1) := dk_4 (dk_at dksX4_sheet_3 22 rfl rfl)
theorem dX4_sheet_93 : decode cX4_sheet 93 = .ok (.iand, 1) := dk_126 (dk_at dksX4_sheet_3 23 rfl rfl)
theorem dX4_sheet_94 : decode cX4_sheet 94 = .ok (.goto 12, 3) := dk_167 0 12 (dk_at dksX4_sheet_4 0 rfl rfl)
theorem dX4_sheet_97 : decode cX4_sheet 97 = .ok (.aload_n 0, 1) := dk_42 (dk_at dksX4_sheet_4 3 rfl rfl)
theorem dX4_sheet_98 : decode cX4_sheet 98 = .ok (.getfield 20, 3) := dk_180 0 20 (dk_at dksX4_sheet_4 4 rfl rfl)
theorem dX4_sheet_101 : decode cX4_sheet 101 = .ok (.bipush 57, 2) := dk_16 57 (dk_at dksX4_sheet_4 7 rfl rfl)
theorem dX4_sheet_103 : decode cX4_sheet 103 = .ok (.iload_n 1, 1) := dk_27 (dk_at dksX4_sheet_4 9 rfl rfl)
theorem dX4_sheet_104 : decode cX4_sheet 104 = .ok (.iadd, 1) := dk_96 (dk_at dksX4_sheet_4 10 rfl rfl)
theorem dX4_sheet_105 : decode cX4_sheet 105 = .ok (.iaload, 1) := dk_46 (dk_at dksX4_sheet_4 11 rfl rfl)
theorem dX4_sheet_106 : decode cX4_sheet 106 = .ok (.ireturn, 1) := dk_172 (dk_at dksX4_sheet_4 12 rfl rfl)
theorem dX4_sheet_107 : decode cX4_sheet 107 = .ok (.iconst 0, 1) := dk_3 (dk_at dksX4_sheet_4 13 rfl rfl)
theorem dX4_sheet_108 : decode cX4_sheet 108 = .ok (.istore_n 3, 1) := dk_62 (dk_at dksX4_sheet_4 14 rfl rfl)
theorem dX4_sheet_109 : decode cX4_sheet 109 = .ok (.iconst 0, 1) := dk_3 (dk_at dksX4_sheet_4 15 rfl rfl)
theorem dX4_sheet_110 : decode cX4_sheet 110 = .ok (.istore 4, 2) := dk_54 4 (dk_at dksX4_sheet_4 16 rfl rfl)
theorem dX4_sheet_112 : decode cX4_sheet 112 = .ok (.iload 4, 2) := dk_21 4 (dk_at dksX4_sheet_4 18 rfl rfl)
theorem dX4_sheet_114 : decode cX4_sheet 114 = .ok (.aload_n 0, 1) := dk_42 (dk_at dksX4_sheet_4 20 rfl rfl)
theorem dX4_sheet_115 : decode cX4_sheet 115 = .ok (.invokevirtual 218, 3) := dk_182 0 218 (dk_at dksX4_sheet_4 21 rfl rfl)
theorem dX4_sheet_118 : decode cX4_sheet 118 = .ok (.if_icmp .ge 45, 3) := dk_162 0 45 (dk_at dksX4_sheet_5 0 rfl rfl)
theorem dX4_sheet_121 : decode cX4_sheet 121 = .ok (.iload_n 3, 1) := dk_29 (dk_at dksX4_sheet_5 3 rfl rfl)
theorem dX4_sheet_122 : decode cX4_sheet 122 = .ok (.aload_n 0, 1) := dk_42 (dk_at dksX4_sheet_5 4 rfl rfl)
theorem dX4_sheet_123 : decode cX4_sheet 123 = .ok (.getfield 20, 3) := dk_180 0 20 (dk_at dksX4_sheet_5 5 rfl rfl)
theorem dX4_sheet_126 : decode cX4_sheet 126 = .ok (.iload 4, 2) := dk_21 4 (dk_at dksX4_sheet_5 8 rfl rfl)
theorem dX4_sheet_128 : decode cX4_sheet 128 = .ok (.iconst 2, 1) := dk_5 (dk_at dksX4_sheet_5 10 rfl rfl)
theorem dX4_sheet_129 : decode cX4_sheet 129 = .ok (.invokestatic 124, 3) := dk_184 0 124 (dk_at dksX4_sheet_5 11 rfl rfl)
theorem dX4_sheet_132 : decode cX4_sheet 132 = .ok (.iaload, 1) := dk_46 (dk_at dksX4_sheet_5 14 rfl rfl)
theorem dX4_sheet_133 : decode cX4_sheet 133 = .ok (.iload_n 1, 1) := dk_27 (dk_at dksX4_sheet_5 15 rfl rfl)
theorem dX4_sheet_134 : decode cX4_sheet 134 = .ok (.if_icmp .ne 20, 3) := dk_160 0 20 (dk_at dksX4_sheet_5 16 rfl rfl)
theorem dX4_sheet_137 : decode cX4_sheet 137 = .ok (.aload_n 0, 1) := dk_42 (dk_at dksX4_sheet_5 19 rfl rfl)
theorem dX4_sheet_138 : decode cX4_sheet 138 = .ok (.getfield 31, 3) := dk_180 0 31 (dk_at dksX4_sheet_5 20 rfl rfl)
theorem dX4_sheet_141 : decode cX4_sheet 141 = .ok (.iload 4, 2) := dk_21 4 (dk_at dksX4_sheet_6 0 rfl rfl)
theorem dX4_sheet_143 : decode cX4_sheet 143 = .ok (.iaload, 1) := dk_46 (dk_at dksX4_sheet_6 2 rfl rfl)
theorem dX4_sheet_144 : decode cX4_sheet 144 = .ok (.iload_n 2, 1) := dk_28 (dk_at dksX4_sheet_6 3 rfl rfl)
theorem dX4_sheet_145 : decode cX4_sheet 145 = .ok (.iconst 3, 1) := dk_6 (dk_at dksX4_sheet_6 4 rfl rfl)
theorem dX4_sheet_146 : decode cX4_sheet 146 = .ok (.isub, 1) := dk_100 (dk_at dksX4_sheet_6 5 rfl rfl)
theorem dX4_sheet_147 : decode cX4_sheet 147 = .ok (.if_icmp .ne 7, 3) := dk_160 0 7 (dk_at dksX4_sheet_6 6 rfl rfl)
theorem dX4_sheet_150 : decode cX4_sheet 150 = .ok (.iconst 1, 1) := dk_4 (dk_at dksX4_sheet_6 9 rfl rfl)
theorem dX4_sheet_151 : decode cX4_sheet 151 = .ok (.goto 4, 3) := dk_167 0 4 (dk_at dksX4_sheet_6 10 rfl rfl)
theorem dX4_sheet_154 : decode cX4_sheet 154 = .ok (.iconst 0, 1) := dk_3 (dk_at dksX4_sheet_6 13 rfl rfl)
theorem dX4_sheet_155 : decode cX4_sheet 155 = .ok (.iadd, 1) := dk_96 (dk_at dksX4_sheet_6 14 rfl rfl)
theorem dX4_sheet_156 : decode cX4_sheet 156 = .ok (.istore_n 3, 1) := dk_62 (dk_at dksX4_sheet_6 15 rfl rfl)
theorem dX4_sheet_157 : decode cX4_sheet 157 = .ok (.iinc 4 1, 3) := dk_132 4 1 (dk_at dksX4_sheet_6 16 rfl rfl)
theorem dX4_sheet_160 : decode cX4_sheet 160 = .ok (.goto (-48), 3) := dk_167 255 208 (dk_at dksX4_sheet_6 19 rfl rfl)
theorem dX4_sheet_163 : decode cX4_sheet 163 = .ok (.iload_n 3, 1) := dk_29 (dk_at dksX4_sheet_6 22 rfl rfl)
theorem dX4_sheet_164 : decode cX4_sheet 164 = .ok (.ireturn, 1) := dk_172 (dk_at dksX4_sheet_6 23 rfl rfl)
abbrev cX4_line : ByteArray := prog_12_method_62_code
def yX4_line : MethodName := ⟨RX4, "line", "(III)I"⟩
def dkwX4_line_7 : List UInt8 := [182, 0, 244, 153, 0, 7, 4, 167, 0, 4, 3, 172]
abbrev dktX4_line_7 : List UInt8 := dkwX4_line_7 ++ []
def dkwX4_line_6 : List UInt8 := [42, 180, 0, 34, 21, 4, 46, 172, 42, 180, 0, 31, 21, 4, 46, 172, 42, 29, 7, 100, 21, 4]
abbrev dktX4_line_6 : List UInt8 := dkwX4_line_6 ++ dktX4_line_7
def dkwX4_line_5 : List UInt8 := [42, 180, 0, 20, 21, 4, 4, 184, 0, 124, 46, 172, 42, 180, 0, 20, 21, 4, 6, 184, 0, 124, 46, 172]
abbrev dktX4_line_5 : List UInt8 := dkwX4_line_5 ++ dktX4_line_6
def dkwX4_line_4 : List UInt8 := [170, 0, 0, 0, 0, 70, 0, 0, 0, 0, 0, 0, 0, 3, 0, 0, 0, 30, 0, 0, 0, 42, 0, 0, 0, 54, 0, 0, 0, 62]
abbrev dktX4_line_4 : List UInt8 := dkwX4_line_4 ++ dktX4_line_5
def dkwX4_line_3 : List UInt8 := [182, 1, 11, 54, 4, 29]
abbrev dktX4_line_3 : List UInt8 := dkwX4_line_3 ++ dktX4_line_4
def dkwX4_line_2 : List UInt8 := [5, 4, 182, 0, 204, 153, 0, 5, 3, 172, 42, 42, 180, 0, 20, 3, 182, 0, 255, 42, 27, 28]
abbrev dktX4_line_2 : List UInt8 := dkwX4_line_2 ++ dktX4_line_3
def dkwX4_line_1 : List UInt8 := [182, 0, 204, 154, 0, 29, 42, 29, 133, 9, 20, 1, 29, 184, 0, 107, 154, 0, 7, 4, 167, 0, 4, 3]
abbrev dktX4_line_1 : List UInt8 := dkwX4_line_1 ++ dktX4_line_2
def dkwX4_line_0 : List UInt8 := [42, 3, 181, 0, 48, 42, 42, 27, 28, 182, 1, 20, 154, 0, 7, 4, 167, 0, 4, 3, 4, 3]
abbrev dktX4_line_0 : List UInt8 := dkwX4_line_0 ++ dktX4_line_1
theorem dksX4_line_0 : cX4_line.data.toList.drop 0 = dktX4_line_0 := by decide +kernel
theorem dksX4_line_1 : cX4_line.data.toList.drop 22 = dktX4_line_1 := dk_seg dksX4_line_0 22 rfl rfl
theorem dksX4_line_2 : cX4_line.data.toList.drop 46 = dktX4_line_2 := dk_seg dksX4_line_1 24 rfl rfl
theorem dksX4_line_3 : cX4_line.data.toList.drop 68 = dktX4_line_3 := dk_seg dksX4_line_2 22 rfl rfl
theorem dksX4_line_4 : cX4_line.data.toList.drop 74 = dktX4_line_4 := dk_seg dksX4_line_3 6 rfl rfl
theorem dksX4_line_5 : cX4_line.data.toList.drop 104 = dktX4_line_5 := dk_seg dksX4_line_4 30 rfl rfl
theorem dksX4_line_6 : cX4_line.data.toList.drop 128 = dktX4_line_6 := dk_seg dksX4_line_5 24 rfl rfl
theorem dksX4_line_7 : cX4_line.data.toList.drop 150 = dktX4_line_7 := dk_seg dksX4_line_6 22 rfl rfl
theorem dX4_line_0 : decode cX4_line 0 = .ok (.aload_n 0, 1) := dk_42 (dk_at dksX4_line_0 0 rfl rfl)
theorem dX4_line_1 : decode cX4_line 1 = .ok (.iconst 0, 1) := dk_3 (dk_at dksX4_line_0 1 rfl rfl)
theorem dX4_line_2 : decode cX4_line 2 = .ok (.putfield 48, 3) := dk_181 0 48 (dk_at dksX4_line_0 2 rfl rfl)
theorem dX4_line_5 : decode cX4_line 5 = .ok (.aload_n 0, 1) := dk_42 (dk_at dksX4_line_0 5 rfl rfl)
theorem dX4_line_6 : decode cX4_line 6 = .ok (.aload_n 0, 1) := dk_42 (dk_at dksX4_line_0 6 rfl rfl)
theorem dX4_line_7 : decode cX4_line 7 = .ok (.iload_n 1, 1) := dk_27 (dk_at dksX4_line_0 7 rfl rfl)
theorem dX4_line_8 : decode cX4_line 8 = .ok (.iload_n 2, 1) := dk_28 (dk_at dksX4_line_0 8 rfl rfl)
theorem dX4_line_9 : decode cX4_line 9 = .ok (.invokevirtual 276, 3) := dk_182 1 20 (dk_at dksX4_line_0 9 rfl rfl)
theorem dX4_line_12 : decode cX4_line 12 = .ok (.ifCond .ne 7, 3) := dk_154 0 7 (dk_at dksX4_line_0 12 rfl rfl)
theorem dX4_line_15 : decode cX4_line 15 = .ok (.iconst 1, 1) := dk_4 (dk_at dksX4_line_0 15 rfl rfl)
theorem dX4_line_16 : decode cX4_line 16 = .ok (.goto 4, 3) := dk_167 0 4 (dk_at dksX4_line_0 16 rfl rfl)
theorem dX4_line_19 : decode cX4_line 19 = .ok (.iconst 0, 1) := dk_3 (dk_at dksX4_line_0 19 rfl rfl)
theorem dX4_line_20 : decode cX4_line 20 = .ok (.iconst 1, 1) := dk_4 (dk_at dksX4_line_0 20 rfl rfl)
theorem dX4_line_21 : decode cX4_line 21 = .ok (.iconst 0, 1) := dk_3 (dk_at dksX4_line_0 21 rfl rfl)
theorem dX4_line_22 : decode cX4_line 22 = .ok (.invokevirtual 204, 3) := dk_182 0 204 (dk_at dksX4_line_1 0 rfl rfl)
theorem dX4_line_25 : decode cX4_line 25 = .ok (.ifCond .ne 29, 3) := dk_154 0 29 (dk_at dksX4_line_1 3 rfl rfl)
theorem dX4_line_28 : decode cX4_line 28 = .ok (.aload_n 0, 1) := dk_42 (dk_at dksX4_line_1 6 rfl rfl)
theorem dX4_line_29 : decode cX4_line 29 = .ok (.iload_n 3, 1) := dk_29 (dk_at dksX4_line_1 7 rfl rfl)
theorem dX4_line_30 : decode cX4_line 30 = .ok (.i2l, 1) := dk_133 (dk_at dksX4_line_1 8 rfl rfl)
theorem dX4_line_31 : decode cX4_line 31 = .ok (.lconst 0, 1) := dk_9 (dk_at dksX4_line_1 9 rfl rfl)
theorem dX4_line_32 : decode cX4_line 32 = .ok (.ldc2_w 285, 3) := dk_20 1 29 (dk_at dksX4_line_1 10 rfl rfl)
theorem dX4_line_35 : decode cX4_line 35 = .ok (.invokestatic 107, 3) := dk_184 0 107 (dk_at dksX4_line_1 13 rfl rfl)
theorem dX4_line_38 : decode cX4_line 38 = .ok (.ifCond .ne 7, 3) := dk_154 0 7 (dk_at dksX4_line_1 16 rfl rfl)
theorem dX4_line_41 : decode cX4_line 41 = .ok (.iconst 1, 1) := dk_4 (dk_at dksX4_line_1 19 rfl rfl)
theorem dX4_line_42 : decode cX4_line 42 = .ok (.goto 4, 3) := dk_167 0 4 (dk_at dksX4_line_1 20 rfl rfl)
theorem dX4_line_45 : decode cX4_line 45 = .ok (.iconst 0, 1) := dk_3 (dk_at dksX4_line_1 23 rfl rfl)
theorem dX4_line_46 : decode cX4_line 46 = .ok (.iconst 2, 1) := dk_5 (dk_at dksX4_line_2 0 rfl rfl)
theorem dX4_line_47 : decode cX4_line 47 = .ok (.iconst 1, 1) := dk_4 (dk_at dksX4_line_2 1 rfl rfl)
theorem dX4_line_48 : decode cX4_line 48 = .ok (.invokevirtual 204, 3) := dk_182 0 204 (dk_at dksX4_line_2 2 rfl rfl)
theorem dX4_line_51 : decode cX4_line 51 = .ok (.ifCond .eq 5, 3) := dk_153 0 5 (dk_at dksX4_line_2 5 rfl rfl)
theorem dX4_line_54 : decode cX4_line 54 = .ok (.iconst 0, 1) := dk_3 (dk_at dksX4_line_2 8 rfl rfl)
theorem dX4_line_55 : decode cX4_line 55 = .ok (.ireturn, 1) := dk_172 (dk_at dksX4_line_2 9 rfl rfl)
theorem dX4_line_56 : decode cX4_line 56 = .ok (.aload_n 0, 1) := dk_42 (dk_at dksX4_line_2 10 rfl rfl)
theorem dX4_line_57 : decode cX4_line 57 = .ok (.aload_n 0, 1) := dk_42 (dk_at dksX4_line_2 11 rfl rfl)
theorem dX4_line_58 : decode cX4_line 58 = .ok (.getfield 20, 3) := dk_180 0 20 (dk_at dksX4_line_2 12 rfl rfl)
theorem dX4_line_61 : decode cX4_line 61 = .ok (.iconst 0, 1) := dk_3 (dk_at dksX4_line_2 15 rfl rfl)
theorem dX4_line_62 : decode cX4_line 62 = .ok (.invokevirtual 255, 3) := dk_182 0 255 (dk_at dksX4_line_2 16 rfl rfl)
theorem dX4_line_65 : decode cX4_line 65 = .ok (.aload_n 0, 1) := dk_42 (dk_at dksX4_line_2 19 rfl rfl)
theorem dX4_line_66 : decode cX4_line 66 = .ok (.iload_n 1, 1) := dk_27 (dk_at dksX4_line_2 20 rfl rfl)
theorem dX4_line_67 : decode cX4_line 67 = .ok (.iload_n 2, 1) := dk_28 (dk_at dksX4_line_2 21 rfl rfl)
theorem dX4_line_68 : decode cX4_line 68 = .ok (.invokevirtual 267, 3) := dk_182 1 11 (dk_at dksX4_line_3 0 rfl rfl)
theorem dX4_line_71 : decode cX4_line 71 = .ok (.istore 4, 2) := dk_54 4 (dk_at dksX4_line_3 3 rfl rfl)
theorem dX4_line_73 : decode cX4_line 73 = .ok (.iload_n 3, 1) := dk_29 (dk_at dksX4_line_3 5 rfl rfl)
theorem dX4_line_74 : decode cX4_line 74 = .ok (.tableswitch 70 0 3 #[30, 42, 54, 62], 30) := by decide +kernel
theorem dX4_line_104 : decode cX4_line 104 = .ok (.aload_n 0, 1) := dk_42 (dk_at dksX4_line_5 0 rfl rfl)
theorem dX4_line_105 : decode cX4_line 105 = .ok (.getfield 20, 3) := dk_180 0 20 (dk_at dksX4_line_5 1 rfl rfl)
theorem dX4_line_108 : decode cX4_line 108 = .ok (.iload 4, 2) := dk_21 4 (dk_at dksX4_line_5 4 rfl rfl)
theorem dX4_line_110 : decode cX4_line 110 = .ok (.iconst 1, 1) := dk_4 (dk_at dksX4_line_5 6 rfl rfl)
theorem dX4_line_111 : decode cX4_line 111 = .ok (.invokestatic 124, 3) := dk_184 0 124 (dk_at dksX4_line_5 7 rfl rfl)
theorem dX4_line_114 : decode cX4_line 114 = .ok (.iaload, 1) := dk_46 (dk_at dksX4_line_5 10 rfl rfl)
theorem dX4_line_115 : decode cX4_line 115 = .ok (.ireturn, 1) := dk_172 (dk_at dksX4_line_5 11 rfl rfl)
theorem dX4_line_116 : decode cX4_line 116 = .ok (.aload_n 0, 1) := dk_42 (dk_at dksX4_line_5 12 rfl rfl)
theorem dX4_line_117 : decode cX4_line 117 = .ok (.getfield 20, 3) := dk_180 0 20 (dk_at dksX4_line_5 13 rfl rfl)
theorem dX4_line_120 : decode cX4_line 120 = .ok (.iload 4, 2) := dk_21 4 (dk_at dksX4_line_5 16 rfl rfl)
theorem dX4_line_122 : decode cX4_line 122 = .ok (.iconst 3, 1) := dk_6 (dk_at dksX4_line_5 18 rfl rfl)
theorem dX4_line_123 : decode cX4_line 123 = .ok (.invokestatic 124, 3) := dk_184 0 124 (dk_at dksX4_line_5 19 rfl rfl)
theorem dX4_line_126 : decode cX4_line 126 = .ok (.iaload, 1) := dk_46 (dk_at dksX4_line_5 22 rfl rfl)
theorem dX4_line_127 : decode cX4_line 127 = .ok (.ireturn, 1) := dk_172 (dk_at dksX4_line_5 23 rfl rfl)
theorem dX4_line_128 : decode cX4_line 128 = .ok (.aload_n 0, 1) := dk_42 (dk_at dksX4_line_6 0 rfl rfl)
theorem dX4_line_129 : decode cX4_line 129 = .ok (.getfield 34, 3) := dk_180 0 34 (dk_at dksX4_line_6 1 rfl rfl)
theorem dX4_line_132 : decode cX4_line 132 = .ok (.iload 4, 2) := dk_21 4 (dk_at dksX4_line_6 4 rfl rfl)
theorem dX4_line_134 : decode cX4_line 134 = .ok (.iaload, 1) := dk_46 (dk_at dksX4_line_6 6 rfl rfl)
theorem dX4_line_135 : decode cX4_line 135 = .ok (.ireturn, 1) := dk_172 (dk_at dksX4_line_6 7 rfl rfl)
theorem dX4_line_136 : decode cX4_line 136 = .ok (.aload_n 0, 1) := dk_42 (dk_at dksX4_line_6 8 rfl rfl)
theorem dX4_line_137 : decode cX4_line 137 = .ok (.getfield 31, 3) := dk_180 0 31 (dk_at dksX4_line_6 9 rfl rfl)
theorem dX4_line_140 : decode cX4_line 140 = .ok (.iload 4, 2) := dk_21 4 (dk_at dksX4_line_6 12 rfl rfl)
theorem dX4_line_142 : decode cX4_line 142 = .ok (.iaload, 1) := dk_46 (dk_at dksX4_line_6 14 rfl rfl)
theorem dX4_line_143 : decode cX4_line 143 = .ok (.ireturn, 1) := dk_172 (dk_at dksX4_line_6 15 rfl rfl)
theorem dX4_line_144 : decode cX4_line 144 = .ok (.aload_n 0, 1) := dk_42 (dk_at dksX4_line_6 16 rfl rfl)
theorem dX4_line_145 : decode cX4_line 145 = .ok (.iload_n 3, 1) := dk_29 (dk_at dksX4_line_6 17 rfl rfl)
theorem dX4_line_146 : decode cX4_line 146 = .ok (.iconst 4, 1) := dk_7 (dk_at dksX4_line_6 18 rfl rfl)
theorem dX4_line_147 : decode cX4_line 147 = .ok (.isub, 1) := dk_100 (dk_at dksX4_line_6 19 rfl rfl)
theorem dX4_line_148 : decode cX4_line 148 = .ok (.iload 4, 2) := dk_21 4 (dk_at dksX4_line_6 20 rfl rfl)
theorem dX4_line_150 : decode cX4_line 150 = .ok (.invokevirtual 244, 3) := dk_182 0 244 (dk_at dksX4_line_7 0 rfl rfl)
theorem dX4_line_153 : decode cX4_line 153 = .ok (.ifCond .eq 7, 3) := dk_153 0 7 (dk_at dksX4_line_7 3 rfl rfl)
theorem dX4_line_156 : decode cX4_line 156 = .ok (.iconst 1, 1) := dk_4 (dk_at dksX4_line_7 6 rfl rfl)
theorem dX4_line_157 : decode cX4_line 157 = .ok (.goto 4, 3) := dk_167 0 4 (dk_at dksX4_line_7 7 rfl rfl)
theorem dX4_line_160 : decode cX4_line 160 = .ok (.iconst 0, 1) := dk_3 (dk_at dksX4_line_7 10 rfl rfl)
theorem dX4_line_161 : decode cX4_line 161 = .ok (.ireturn, 1) := dk_172 (dk_at dksX4_line_7 11 rfl rfl)
abbrev cX4_judged : ByteArray := prog_12_method_63_code
def yX4_judged : MethodName := ⟨RX4, "judged", "(I)I"⟩
def dkwX4_judged_1 : List UInt8 := [4, 182, 0, 204, 153, 0, 5, 3, 172, 42, 42, 180, 0, 20, 3, 182, 0, 255, 42, 27, 182, 1, 31, 172]
abbrev dktX4_judged_1 : List UInt8 := dkwX4_judged_1 ++ []
def dkwX4_judged_0 : List UInt8 := [42, 3, 181, 0, 48, 42, 27, 133, 9, 20, 1, 29, 184, 0, 107, 154, 0, 7, 4, 167, 0, 4, 3, 4]
abbrev dktX4_judged_0 : List UInt8 := dkwX4_judged_0 ++ dktX4_judged_1
theorem dksX4_judged_0 : cX4_judged.data.toList.drop 0 = dktX4_judged_0 := by decide +kernel
theorem dksX4_judged_1 : cX4_judged.data.toList.drop 24 = dktX4_judged_1 := dk_seg dksX4_judged_0 24 rfl rfl
theorem dX4_judged_0 : decode cX4_judged 0 = .ok (.aload_n 0, 1) := dk_42 (dk_at dksX4_judged_0 0 rfl rfl)
theorem dX4_judged_1 : decode cX4_judged 1 = .ok (.iconst 0, 1) := dk_3 (dk_at dksX4_judged_0 1 rfl rfl)
theorem dX4_judged_2 : decode cX4_judged 2 = .ok (.putfield 48, 3) := dk_181 0 48 (dk_at dksX4_judged_0 2 rfl rfl)
theorem dX4_judged_5 : decode cX4_judged 5 = .ok (.aload_n 0, 1) := dk_42 (dk_at dksX4_judged_0 5 rfl rfl)
theorem dX4_judged_6 : decode cX4_judged 6 = .ok (.iload_n 1, 1) := dk_27 (dk_at dksX4_judged_0 6 rfl rfl)
theorem dX4_judged_7 : decode cX4_judged 7 = .ok (.i2l, 1) := dk_133 (dk_at dksX4_judged_0 7 rfl rfl)
theorem dX4_judged_8 : decode cX4_judged 8 = .ok (.lconst 0, 1) := dk_9 (dk_at dksX4_judged_0 8 rfl rfl)
theorem dX4_judged_9 : decode cX4_judged 9 = .ok (.ldc2_w 285, 3) := dk_20 1 29 (dk_at dksX4_judged_0 9 rfl rfl)
theorem dX4_judged_12 : decode cX4_judged 12 = .ok (.invokestatic 107, 3) := dk_184 0 107 (dk_at dksX4_judged_0 12 rfl rfl)
theorem dX4_judged_15 : decode cX4_judged 15 = .ok (.ifCond .ne 7, 3) := dk_154 0 7 (dk_at dksX4_judged_0 15 rfl rfl)
theorem dX4_judged_18 : decode cX4_judged 18 = .ok (.iconst 1, 1) := dk_4 (dk_at dksX4_judged_0 18 rfl rfl)
theorem dX4_judged_19 : decode cX4_judged 19 = .ok (.goto 4, 3) := dk_167 0 4 (dk_at dksX4_judged_0 19 rfl rfl)
theorem dX4_judged_22 : decode cX4_judged 22 = .ok (.iconst 0, 1) := dk_3 (dk_at dksX4_judged_0 22 rfl rfl)
theorem dX4_judged_23 : decode cX4_judged 23 = .ok (.iconst 1, 1) := dk_4 (dk_at dksX4_judged_0 23 rfl rfl)
theorem dX4_judged_24 : decode cX4_judged 24 = .ok (.iconst 1, 1) := dk_4 (dk_at dksX4_judged_1 0 rfl rfl)
theorem dX4_judged_25 : decode cX4_judged 25 = .ok (.invokevirtual 204, 3) := dk_182 0 204 (dk_at dksX4_judged_1 1 rfl rfl)
theorem dX4_judged_28 : decode cX4_judged 28 = .ok (.ifCond .eq 5, 3) := dk_153 0 5 (dk_at dksX4_judged_1 4 rfl rfl)
theorem dX4_judged_31 : decode cX4_judged 31 = .ok (.iconst 0, 1) := dk_3 (dk_at dksX4_judged_1 7 rfl rfl)
theorem dX4_judged_32 : decode cX4_judged 32 = .ok (.ireturn, 1) := dk_172 (dk_at dksX4_judged_1 8 rfl rfl)
theorem dX4_judged_33 : decode cX4_judged 33 = .ok (.aload_n 0, 1) := dk_42 (dk_at dksX4_judged_1 9 rfl rfl)
theorem dX4_judged_34 : decode cX4_judged 34 = .ok (.aload_n 0, 1) := dk_42 (dk_at dksX4_judged_1 10 rfl rfl)
theorem dX4_judged_35 : decode cX4_judged 35 = .ok (.getfield 20, 3) := dk_180 0 20 (dk_at dksX4_judged_1 11 rfl rfl)
theorem dX4_judged_38 : decode cX4_judged 38 = .ok (.iconst 0, 1) := dk_3 (dk_at dksX4_judged_1 14 rfl rfl)
theorem dX4_judged_39 : decode cX4_judged 39 = .ok (.invokevirtual 255, 3) := dk_182 0 255 (dk_at dksX4_judged_1 15 rfl rfl)
theorem dX4_judged_42 : decode cX4_judged 42 = .ok (.aload_n 0, 1) := dk_42 (dk_at dksX4_judged_1 18 rfl rfl)
theorem dX4_judged_43 : decode cX4_judged 43 = .ok (.iload_n 1, 1) := dk_27 (dk_at dksX4_judged_1 19 rfl rfl)
theorem dX4_judged_44 : decode cX4_judged 44 = .ok (.invokevirtual 287, 3) := dk_182 1 31 (dk_at dksX4_judged_1 20 rfl rfl)
theorem dX4_judged_47 : decode cX4_judged 47 = .ok (.ireturn, 1) := dk_172 (dk_at dksX4_judged_1 23 rfl rfl)
abbrev cX4_count : ByteArray := prog_12_method_41_code
def yX4_count : MethodName := ⟨RX4, "count", "(I)I"⟩
def dkwX4_count_1 : List UInt8 := [167, 0, 4, 3, 96, 61, 132, 3, 1, 167, 255, 227, 28, 172]
abbrev dktX4_count_1 : List UInt8 := dkwX4_count_1 ++ []
def dkwX4_count_0 : List UInt8 := [3, 61, 3, 62, 29, 42, 182, 0, 218, 162, 0, 27, 28, 42, 180, 0, 31, 29, 46, 27, 160, 0, 7, 4]
abbrev dktX4_count_0 : List UInt8 := dkwX4_count_0 ++ dktX4_count_1
theorem dksX4_count_0 : cX4_count.data.toList.drop 0 = dktX4_count_0 := by decide +kernel
theorem dksX4_count_1 : cX4_count.data.toList.drop 24 = dktX4_count_1 := dk_seg dksX4_count_0 24 rfl rfl
theorem dX4_count_0 : decode cX4_count 0 = .ok (.iconst 0, 1) := dk_3 (dk_at dksX4_count_0 0 rfl rfl)
theorem dX4_count_1 : decode cX4_count 1 = .ok (.istore_n 2, 1) := dk_61 (dk_at dksX4_count_0 1 rfl rfl)
theorem dX4_count_2 : decode cX4_count 2 = .ok (.iconst 0, 1) := dk_3 (dk_at dksX4_count_0 2 rfl rfl)
theorem dX4_count_3 : decode cX4_count 3 = .ok (.istore_n 3, 1) := dk_62 (dk_at dksX4_count_0 3 rfl rfl)
theorem dX4_count_4 : decode cX4_count 4 = .ok (.iload_n 3, 1) := dk_29 (dk_at dksX4_count_0 4 rfl rfl)
theorem dX4_count_5 : decode cX4_count 5 = .ok (.aload_n 0, 1) := dk_42 (dk_at dksX4_count_0 5 rfl rfl)
theorem dX4_count_6 : decode cX4_count 6 = .ok (.invokevirtual 218, 3) := dk_182 0 218 (dk_at dksX4_count_0 6 rfl rfl)
theorem dX4_count_9 : decode cX4_count 9 = .ok (.if_icmp .ge 27, 3) := dk_162 0 27 (dk_at dksX4_count_0 9 rfl rfl)
theorem dX4_count_12 : decode cX4_count 12 = .ok (.iload_n 2, 1) := dk_28 (dk_at dksX4_count_0 12 rfl rfl)
theorem dX4_count_13 : decode cX4_count 13 = .ok (.aload_n 0, 1) := dk_42 (dk_at dksX4_count_0 13 rfl rfl)
theorem dX4_count_14 : decode cX4_count 14 = .ok (.getfield 31, 3) := dk_180 0 31 (dk_at dksX4_count_0 14 rfl rfl)
theorem dX4_count_17 : decode cX4_count 17 = .ok (.iload_n 3, 1) := dk_29 (dk_at dksX4_count_0 17 rfl rfl)
theorem dX4_count_18 : decode cX4_count 18 = .ok (.iaload, 1) := dk_46 (dk_at dksX4_count_0 18 rfl rfl)
theorem dX4_count_19 : decode cX4_count 19 = .ok (.iload_n 1, 1) := dk_27 (dk_at dksX4_count_0 19 rfl rfl)
theorem dX4_count_20 : decode cX4_count 20 = .ok (.if_icmp .ne 7, 3) := dk_160 0 7 (dk_at dksX4_count_0 20 rfl rfl)
theorem dX4_count_23 : decode cX4_count 23 = .ok (.iconst 1, 1) := dk_4 (dk_at dksX4_count_0 23 rfl rfl)
theorem dX4_count_24 : decode cX4_count 24 = .ok (.goto 4, 3) := dk_167 0 4 (dk_at dksX4_count_1 0 rfl rfl)
theorem dX4_count_27 : decode cX4_count 27 = .ok (.iconst 0, 1) := dk_3 (dk_at dksX4_count_1 3 rfl rfl)
theorem dX4_count_28 : decode cX4_count 28 = .ok (.iadd, 1) := dk_96 (dk_at dksX4_count_1 4 rfl rfl)
theorem dX4_count_29 : decode cX4_count 29 = .ok (.istore_n 2, 1) := dk_61 (dk_at dksX4_count_1 5 rfl rfl)
theorem dX4_count_30 : decode cX4_count 30 = .ok (.iinc 3 1, 3) := dk_132 3 1 (dk_at dksX4_count_1 6 rfl rfl)
theorem dX4_count_33 : decode cX4_count 33 = .ok (.goto (-29), 3) := dk_167 255 227 (dk_at dksX4_count_1 9 rfl rfl)
theorem dX4_count_36 : decode cX4_count 36 = .ok (.iload_n 2, 1) := dk_28 (dk_at dksX4_count_1 12 rfl rfl)
theorem dX4_count_37 : decode cX4_count 37 = .ok (.ireturn, 1) := dk_172 (dk_at dksX4_count_1 13 rfl rfl)
abbrev cX4_passes : ByteArray := prog_12_method_64_code
def yX4_passes : MethodName := ⟨RX4, "passes", "()I"⟩
def dkwX4_passes_1 : List UInt8 := [46, 161, 0, 7, 4, 167, 0, 4, 3, 172]
abbrev dktX4_passes_1 : List UInt8 := dkwX4_passes_1 ++ []
def dkwX4_passes_0 : List UInt8 := [42, 3, 181, 0, 48, 42, 42, 180, 0, 20, 3, 182, 0, 255, 42, 3, 182, 1, 31, 42, 180, 0, 20, 6]
abbrev dktX4_passes_0 : List UInt8 := dkwX4_passes_0 ++ dktX4_passes_1
theorem dksX4_passes_0 : cX4_passes.data.toList.drop 0 = dktX4_passes_0 := by decide +kernel
theorem dksX4_passes_1 : cX4_passes.data.toList.drop 24 = dktX4_passes_1 := dk_seg dksX4_passes_0 24 rfl rfl
theorem dX4_passes_0 : decode cX4_passes 0 = .ok (.aload_n 0, 1) := dk_42 (dk_at dksX4_passes_0 0 rfl rfl)
theorem dX4_passes_1 : decode cX4_passes 1 = .ok (.iconst 0, 1) := dk_3 (dk_at dksX4_passes_0 1 rfl rfl)
theorem dX4_passes_2 : decode cX4_passes 2 = .ok (.putfield 48, 3) := dk_181 0 48 (dk_at dksX4_passes_0 2 rfl rfl)
theorem dX4_passes_5 : decode cX4_passes 5 = .ok (.aload_n 0, 1) := dk_42 (dk_at dksX4_passes_0 5 rfl rfl)
theorem dX4_passes_6 : decode cX4_passes 6 = .ok (.aload_n 0, 1) := dk_42 (dk_at dksX4_passes_0 6 rfl rfl)
theorem dX4_passes_7 : decode cX4_passes 7 = .ok (.getfield 20, 3) := dk_180 0 20 (dk_at dksX4_passes_0 7 rfl rfl)
theorem dX4_passes_10 : decode cX4_passes 10 = .ok (.iconst 0, 1) := dk_3 (dk_at dksX4_passes_0 10 rfl rfl)
theorem dX4_passes_11 : decode cX4_passes 11 = .ok (.invokevirtual 255, 3) := dk_182 0 255 (dk_at dksX4_passes_0 11 rfl rfl)
theorem dX4_passes_14 : decode cX4_passes 14 = .ok (.aload_n 0, 1) := dk_42 (dk_at dksX4_passes_0 14 rfl rfl)
theorem dX4_passes_15 : decode cX4_passes 15 = .ok (.iconst 0, 1) := dk_3 (dk_at dksX4_passes_0 15 rfl rfl)
theorem dX4_passes_16 : decode cX4_passes 16 = .ok (.invokevirtual 287, 3) := dk_182 1 31 (dk_at dksX4_passes_0 16 rfl rfl)
theorem dX4_passes_19 : decode cX4_passes 19 = .ok (.aload_n 0, 1) := dk_42 (dk_at dksX4_passes_0 19 rfl rfl)
theorem dX4_passes_20 : decode cX4_passes 20 = .ok (.getfield 20, 3) := dk_180 0 20 (dk_at dksX4_passes_0 20 rfl rfl)
theorem dX4_passes_23 : decode cX4_passes 23 = .ok (.iconst 3, 1) := dk_6 (dk_at dksX4_passes_0 23 rfl rfl)
theorem dX4_passes_24 : decode cX4_passes 24 = .ok (.iaload, 1) := dk_46 (dk_at dksX4_passes_1 0 rfl rfl)
theorem dX4_passes_25 : decode cX4_passes 25 = .ok (.if_icmp .lt 7, 3) := dk_161 0 7 (dk_at dksX4_passes_1 1 rfl rfl)
theorem dX4_passes_28 : decode cX4_passes 28 = .ok (.iconst 1, 1) := dk_4 (dk_at dksX4_passes_1 4 rfl rfl)
theorem dX4_passes_29 : decode cX4_passes 29 = .ok (.goto 4, 3) := dk_167 0 4 (dk_at dksX4_passes_1 5 rfl rfl)
theorem dX4_passes_32 : decode cX4_passes 32 = .ok (.iconst 0, 1) := dk_3 (dk_at dksX4_passes_1 8 rfl rfl)
theorem dX4_passes_33 : decode cX4_passes 33 = .ok (.ireturn, 1) := dk_172 (dk_at dksX4_passes_1 9 rfl rfl)
abbrev cX4_drawn : ByteArray := prog_12_method_72_code
def yX4_drawn : MethodName := ⟨RX4, "drawn", "(II)I"⟩
def dkwX4_drawn_7 : List UInt8 := [167, 0, 4, 3, 172]
abbrev dktX4_drawn_7 : List UInt8 := dkwX4_drawn_7 ++ []
def dkwX4_drawn_6 : List UInt8 := [180, 0, 20, 6, 46, 161, 0, 7, 4, 167, 0, 19, 21, 6, 42, 180, 0, 20, 6, 46, 162, 0, 7, 5]
abbrev dktX4_drawn_6 : List UInt8 := dkwX4_drawn_6 ++ dktX4_drawn_7
def dkwX4_drawn_5 : List UInt8 := [6, 160, 0, 8, 21, 5, 167, 0, 44, 28, 7, 160, 0, 8, 21, 6, 167, 0, 34, 21, 5, 42]
abbrev dktX4_drawn_5 : List UInt8 := dkwX4_drawn_5 ++ dktX4_drawn_6
def dkwX4_drawn_4 : List UInt8 := [154, 0, 5, 2, 172, 42, 29, 21, 4, 182, 1, 54, 54, 5, 42, 29, 21, 4, 182, 1, 57, 54, 6, 28]
abbrev dktX4_drawn_4 : List UInt8 := dkwX4_drawn_4 ++ dktX4_drawn_5
def dkwX4_drawn_3 : List UInt8 := [154, 0, 7, 29, 167, 0, 18, 28, 4, 160, 0, 8, 21, 4, 167, 0, 8, 42, 27, 182, 1, 51, 172, 29]
abbrev dktX4_drawn_3 : List UInt8 := dkwX4_drawn_3 ++ dktX4_drawn_4
def dkwX4_drawn_2 : List UInt8 := [182, 0, 255, 42, 27, 182, 1, 48, 62, 42, 27, 182, 1, 3, 54, 4, 28, 6, 162, 0, 27, 28]
abbrev dktX4_drawn_2 : List UInt8 := dkwX4_drawn_2 ++ dktX4_drawn_3
def dkwX4_drawn_1 : List UInt8 := [154, 0, 7, 4, 167, 0, 4, 3, 4, 4, 182, 0, 204, 153, 0, 5, 3, 172, 42, 42, 180, 0, 20, 3]
abbrev dktX4_drawn_1 : List UInt8 := dkwX4_drawn_1 ++ dktX4_drawn_2
def dkwX4_drawn_0 : List UInt8 := [42, 3, 181, 0, 48, 42, 27, 184, 0, 251, 153, 0, 15, 28, 133, 9, 20, 1, 29, 184, 0, 107]
abbrev dktX4_drawn_0 : List UInt8 := dkwX4_drawn_0 ++ dktX4_drawn_1
theorem dksX4_drawn_0 : cX4_drawn.data.toList.drop 0 = dktX4_drawn_0 := by decide +kernel
theorem dksX4_drawn_1 : cX4_drawn.data.toList.drop 22 = dktX4_drawn_1 := dk_seg dksX4_drawn_0 22 rfl rfl
theorem dksX4_drawn_2 : cX4_drawn.data.toList.drop 46 = dktX4_drawn_2 := dk_seg dksX4_drawn_1 24 rfl rfl
theorem dksX4_drawn_3 : cX4_drawn.data.toList.drop 68 = dktX4_drawn_3 := dk_seg dksX4_drawn_2 22 rfl rfl
theorem dksX4_drawn_4 : cX4_drawn.data.toList.drop 92 = dktX4_drawn_4 := dk_seg dksX4_drawn_3 24 rfl rfl
theorem dksX4_drawn_5 : cX4_drawn.data.toList.drop 116 = dktX4_drawn_5 := dk_seg dksX4_drawn_4 24 rfl rfl
theorem dksX4_drawn_6 : cX4_drawn.data.toList.drop 138 = dktX4_drawn_6 := dk_seg dksX4_drawn_5 22 rfl rfl
theorem dksX4_drawn_7 : cX4_drawn.data.toList.drop 162 = dktX4_drawn_7 := dk_seg dksX4_drawn_6 24 rfl rfl
theorem dX4_drawn_0 : decode cX4_drawn 0 = .ok (.aload_n 0, 1) := dk_42 (dk_at dksX4_drawn_0 0 rfl rfl)
theorem dX4_drawn_1 : decode cX4_drawn 1 = .ok (.iconst 0, 1) := dk_3 (dk_at dksX4_drawn_0 1 rfl rfl)
theorem dX4_drawn_2 : decode cX4_drawn 2 = .ok (.putfield 48, 3) := dk_181 0 48 (dk_at dksX4_drawn_0 2 rfl rfl)
theorem dX4_drawn_5 : decode cX4_drawn 5 = .ok (.aload_n 0, 1) := dk_42 (dk_at dksX4_drawn_0 5 rfl rfl)
theorem dX4_drawn_6 : decode cX4_drawn 6 = .ok (.iload_n 1, 1) := dk_27 (dk_at dksX4_drawn_0 6 rfl rfl)
theorem dX4_drawn_7 : decode cX4_drawn 7 = .ok (.invokestatic 251, 3) := dk_184 0 251 (dk_at dksX4_drawn_0 7 rfl rfl)
theorem dX4_drawn_10 : decode cX4_drawn 10 = .ok (.ifCond .eq 15, 3) := dk_153 0 15 (dk_at dksX4_drawn_0 10 rfl rfl)
theorem dX4_drawn_13 : decode cX4_drawn 13 = .ok (.iload_n 2, 1) := dk_28 (dk_at dksX4_drawn_0 13 rfl rfl)
theorem dX4_drawn_14 : decode cX4_drawn 14 = .ok (.i2l, 1) := dk_133 (dk_at dksX4_drawn_0 14 rfl rfl)
theorem dX4_drawn_15 : decode cX4_drawn 15 = .ok (.lconst 0, 1) := dk_9 (dk_at dksX4_drawn_0 15 rfl rfl)
theorem dX4_drawn_16 : decode cX4_drawn 16 = .ok (.ldc2_w 285, 3) := dk_20 1 29 (dk_at dksX4_drawn_0 16 rfl rfl)
theorem dX4_drawn_19 : decode cX4_drawn 19 = .ok (.invokestatic 107, 3) := dk_184 0 107 (dk_at dksX4_drawn_0 19 rfl rfl)
theorem dX4_drawn_22 : decode cX4_drawn 22 = .ok (.ifCond .ne 7, 3) := dk_154 0 7 (dk_at dksX4_drawn_1 0 rfl rfl)
theorem dX4_drawn_25 : decode cX4_drawn 25 = .ok (.iconst 1, 1) := dk_4 (dk_at dksX4_drawn_1 3 rfl rfl)
theorem dX4_drawn_26 : decode cX4_drawn 26 = .ok (.goto 4, 3) := dk_167 0 4 (dk_at dksX4_drawn_1 4 rfl rfl)
theorem dX4_drawn_29 : decode cX4_drawn 29 = .ok (.iconst 0, 1) := dk_3 (dk_at dksX4_drawn_1 7 rfl rfl)
theorem dX4_drawn_30 : decode cX4_drawn 30 = .ok (.iconst 1, 1) := dk_4 (dk_at dksX4_drawn_1 8 rfl rfl)
theorem dX4_drawn_31 : decode cX4_drawn 31 = .ok (.iconst 1, 1) := dk_4 (dk_at dksX4_drawn_1 9 rfl rfl)
theorem dX4_drawn_32 : decode cX4_drawn 32 = .ok (.invokevirtual 204, 3) := dk_182 0 204 (dk_at dksX4_drawn_1 10 rfl rfl)
theorem dX4_drawn_35 : decode cX4_drawn 35 = .ok (.ifCond .eq 5, 3) := dk_153 0 5 (dk_at dksX4_drawn_1 13 rfl rfl)
theorem dX4_drawn_38 : decode cX4_drawn 38 = .ok (.iconst 0, 1) := dk_3 (dk_at dksX4_drawn_1 16 rfl rfl)
theorem dX4_drawn_39 : decode cX4_drawn 39 = .ok (.ireturn, 1) := dk_172 (dk_at dksX4_drawn_1 17 rfl rfl)
theorem dX4_drawn_40 : decode cX4_drawn 40 = .ok (.aload_n 0, 1) := dk_42 (dk_at dksX4_drawn_1 18 rfl rfl)
theorem dX4_drawn_41 : decode cX4_drawn 41 = .ok (.aload_n 0, 1) := dk_42 (dk_at dksX4_drawn_1 19 rfl rfl)
theorem dX4_drawn_42 : decode cX4_drawn 42 = .ok (.getfield 20, 3) := dk_180 0 20 (dk_at dksX4_drawn_1 20 rfl rfl)
theorem dX4_drawn_45 : decode cX4_drawn 45 = .ok (.iconst 0, 1) := dk_3 (dk_at dksX4_drawn_1 23 rfl rfl)
theorem dX4_drawn_46 : decode cX4_drawn 46 = .ok (.invokevirtual 255, 3) := dk_182 0 255 (dk_at dksX4_drawn_2 0 rfl rfl)
theorem dX4_drawn_49 : decode cX4_drawn 49 = .ok (.aload_n 0, 1) := dk_42 (dk_at dksX4_drawn_2 3 rfl rfl)
theorem dX4_drawn_50 : decode cX4_drawn 50 = .ok (.iload_n 1, 1) := dk_27 (dk_at dksX4_drawn_2 4 rfl rfl)
theorem dX4_drawn_51 : decode cX4_drawn 51 = .ok (.invokevirtual 304, 3) := dk_182 1 48 (dk_at dksX4_drawn_2 5 rfl rfl)
theorem dX4_drawn_54 : decode cX4_drawn 54 = .ok (.istore_n 3, 1) := dk_62 (dk_at dksX4_drawn_2 8 rfl rfl)
theorem dX4_drawn_55 : decode cX4_drawn 55 = .ok (.aload_n 0, 1) := dk_42 (dk_at dksX4_drawn_2 9 rfl rfl)
theorem dX4_drawn_56 : decode cX4_drawn 56 = .ok (.iload_n 1, 1) := dk_27 (dk_at dksX4_drawn_2 10 rfl rfl)
theorem dX4_drawn_57 : decode cX4_drawn 57 = .ok (.invokevirtual 259, 3) := dk_182 1 3 (dk_at dksX4_drawn_2 11 rfl rfl)
theorem dX4_drawn_60 : decode cX4_drawn 60 = .ok (.istore 4, 2) := dk_54 4 (dk_at dksX4_drawn_2 14 rfl rfl)
theorem dX4_drawn_62 : decode cX4_drawn 62 = .ok (.iload_n 2, 1) := dk_28 (dk_at dksX4_drawn_2 16 rfl rfl)
theorem dX4_drawn_63 : decode cX4_drawn 63 = .ok (.iconst 3, 1) := dk_6 (dk_at dksX4_drawn_2 17 rfl rfl)
theorem dX4_drawn_64 : decode cX4_drawn 64 = .ok (.if_icmp .ge 27, 3) := dk_162 0 27 (dk_at dksX4_drawn_2 18 rfl rfl)
theorem dX4_drawn_67 : decode cX4_drawn 67 = .ok (.iload_n 2, 1) := dk_28 (dk_at dksX4_drawn_2 21 rfl rfl)
theorem dX4_drawn_68 : decode cX4_drawn 68 = .ok (.ifCond .ne 7, 3) := dk_154 0 7 (dk_at dksX4_drawn_3 0 rfl rfl)
theorem dX4_drawn_71 : decode cX4_drawn 71 = .ok (.iload_n 3, 1) := dk_29 (dk_at dksX4_drawn_3 3 rfl rfl)
theorem dX4_drawn_72 : decode cX4_drawn 72 = .ok (.goto 18, 3) := dk_167 0 18 (dk_at dksX4_drawn_3 4 rfl rfl)
theorem dX4_drawn_75 : decode cX4_drawn 75 = .ok (.iload_n 2, 1) := dk_28 (dk_at dksX4_drawn_3 7 rfl rfl)
theorem dX4_drawn_76 : decode cX4_drawn 76 = .ok (.iconst 1, 1) := dk_4 (dk_at dksX4_drawn_3 8 rfl rfl)
theorem dX4_drawn_77 : decode cX4_drawn 77 = .ok (.if_icmp .ne 8, 3) := dk_160 0 8 (dk_at dksX4_drawn_3 9 rfl rfl)
theorem dX4_drawn_80 : decode cX4_drawn 80 = .ok (.iload 4, 2) := dk_21 4 (dk_at dksX4_drawn_3 12 rfl rfl)
theorem dX4_drawn_82 : decode cX4_drawn 82 = .ok (.goto 8, 3) := dk_167 0 8 (dk_at dksX4_drawn_3 14 rfl rfl)
theorem dX4_drawn_85 : decode cX4_drawn 85 = .ok (.aload_n 0, 1) := dk_42 (dk_at dksX4_drawn_3 17 rfl rfl)
theorem dX4_drawn_86 : decode cX4_drawn 86 = .ok (.iload_n 1, 1) := dk_27 (dk_at dksX4_drawn_3 18 rfl rfl)
theorem dX4_drawn_87 : decode cX4_drawn 87 = .ok (.invokevirtual 307, 3) := dk_182 1 51 (dk_at dksX4_drawn_3 19 rfl rfl)
theorem dX4_drawn_90 : decode cX4_drawn 90 = .ok (.ireturn, 1) := dk_172 (dk_at dksX4_drawn_3 22 rfl rfl)
theorem dX4_drawn_91 : decode cX4_drawn 91 = .ok (.iload_n 3, 1) := dk_29 (dk_at dksX4_drawn_3 23 rfl rfl)
theorem dX4_drawn_92 : decode cX4_drawn 92 = .ok (.ifCond .ne 5, 3) := dk_154 0 5 (dk_at dksX4_drawn_4 0 rfl rfl)
theorem dX4_drawn_95 : decode cX4_drawn 95 = .ok (.iconst (-1), 1) := dk_2 (dk_at dksX4_drawn_4 3 rfl rfl)
theorem dX4_drawn_96 : decode cX4_drawn 96 = .ok (.ireturn, 1) := dk_172 (dk_at dksX4_drawn_4 4 rfl rfl)
theorem dX4_drawn_97 : decode cX4_drawn 97 = .ok (.aload_n 0, 1) := dk_42 (dk_at dksX4_drawn_4 5 rfl rfl)
theorem dX4_drawn_98 : decode cX4_drawn 98 = .ok (.iload_n 3, 1) := dk_29 (dk_at dksX4_drawn_4 6 rfl rfl)
theorem dX4_drawn_99 : decode cX4_drawn 99 = .ok (.iload 4, 2) := dk_21 4 (dk_at dksX4_drawn_4 7 rfl rfl)
theorem dX4_drawn_101 : decode cX4_drawn 101 = .ok (.invokevirtual 310, 3) := dk_182 1 54 (dk_at dksX4_drawn_4 9 rfl rfl)
theorem dX4_drawn_104 : decode cX4_drawn 104 = .ok (.istore 5, 2) := dk_54 5 (dk_at dksX4_drawn_4 12 rfl rfl)
theorem dX4_drawn_106 : decode cX4_drawn 106 = .ok (.aload_n 0, 1) := dk_42 (dk_at dksX4_drawn_4 14 rfl rfl)
theorem dX4_drawn_107 : decode cX4_drawn 107 = .ok (.iload_n 3, 1) := dk_29 (dk_at dksX4_drawn_4 15 rfl rfl)
theorem dX4_drawn_108 : decode cX4_drawn 108 = .ok (.iload 4, 2) := dk_21 4 (dk_at dksX4_drawn_4 16 rfl rfl)
theorem dX4_drawn_110 : decode cX4_drawn 110 = .ok (.invokevirtual 313, 3) := dk_182 1 57 (dk_at dksX4_drawn_4 18 rfl rfl)
theorem dX4_drawn_113 : decode cX4_drawn 113 = .ok (.istore 6, 2) := dk_54 6 (dk_at dksX4_drawn_4 21 rfl rfl)
theorem dX4_drawn_115 : decode cX4_drawn 115 = .ok (.iload_n 2, 1) := dk_28 (dk_at dksX4_drawn_4 23 rfl rfl)
theorem dX4_drawn_116 : decode cX4_drawn 116 = .ok (.iconst 3, 1) := dk_6 (dk_at dksX4_drawn_5 0 rfl rfl)
theorem dX4_drawn_117 : decode cX4_drawn 117 = .ok (.if_icmp .ne 8, 3) := dk_160 0 8 (dk_at dksX4_drawn_5 1 rfl rfl)
theorem dX4_drawn_120 : decode cX4_drawn 120 = .ok (.iload 5, 2) := dk_21 5 (dk_at dksX4_drawn_5 4 rfl rfl)
theorem dX4_drawn_122 : decode cX4_drawn 122 = .ok (.goto 44, 3) := dk_167 0 44 (dk_at dksX4_drawn_5 6 rfl rfl)
theorem dX4_drawn_125 : decode cX4_drawn 125 = .ok (.iload_n 2, 1) := dk_28 (dk_at dksX4_drawn_5 9 rfl rfl)
theorem dX4_drawn_126 : decode cX4_drawn 126 = .ok (.iconst 4, 1) := dk_7 (dk_at dksX4_drawn_5 10 rfl rfl)
theorem dX4_drawn_127 : decode cX4_drawn 127 = .ok (.if_icmp .ne 8, 3) := dk_160 0 8 (dk_at dksX4_drawn_5 11 rfl rfl)
theorem dX4_drawn_130 : decode cX4_drawn 130 = .ok (.iload 6, 2) := dk_21 6 (dk_at dksX4_drawn_5 14 rfl rfl)
theorem dX4_drawn_132 : decode cX4_drawn 132 = .ok (.goto 34, 3) := dk_167 0 34 (dk_at dksX4_drawn_5 16 rfl rfl)
theorem dX4_drawn_135 : decode cX4_drawn 135 = .ok (.iload 5, 2) := dk_21 5 (dk_at dksX4_drawn_5 19 rfl rfl)
theorem dX4_drawn_137 : decode cX4_drawn 137 = .ok (.aload_n 0, 1) := dk_42 (dk_at dksX4_drawn_5 21 rfl rfl)
theorem dX4_drawn_138 : decode cX4_drawn 138 = .ok (.getfield 20, 3) := dk_180 0 20 (dk_at dksX4_drawn_6 0 rfl rfl)
theorem dX4_drawn_141 : decode cX4_drawn 141 = .ok (.iconst 3, 1) := dk_6 (dk_at dksX4_drawn_6 3 rfl rfl)
theorem dX4_drawn_142 : decode cX4_drawn 142 = .ok (.iaload, 1) := dk_46 (dk_at dksX4_drawn_6 4 rfl rfl)
theorem dX4_drawn_143 : decode cX4_drawn 143 = .ok (.if_icmp .lt 7, 3) := dk_161 0 7 (dk_at dksX4_drawn_6 5 rfl rfl)
theorem dX4_drawn_146 : decode cX4_drawn 146 = .ok (.iconst 1, 1) := dk_4 (dk_at dksX4_drawn_6 8 rfl rfl)
theorem dX4_drawn_147 : decode cX4_drawn 147 = .ok (.goto 19, 3) := dk_167 0 19 (dk_at dksX4_drawn_6 9 rfl rfl)
theorem dX4_drawn_150 : decode cX4_drawn 150 = .ok (.iload 6, 2) := dk_21 6 (dk_at dksX4_drawn_6 12 rfl rfl)
theorem dX4_drawn_152 : decode cX4_drawn 152 = .ok (.aload_n 0, 1) := dk_42 (dk_at dksX4_drawn_6 14 rfl rfl)
theorem dX4_drawn_153 : decode cX4_drawn 153 = .ok (.getfield 20, 3) := dk_180 0 20 (dk_at dksX4_drawn_6 15 rfl rfl)
theorem dX4_drawn_156 : decode cX4_drawn 156 = .ok (.iconst 3, 1) := dk_6 (dk_at dksX4_drawn_6 18 rfl rfl)
theorem dX4_drawn_157 : decode cX4_drawn 157 = .ok (.iaload, 1) := dk_46 (dk_at dksX4_drawn_6 19 rfl rfl)
theorem dX4_drawn_158 : decode cX4_drawn 158 = .ok (.if_icmp .ge 7, 3) := dk_162 0 7 (dk_at dksX4_drawn_6 20 rfl rfl)
theorem dX4_drawn_161 : decode cX4_drawn 161 = .ok (.iconst 2, 1) := dk_5 (dk_at dksX4_drawn_6 23 rfl rfl)
theorem dX4_drawn_162 : decode cX4_drawn 162 = .ok (.goto 4, 3) := dk_167 0 4 (dk_at dksX4_drawn_7 0 rfl rfl)
theorem dX4_drawn_165 : decode cX4_drawn 165 = .ok (.iconst 0, 1) := dk_3 (dk_at dksX4_drawn_7 3 rfl rfl)
theorem dX4_drawn_166 : decode cX4_drawn 166 = .ok (.ireturn, 1) := dk_172 (dk_at dksX4_drawn_7 4 rfl rfl)
abbrev cX4_sizeOf : ByteArray := prog_12_method_70_code
def yX4_sizeOf : MethodName := ⟨RX4, "sizeOf", "(I)I"⟩
def dkwX4_sizeOf_1 : List UInt8 := [167, 0, 4, 3, 96, 61, 132, 3, 1, 167, 255, 228, 28, 172]
abbrev dktX4_sizeOf_1 : List UInt8 := dkwX4_sizeOf_1 ++ []
def dkwX4_sizeOf_0 : List UInt8 := [3, 61, 3, 62, 29, 42, 182, 0, 218, 162, 0, 26, 28, 42, 27, 29, 182, 0, 244, 153, 0, 7, 4]
abbrev dktX4_sizeOf_0 : List UInt8 := dkwX4_sizeOf_0 ++ dktX4_sizeOf_1
theorem dksX4_sizeOf_0 : cX4_sizeOf.data.toList.drop 0 = dktX4_sizeOf_0 := by decide +kernel
theorem dksX4_sizeOf_1 : cX4_sizeOf.data.toList.drop 23 = dktX4_sizeOf_1 := dk_seg dksX4_sizeOf_0 23 rfl rfl
theorem dX4_sizeOf_0 : decode cX4_sizeOf 0 = .ok (.iconst 0, 1) := dk_3 (dk_at dksX4_sizeOf_0 0 rfl rfl)
theorem dX4_sizeOf_1 : decode cX4_sizeOf 1 = .ok (.istore_n 2, 1) := dk_61 (dk_at dksX4_sizeOf_0 1 rfl rfl)
theorem dX4_sizeOf_2 : decode cX4_sizeOf 2 = .ok (.iconst 0, 1) := dk_3 (dk_at dksX4_sizeOf_0 2 rfl rfl)
theorem dX4_sizeOf_3 : decode cX4_sizeOf 3 = .ok (.istore_n 3, 1) := dk_62 (dk_at dksX4_sizeOf_0 3 rfl rfl)
theorem dX4_sizeOf_4 : decode cX4_sizeOf 4 = .ok (.iload_n 3, 1) := dk_29 (dk_at dksX4_sizeOf_0 4 rfl rfl)
theorem dX4_sizeOf_5 : decode cX4_sizeOf 5 = .ok (.aload_n 0, 1) := dk_42 (dk_at dksX4_sizeOf_0 5 rfl rfl)
theorem dX4_sizeOf_6 : decode cX4_sizeOf 6 = .ok (.invokevirtual 218, 3) := dk_182 0 218 (dk_at dksX4_sizeOf_0 6 rfl rfl)
theorem dX4_sizeOf_9 : decode cX4_sizeOf 9 = .ok (.if_icmp .ge 26, 3) := dk_162 0 26 (dk_at dksX4_sizeOf_0 9 rfl rfl)
theorem dX4_sizeOf_12 : decode cX4_sizeOf 12 = .ok (.iload_n 2, 1) := dk_28 (dk_at dksX4_sizeOf_0 12 rfl rfl)
theorem dX4_sizeOf_13 : decode cX4_sizeOf 13 = .ok (.aload_n 0, 1) := dk_42 (dk_at dksX4_sizeOf_0 13 rfl rfl)
theorem dX4_sizeOf_14 : decode cX4_sizeOf 14 = .ok (.iload_n 1, 1) := dk_27 (dk_at dksX4_sizeOf_0 14 rfl rfl)
theorem dX4_sizeOf_15 : decode cX4_sizeOf 15 = .ok (.iload_n 3, 1) := dk_29 (dk_at dksX4_sizeOf_0 15 rfl rfl)
theorem dX4_sizeOf_16 : decode cX4_sizeOf 16 = .ok (.invokevirtual 244, 3) := dk_182 0 244 (dk_at dksX4_sizeOf_0 16 rfl rfl)
theorem dX4_sizeOf_19 : decode cX4_sizeOf 19 = .ok (.ifCond .eq 7, 3) := dk_153 0 7 (dk_at dksX4_sizeOf_0 19 rfl rfl)
theorem dX4_sizeOf_22 : decode cX4_sizeOf 22 = .ok (.iconst 1, 1) := dk_4 (dk_at dksX4_sizeOf_0 22 rfl rfl)
theorem dX4_sizeOf_23 : decode cX4_sizeOf 23 = .ok (.goto 4, 3) := dk_167 0 4 (dk_at dksX4_sizeOf_1 0 rfl rfl)
theorem dX4_sizeOf_26 : decode cX4_sizeOf 26 = .ok (.iconst 0, 1) := dk_3 (dk_at dksX4_sizeOf_1 3 rfl rfl)
theorem dX4_sizeOf_27 : decode cX4_sizeOf 27 = .ok (.iadd, 1) := dk_96 (dk_at dksX4_sizeOf_1 4 rfl rfl)
theorem dX4_sizeOf_28 : decode cX4_sizeOf 28 = .ok (.istore_n 2, 1) := dk_61 (dk_at dksX4_sizeOf_1 5 rfl rfl)
theorem dX4_sizeOf_29 : decode cX4_sizeOf 29 = .ok (.iinc 3 1, 3) := dk_132 3 1 (dk_at dksX4_sizeOf_1 6 rfl rfl)
theorem dX4_sizeOf_32 : decode cX4_sizeOf 32 = .ok (.goto (-28), 3) := dk_167 255 228 (dk_at dksX4_sizeOf_1 9 rfl rfl)
theorem dX4_sizeOf_35 : decode cX4_sizeOf 35 = .ok (.iload_n 2, 1) := dk_28 (dk_at dksX4_sizeOf_1 12 rfl rfl)
theorem dX4_sizeOf_36 : decode cX4_sizeOf 36 = .ok (.ireturn, 1) := dk_172 (dk_at dksX4_sizeOf_1 13 rfl rfl)
abbrev cX4_pairsIn : ByteArray := prog_12_method_71_code
def yX4_pairsIn : MethodName := ⟨RX4, "pairsIn", "(I)I"⟩
def dkwX4_pairsIn_4 : List UInt8 := [172]
abbrev dktX4_pairsIn_4 : List UInt8 := dkwX4_pairsIn_4 ++ []
def dkwX4_pairsIn_3 : List UInt8 := [46, 160, 0, 7, 4, 167, 0, 4, 3, 96, 61, 132, 4, 1, 167, 255, 187, 132, 3, 1, 167, 255, 170, 28]
abbrev dktX4_pairsIn_3 : List UInt8 := dkwX4_pairsIn_3 ++ dktX4_pairsIn_4
def dkwX4_pairsIn_2 : List UInt8 := [153, 0, 32, 42, 21, 4, 182, 0, 248, 153, 0, 23, 42, 180, 0, 34, 29, 46, 42, 180, 0, 34, 21, 4]
abbrev dktX4_pairsIn_2 : List UInt8 := dkwX4_pairsIn_2 ++ dktX4_pairsIn_3
def dkwX4_pairsIn_1 : List UInt8 := [29, 182, 0, 244, 153, 0, 50, 42, 27, 21, 4, 182, 0, 244, 153, 0, 40, 42, 29, 182, 0, 248]
abbrev dktX4_pairsIn_1 : List UInt8 := dkwX4_pairsIn_1 ++ dktX4_pairsIn_2
def dkwX4_pairsIn_0 : List UInt8 := [3, 61, 3, 62, 29, 42, 182, 0, 218, 162, 0, 84, 3, 54, 4, 21, 4, 29, 162, 0, 69, 28, 42, 27]
abbrev dktX4_pairsIn_0 : List UInt8 := dkwX4_pairsIn_0 ++ dktX4_pairsIn_1
theorem dksX4_pairsIn_0 : cX4_pairsIn.data.toList.drop 0 = dktX4_pairsIn_0 := by decide +kernel
theorem dksX4_pairsIn_1 : cX4_pairsIn.data.toList.drop 24 = dktX4_pairsIn_1 := dk_seg dksX4_pairsIn_0 24 rfl rfl
theorem dksX4_pairsIn_2 : cX4_pairsIn.data.toList.drop 46 = dktX4_pairsIn_2 := dk_seg dksX4_pairsIn_1 22 rfl rfl
theorem dksX4_pairsIn_3 : cX4_pairsIn.data.toList.drop 70 = dktX4_pairsIn_3 := dk_seg dksX4_pairsIn_2 24 rfl rfl
theorem dksX4_pairsIn_4 : cX4_pairsIn.data.toList.drop 94 = dktX4_pairsIn_4 := dk_seg dksX4_pairsIn_3 24 rfl rfl
theorem dX4_pairsIn_0 : decode cX4_pairsIn 0 = .ok (.iconst 0, 1) := dk_3 (dk_at dksX4_pairsIn_0 0 rfl rfl)
theorem dX4_pairsIn_1 : decode cX4_pairsIn 1 = .ok (.istore_n 2, 1) := dk_61 (dk_at dksX4_pairsIn_0 1 rfl rfl)
theorem dX4_pairsIn_2 : decode cX4_pairsIn 2 = .ok (.iconst 0, 1) := dk_3 (dk_at dksX4_pairsIn_0 2 rfl rfl)
theorem dX4_pairsIn_3 : decode cX4_pairsIn 3 = .ok (.istore_n 3, 1) := dk_62 (dk_at dksX4_pairsIn_0 3 rfl rfl)
theorem dX4_pairsIn_4 : decode cX4_pairsIn 4 = .ok (.iload_n 3, 1) := dk_29 (dk_at dksX4_pairsIn_0 4 rfl rfl)
theorem dX4_pairsIn_5 : decode cX4_pairsIn 5 = .ok (.aload_n 0, 1) := dk_42 (dk_at dksX4_pairsIn_0 5 rfl rfl)
theorem dX4_pairsIn_6 : decode cX4_pairsIn 6 = .ok (.invokevirtual 218, 3) := dk_182 0 218 (dk_at dksX4_pairsIn_0 6 rfl rfl)
theorem dX4_pairsIn_9 : decode cX4_pairsIn 9 = .ok (.if_icmp .ge 84, 3) := dk_162 0 84 (dk_at dksX4_pairsIn_0 9 rfl rfl)
theorem dX4_pairsIn_12 : decode cX4_pairsIn 12 = .ok (.iconst 0, 1) := dk_3 (dk_at dksX4_pairsIn_0 12 rfl rfl)
theorem dX4_pairsIn_13 : decode cX4_pairsIn 13 = .ok (.istore 4, 2) := dk_54 4 (dk_at dksX4_pairsIn_0 13 rfl rfl)
theorem dX4_pairsIn_15 : decode cX4_pairsIn 15 = .ok (.iload 4, 2) := dk_21 4 (dk_at dksX4_pairsIn_0 15 rfl rfl)
theorem dX4_pairsIn_17 : decode cX4_pairsIn 17 = .ok (.iload_n 3, 1) := dk_29 (dk_at dksX4_pairsIn_0 17 rfl rfl)
theorem dX4_pairsIn_18 : decode cX4_pairsIn 18 = .ok (.if_icmp .ge 69, 3) := dk_162 0 69 (dk_at dksX4_pairsIn_0 18 rfl rfl)
theorem dX4_pairsIn_21 : decode cX4_pairsIn 21 = .ok (.iload_n 2, 1) := dk_28 (dk_at dksX4_pairsIn_0 21 rfl rfl)
theorem dX4_pairsIn_22 : decode cX4_pairsIn 22 = .ok (.aload_n 0, 1) := dk_42 (dk_at dksX4_pairsIn_0 22 rfl rfl)
theorem dX4_pairsIn_23 : decode cX4_pairsIn 23 = .ok (.iload_n 1, 1) := dk_27 (dk_at dksX4_pairsIn_0 23 rfl rfl)
theorem dX4_pairsIn_24 : decode cX4_pairsIn 24 = .ok (.iload_n 3, 1) := dk_29 (dk_at dksX4_pairsIn_1 0 rfl rfl)
theorem dX4_pairsIn_25 : decode cX4_pairsIn 25 = .ok (.invokevirtual 244, 3) := dk_182 0 244 (dk_at dksX4_pairsIn_1 1 rfl rfl)
theorem dX4_pairsIn_28 : decode cX4_pairsIn 28 = .ok (.ifCond .eq 50, 3) := dk_153 0 50 (dk_at dksX4_pairsIn_1 4 rfl rfl)
theorem dX4_pairsIn_31 : decode cX4_pairsIn 31 = .ok (.aload_n 0, 1) := dk_42 (dk_at dksX4_pairsIn_1 7 rfl rfl)
theorem dX4_pairsIn_32 : decode cX4_pairsIn 32 = .ok (.iload_n 1, 1) := dk_27 (dk_at dksX4_pairsIn_1 8 rfl rfl)
theorem dX4_pairsIn_33 : decode cX4_pairsIn 33 = .ok (.iload 4, 2) := dk_21 4 (dk_at dksX4_pairsIn_1 9 rfl rfl)
theorem dX4_pairsIn_35 : decode cX4_pairsIn 35 = .ok (.invokevirtual 244, 3) := dk_182 0 244 (dk_at dksX4_pairsIn_1 11 rfl rfl)
theorem dX4_pairsIn_38 : decode cX4_pairsIn 38 = .ok (.ifCond .eq 40, 3) := dk_153 0 40 (dk_at dksX4_pairsIn_1 14 rfl rfl)
theorem dX4_pairsIn_41 : decode cX4_pairsIn 41 = .ok (.aload_n 0, 1) := dk_42 (dk_at dksX4_pairsIn_1 17 rfl rfl)
theorem dX4_pairsIn_42 : decode cX4_pairsIn 42 = .ok (.iload_n 3, 1) := dk_29 (dk_at dksX4_pairsIn_1 18 rfl rfl)
theorem dX4_pairsIn_43 : decode cX4_pairsIn 43 = .ok (.invokevirtual 248, 3) := dk_182 0 248 (dk_at dksX4_pairsIn_1 19 rfl rfl)
theorem dX4_pairsIn_46 : decode cX4_pairsIn 46 = .ok (.ifCond .eq 32, 3) := dk_153 0 32 (dk_at dksX4_pairsIn_2 0 rfl rfl)
theorem dX4_pairsIn_49 : decode cX4_pairsIn 49 = .ok (.aload_n 0, 1) := dk_42 (dk_at dksX4_pairsIn_2 3 rfl rfl)
theorem dX4_pairsIn_50 : decode cX4_pairsIn 50 = .ok (.iload 4, 2) := dk_21 4 (dk_at dksX4_pairsIn_2 4 rfl rfl)
theorem dX4_pairsIn_52 : decode cX4_pairsIn 52 = .ok (.invokevirtual 248, 3) := dk_182 0 248 (dk_at dksX4_pairsIn_2 6 rfl rfl)
theorem dX4_pairsIn_55 : decode cX4_pairsIn 55 = .ok (.ifCond .eq 23, 3) := dk_153 0 23 (dk_at dksX4_pairsIn_2 9 rfl rfl)
theorem dX4_pairsIn_58 : decode cX4_pairsIn 58 = .ok (.aload_n 0, 1) := dk_42 (dk_at dksX4_pairsIn_2 12 rfl rfl)
theorem dX4_pairsIn_59 : decode cX4_pairsIn 59 = .ok (.getfield 34, 3) := dk_180 0 34 (dk_at dksX4_pairsIn_2 13 rfl rfl)
theorem dX4_pairsIn_62 : decode cX4_pairsIn 62 = .ok (.iload_n 3, 1) := dk_29 (dk_at dksX4_pairsIn_2 16 rfl rfl)
theorem dX4_pairsIn_63 : decode cX4_pairsIn 63 = .ok (.iaload, 1) := dk_46 (dk_at dksX4_pairsIn_2 17 rfl rfl)
theorem dX4_pairsIn_64 : decode cX4_pairsIn 64 = .ok (.aload_n 0, 1) := dk_42 (dk_at dksX4_pairsIn_2 18 rfl rfl)
theorem dX4_pairsIn_65 : decode cX4_pairsIn 65 = .ok (.getfield 34, 3) := dk_180 0 34 (dk_at dksX4_pairsIn_2 19 rfl rfl)
theorem dX4_pairsIn_68 : decode cX4_pairsIn 68 = .ok (.iload 4, 2) := dk_21 4 (dk_at dksX4_pairsIn_2 22 rfl rfl)
theorem dX4_pairsIn_70 : decode cX4_pairsIn 70 = .ok (.iaload, 1) := dk_46 (dk_at dksX4_pairsIn_3 0 rfl rfl)
theorem dX4_pairsIn_71 : decode cX4_pairsIn 71 = .ok (.if_icmp .ne 7, 3) := dk_160 0 7 (dk_at dksX4_pairsIn_3 1 rfl rfl)
theorem dX4_pairsIn_74 : decode cX4_pairsIn 74 = .ok (.iconst 1, 1) := dk_4 (dk_at dksX4_pairsIn_3 4 rfl rfl)
theorem dX4_pairsIn_75 : decode cX4_pairsIn 75 = .ok (.goto 4, 3) := dk_167 0 4 (dk_at dksX4_pairsIn_3 5 rfl rfl)
theorem dX4_pairsIn_78 : decode cX4_pairsIn 78 = .ok (.iconst 0, 1) := dk_3 (dk_at dksX4_pairsIn_3 8 rfl rfl)
theorem dX4_pairsIn_79 : decode cX4_pairsIn 79 = .ok (.iadd, 1) := dk_96 (dk_at dksX4_pairsIn_3 9 rfl rfl)
theorem dX4_pairsIn_80 : decode cX4_pairsIn 80 = .ok (.istore_n 2, 1) := dk_61 (dk_at dksX4_pairsIn_3 10 rfl rfl)
theorem dX4_pairsIn_81 : decode cX4_pairsIn 81 = .ok (.iinc 4 1, 3) := dk_132 4 1 (dk_at dksX4_pairsIn_3 11 rfl rfl)
theorem dX4_pairsIn_84 : decode cX4_pairsIn 84 = .ok (.goto (-69), 3) := dk_167 255 187 (dk_at dksX4_pairsIn_3 14 rfl rfl)
theorem dX4_pairsIn_87 : decode cX4_pairsIn 87 = .ok (.iinc 3 1, 3) := dk_132 3 1 (dk_at dksX4_pairsIn_3 17 rfl rfl)
theorem dX4_pairsIn_90 : decode cX4_pairsIn 90 = .ok (.goto (-86), 3) := dk_167 255 170 (dk_at dksX4_pairsIn_3 20 rfl rfl)
theorem dX4_pairsIn_93 : decode cX4_pairsIn 93 = .ok (.iload_n 2, 1) := dk_28 (dk_at dksX4_pairsIn_3 23 rfl rfl)
theorem dX4_pairsIn_94 : decode cX4_pairsIn 94 = .ok (.ireturn, 1) := dk_172 (dk_at dksX4_pairsIn_4 0 rfl rfl)
abbrev cX4_lowOf : ByteArray := prog_12_method_68_code
def yX4_lowOf : MethodName := ⟨RX4, "lowOf", "(II)I"⟩
def dkwX4_lowOf_1 : List UInt8 := [29, 172]
abbrev dktX4_lowOf_1 : List UInt8 := dkwX4_lowOf_1 ++ []
def dkwX4_lowOf_0 : List UInt8 := [3, 62, 42, 42, 27, 29, 28, 27, 182, 1, 40, 27, 182, 1, 44, 154, 0, 9, 132, 3, 1, 167, 255, 237]
abbrev dktX4_lowOf_0 : List UInt8 := dkwX4_lowOf_0 ++ dktX4_lowOf_1
theorem dksX4_lowOf_0 : cX4_lowOf.data.toList.drop 0 = dktX4_lowOf_0 := by decide +kernel
theorem dksX4_lowOf_1 : cX4_lowOf.data.toList.drop 24 = dktX4_lowOf_1 := dk_seg dksX4_lowOf_0 24 rfl rfl
theorem dX4_lowOf_0 : decode cX4_lowOf 0 = .ok (.iconst 0, 1) := dk_3 (dk_at dksX4_lowOf_0 0 rfl rfl)
theorem dX4_lowOf_1 : decode cX4_lowOf 1 = .ok (.istore_n 3, 1) := dk_62 (dk_at dksX4_lowOf_0 1 rfl rfl)
theorem dX4_lowOf_2 : decode cX4_lowOf 2 = .ok (.aload_n 0, 1) := dk_42 (dk_at dksX4_lowOf_0 2 rfl rfl)
theorem dX4_lowOf_3 : decode cX4_lowOf 3 = .ok (.aload_n 0, 1) := dk_42 (dk_at dksX4_lowOf_0 3 rfl rfl)
theorem dX4_lowOf_4 : decode cX4_lowOf 4 = .ok (.iload_n 1, 1) := dk_27 (dk_at dksX4_lowOf_0 4 rfl rfl)
theorem dX4_lowOf_5 : decode cX4_lowOf 5 = .ok (.iload_n 3, 1) := dk_29 (dk_at dksX4_lowOf_0 5 rfl rfl)
theorem dX4_lowOf_6 : decode cX4_lowOf 6 = .ok (.iload_n 2, 1) := dk_28 (dk_at dksX4_lowOf_0 6 rfl rfl)
theorem dX4_lowOf_7 : decode cX4_lowOf 7 = .ok (.iload_n 1, 1) := dk_27 (dk_at dksX4_lowOf_0 7 rfl rfl)
theorem dX4_lowOf_8 : decode cX4_lowOf 8 = .ok (.invokevirtual 296, 3) := dk_182 1 40 (dk_at dksX4_lowOf_0 8 rfl rfl)
theorem dX4_lowOf_11 : decode cX4_lowOf 11 = .ok (.iload_n 1, 1) := dk_27 (dk_at dksX4_lowOf_0 11 rfl rfl)
theorem dX4_lowOf_12 : decode cX4_lowOf 12 = .ok (.invokevirtual 300, 3) := dk_182 1 44 (dk_at dksX4_lowOf_0 12 rfl rfl)
theorem dX4_lowOf_15 : decode cX4_lowOf 15 = .ok (.ifCond .ne 9, 3) := dk_154 0 9 (dk_at dksX4_lowOf_0 15 rfl rfl)
theorem dX4_lowOf_18 : decode cX4_lowOf 18 = .ok (.iinc 3 1, 3) := dk_132 3 1 (dk_at dksX4_lowOf_0 18 rfl rfl)
theorem dX4_lowOf_21 : decode cX4_lowOf 21 = .ok (.goto (-19), 3) := dk_167 255 237 (dk_at dksX4_lowOf_0 21 rfl rfl)
theorem dX4_lowOf_24 : decode cX4_lowOf 24 = .ok (.iload_n 3, 1) := dk_29 (dk_at dksX4_lowOf_1 0 rfl rfl)
theorem dX4_lowOf_25 : decode cX4_lowOf 25 = .ok (.ireturn, 1) := dk_172 (dk_at dksX4_lowOf_1 1 rfl rfl)
abbrev cX4_waysBy : ByteArray := prog_12_method_66_code
def yX4_waysBy : MethodName := ⟨RX4, "waysBy", "(IIII)J"⟩
def dkwX4_waysBy_2 : List UInt8 := [173]
abbrev dktX4_waysBy_2 : List UInt8 := dkwX4_waysBy_2 ++ []
def dkwX4_waysBy_1 : List UInt8 := [182, 0, 218, 28, 100, 27, 21, 7, 100, 184, 1, 34, 105, 97, 55, 5, 132, 7, 1, 167, 255, 221, 22, 5]
abbrev dktX4_waysBy_1 : List UInt8 := dkwX4_waysBy_1 ++ dktX4_waysBy_2
def dkwX4_waysBy_0 : List UInt8 := [9, 55, 5, 29, 54, 7, 21, 7, 21, 4, 163, 0, 34, 22, 5, 28, 21, 7, 184, 1, 34, 42]
abbrev dktX4_waysBy_0 : List UInt8 := dkwX4_waysBy_0 ++ dktX4_waysBy_1
theorem dksX4_waysBy_0 : cX4_waysBy.data.toList.drop 0 = dktX4_waysBy_0 := by decide +kernel
theorem dksX4_waysBy_1 : cX4_waysBy.data.toList.drop 22 = dktX4_waysBy_1 := dk_seg dksX4_waysBy_0 22 rfl rfl
theorem dksX4_waysBy_2 : cX4_waysBy.data.toList.drop 46 = dktX4_waysBy_2 := dk_seg dksX4_waysBy_1 24 rfl rfl
theorem dX4_waysBy_0 : decode cX4_waysBy 0 = .ok (.lconst 0, 1) := dk_9 (dk_at dksX4_waysBy_0 0 rfl rfl)
theorem dX4_waysBy_1 : decode cX4_waysBy 1 = .ok (.lstore 5, 2) := dk_55 5 (dk_at dksX4_waysBy_0 1 rfl rfl)
theorem dX4_waysBy_3 : decode cX4_waysBy 3 = .ok (.iload_n 3, 1) := dk_29 (dk_at dksX4_waysBy_0 3 rfl rfl)
theorem dX4_waysBy_4 : decode cX4_waysBy 4 = .ok (.istore 7, 2) := dk_54 7 (dk_at dksX4_waysBy_0 4 rfl rfl)
theorem dX4_waysBy_6 : decode cX4_waysBy 6 = .ok (.iload 7, 2) := dk_21 7 (dk_at dksX4_waysBy_0 6 rfl rfl)
theorem dX4_waysBy_8 : decode cX4_waysBy 8 = .ok (.iload 4, 2) := dk_21 4 (dk_at dksX4_waysBy_0 8 rfl rfl)
theorem dX4_waysBy_10 : decode cX4_waysBy 10 = .ok (.if_icmp .gt 34, 3) := dk_163 0 34 (dk_at dksX4_waysBy_0 10 rfl rfl)
theorem dX4_waysBy_13 : decode cX4_waysBy 13 = .ok (.lload 5, 2) := dk_22 5 (dk_at dksX4_waysBy_0 13 rfl rfl)
theorem dX4_waysBy_15 : decode cX4_waysBy 15 = .ok (.iload_n 2, 1) := dk_28 (dk_at dksX4_waysBy_0 15 rfl rfl)
theorem dX4_waysBy_16 : decode cX4_waysBy 16 = .ok (.iload 7, 2) := dk_21 7 (dk_at dksX4_waysBy_0 16 rfl rfl)
theorem dX4_waysBy_18 : decode cX4_waysBy 18 = .ok (.invokestatic 290, 3) := dk_184 1 34 (dk_at dksX4_waysBy_0 18 rfl rfl)
theorem dX4_waysBy_21 : decode cX4_waysBy 21 = .ok (.aload_n 0, 1) := dk_42 (dk_at dksX4_waysBy_0 21 rfl rfl)
theorem dX4_waysBy_22 : decode cX4_waysBy 22 = .ok (.invokevirtual 218, 3) := dk_182 0 218 (dk_at dksX4_waysBy_1 0 rfl rfl)
theorem dX4_waysBy_25 : decode cX4_waysBy 25 = .ok (.iload_n 2, 1) := dk_28 (dk_at dksX4_waysBy_1 3 rfl rfl)
theorem dX4_waysBy_26 : decode cX4_waysBy 26 = .ok (.isub, 1) := dk_100 (dk_at dksX4_waysBy_1 4 rfl rfl)
theorem dX4_waysBy_27 : decode cX4_waysBy 27 = .ok (.iload_n 1, 1) := dk_27 (dk_at dksX4_waysBy_1 5 rfl rfl)
theorem dX4_waysBy_28 : decode cX4_waysBy 28 = .ok (.iload 7, 2) := dk_21 7 (dk_at dksX4_waysBy_1 6 rfl rfl)
theorem dX4_waysBy_30 : decode cX4_waysBy 30 = .ok (.isub, 1) := dk_100 (dk_at dksX4_waysBy_1 8 rfl rfl)
theorem dX4_waysBy_31 : decode cX4_waysBy 31 = .ok (.invokestatic 290, 3) := dk_184 1 34 (dk_at dksX4_waysBy_1 9 rfl rfl)
theorem dX4_waysBy_34 : decode cX4_waysBy 34 = .ok (.lmul, 1) := dk_105 (dk_at dksX4_waysBy_1 12 rfl rfl)
theorem dX4_waysBy_35 : decode cX4_waysBy 35 = .ok (.ladd, 1) := dk_97 (dk_at dksX4_waysBy_1 13 rfl rfl)
theorem dX4_waysBy_36 : decode cX4_waysBy 36 = .ok (.lstore 5, 2) := dk_55 5 (dk_at dksX4_waysBy_1 14 rfl rfl)
theorem dX4_waysBy_38 : decode cX4_waysBy 38 = .ok (.iinc 7 1, 3) := dk_132 7 1 (dk_at dksX4_waysBy_1 16 rfl rfl)
theorem dX4_waysBy_41 : decode cX4_waysBy 41 = .ok (.goto (-35), 3) := dk_167 255 221 (dk_at dksX4_waysBy_1 19 rfl rfl)
theorem dX4_waysBy_44 : decode cX4_waysBy 44 = .ok (.lload 5, 2) := dk_22 5 (dk_at dksX4_waysBy_1 22 rfl rfl)
theorem dX4_waysBy_46 : decode cX4_waysBy 46 = .ok (.lreturn, 1) := dk_173 (dk_at dksX4_waysBy_2 0 rfl rfl)
abbrev cX4_ways : ByteArray := prog_12_method_65_code
def yX4_ways : MethodName := ⟨RX4, "ways", "(II)J"⟩
def dkwX4_ways_1 : List UInt8 := [27, 100, 21, 4, 96, 133, 105, 21, 4, 133, 109, 65, 132, 4, 1, 167, 255, 233, 32, 173]
abbrev dktX4_ways_1 : List UInt8 := dkwX4_ways_1 ++ []
def dkwX4_ways_0 : List UInt8 := [27, 155, 0, 8, 27, 26, 164, 0, 5, 9, 173, 10, 65, 4, 54, 4, 21, 4, 27, 163, 0, 23, 32, 26]
abbrev dktX4_ways_0 : List UInt8 := dkwX4_ways_0 ++ dktX4_ways_1
theorem dksX4_ways_0 : cX4_ways.data.toList.drop 0 = dktX4_ways_0 := by decide +kernel
theorem dksX4_ways_1 : cX4_ways.data.toList.drop 24 = dktX4_ways_1 := dk_seg dksX4_ways_0 24 rfl rfl
theorem dX4_ways_0 : decode cX4_ways 0 = .ok (.iload_n 1, 1) := dk_27 (dk_at dksX4_ways_0 0 rfl rfl)
theorem dX4_ways_1 : decode cX4_ways 1 = .ok (.ifCond .lt 8, 3) := dk_155 0 8 (dk_at dksX4_ways_0 1 rfl rfl)
theorem dX4_ways_4 : decode cX4_ways 4 = .ok (.iload_n 1, 1) := dk_27 (dk_at dksX4_ways_0 4 rfl rfl)
theorem dX4_ways_5 : decode cX4_ways 5 = .ok (.iload_n 0, 1) := dk_26 (dk_at dksX4_ways_0 5 rfl rfl)
theorem dX4_ways_6 : decode cX4_ways 6 = .ok (.if_icmp .le 5, 3) := dk_164 0 5 (dk_at dksX4_ways_0 6 rfl rfl)
theorem dX4_ways_9 : decode cX4_ways 9 = .ok (.lconst 0, 1) := dk_9 (dk_at dksX4_ways_0 9 rfl rfl)
theorem dX4_ways_10 : decode cX4_ways 10 = .ok (.lreturn, 1) := dk_173 (dk_at dksX4_ways_0 10 rfl rfl)
theorem dX4_ways_11 : decode cX4_ways 11 = .ok (.lconst 1, 1) := dk_10 (dk_at dksX4_ways_0 11 rfl rfl)
theorem dX4_ways_12 : decode cX4_ways 12 = .ok (.lstore_n 2, 1) := dk_65 (dk_at dksX4_ways_0 12 rfl rfl)
theorem dX4_ways_13 : decode cX4_ways 13 = .ok (.iconst 1, 1) := dk_4 (dk_at dksX4_ways_0 13 rfl rfl)
theorem dX4_ways_14 : decode cX4_ways 14 = .ok (.istore 4, 2) := dk_54 4 (dk_at dksX4_ways_0 14 rfl rfl)
theorem dX4_ways_16 : decode cX4_ways 16 = .ok (.iload 4, 2) := dk_21 4 (dk_at dksX4_ways_0 16 rfl rfl)
theorem dX4_ways_18 : decode cX4_ways 18 = .ok (.iload_n 1, 1) := dk_27 (dk_at dksX4_ways_0 18 rfl rfl)
theorem dX4_ways_19 : decode cX4_ways 19 = .ok (.if_icmp .gt 23, 3) := dk_163 0 23 (dk_at dksX4_ways_0 19 rfl rfl)
theorem dX4_ways_22 : decode cX4_ways 22 = .ok (.lload_n 2, 1) := dk_32 (dk_at dksX4_ways_0 22 rfl rfl)
theorem dX4_ways_23 : decode cX4_ways 23 = .ok (.iload_n 0, 1) := dk_26 (dk_at dksX4_ways_0 23 rfl rfl)
theorem dX4_ways_24 : decode cX4_ways 24 = .ok (.iload_n 1, 1) := dk_27 (dk_at dksX4_ways_1 0 rfl rfl)
theorem dX4_ways_25 : decode cX4_ways 25 = .ok (.isub, 1) := dk_100 (dk_at dksX4_ways_1 1 rfl rfl)
theorem dX4_ways_26 : decode cX4_ways 26 = .ok (.iload 4, 2) := dk_21 4 (dk_at dksX4_ways_1 2 rfl rfl)
theorem dX4_ways_28 : decode cX4_ways 28 = .ok (.iadd, 1) := dk_96 (dk_at dksX4_ways_1 4 rfl rfl)
theorem dX4_ways_29 : decode cX4_ways 29 = .ok (.i2l, 1) := dk_133 (dk_at dksX4_ways_1 5 rfl rfl)
theorem dX4_ways_30 : decode cX4_ways 30 = .ok (.lmul, 1) := dk_105 (dk_at dksX4_ways_1 6 rfl rfl)
theorem dX4_ways_31 : decode cX4_ways 31 = .ok (.iload 4, 2) := dk_21 4 (dk_at dksX4_ways_1 7 rfl rfl)
theorem dX4_ways_33 : decode cX4_ways 33 = .ok (.i2l, 1) := dk_133 (dk_at dksX4_ways_1 9 rfl rfl)
theorem dX4_ways_34 : decode cX4_ways 34 = .ok (.ldiv, 1) := dk_109 (dk_at dksX4_ways_1 10 rfl rfl)
theorem dX4_ways_35 : decode cX4_ways 35 = .ok (.lstore_n 2, 1) := dk_65 (dk_at dksX4_ways_1 11 rfl rfl)
theorem dX4_ways_36 : decode cX4_ways 36 = .ok (.iinc 4 1, 3) := dk_132 4 1 (dk_at dksX4_ways_1 12 rfl rfl)
theorem dX4_ways_39 : decode cX4_ways 39 = .ok (.goto (-23), 3) := dk_167 255 233 (dk_at dksX4_ways_1 15 rfl rfl)
theorem dX4_ways_42 : decode cX4_ways 42 = .ok (.lload_n 2, 1) := dk_32 (dk_at dksX4_ways_1 18 rfl rfl)
theorem dX4_ways_43 : decode cX4_ways 43 = .ok (.lreturn, 1) := dk_173 (dk_at dksX4_ways_1 19 rfl rfl)
abbrev cX4_isMuch : ByteArray := prog_12_method_67_code
def yX4_isMuch : MethodName := ⟨RX4, "isMuch", "(JI)Z"⟩
def dkwX4_isMuch_1 : List UInt8 := [158, 0, 7, 4, 167, 0, 4, 3, 172]
abbrev dktX4_isMuch_1 : List UInt8 := dkwX4_isMuch_1 ++ []
def dkwX4_isMuch_0 : List UInt8 := [20, 1, 38, 31, 105, 42, 180, 0, 20, 16, 7, 46, 133, 42, 182, 0, 218, 29, 184, 1, 34, 105, 148]
abbrev dktX4_isMuch_0 : List UInt8 := dkwX4_isMuch_0 ++ dktX4_isMuch_1
theorem dksX4_isMuch_0 : cX4_isMuch.data.toList.drop 0 = dktX4_isMuch_0 := by decide +kernel
theorem dksX4_isMuch_1 : cX4_isMuch.data.toList.drop 23 = dktX4_isMuch_1 := dk_seg dksX4_isMuch_0 23 rfl rfl
theorem dX4_isMuch_0 : decode cX4_isMuch 0 = .ok (.ldc2_w 294, 3) := dk_20 1 38 (dk_at dksX4_isMuch_0 0 rfl rfl)
theorem dX4_isMuch_3 : decode cX4_isMuch 3 = .ok (.lload_n 1, 1) := dk_31 (dk_at dksX4_isMuch_0 3 rfl rfl)
theorem dX4_isMuch_4 : decode cX4_isMuch 4 = .ok (.lmul, 1) := dk_105 (dk_at dksX4_isMuch_0 4 rfl rfl)
theorem dX4_isMuch_5 : decode cX4_isMuch 5 = .ok (.aload_n 0, 1) := dk_42 (dk_at dksX4_isMuch_0 5 rfl rfl)
theorem dX4_isMuch_6 : decode cX4_isMuch 6 = .ok (.getfield 20, 3) := dk_180 0 20 (dk_at dksX4_isMuch_0 6 rfl rfl)
theorem dX4_isMuch_9 : decode cX4_isMuch 9 = .ok (.bipush 7, 2) := dk_16 7 (dk_at dksX4_isMuch_0 9 rfl rfl)
theorem dX4_isMuch_11 : decode cX4_isMuch 11 = .ok (.iaload, 1) := dk_46 (dk_at dksX4_isMuch_0 11 rfl rfl)
theorem dX4_isMuch_12 : decode cX4_isMuch 12 = .ok (.i2l, 1) := dk_133 (dk_at dksX4_isMuch_0 12 rfl rfl)
theorem dX4_isMuch_13 : decode cX4_isMuch 13 = .ok (.aload_n 0, 1) := dk_42 (dk_at dksX4_isMuch_0 13 rfl rfl)
theorem dX4_isMuch_14 : decode cX4_isMuch 14 = .ok (.invokevirtual 218, 3) := dk_182 0 218 (dk_at dksX4_isMuch_0 14 rfl rfl)
theorem dX4_isMuch_17 : decode cX4_isMuch 17 = .ok (.iload_n 3, 1) := dk_29 (dk_at dksX4_isMuch_0 17 rfl rfl)
theorem dX4_isMuch_18 : decode cX4_isMuch 18 = .ok (.invokestatic 290, 3) := dk_184 1 34 (dk_at dksX4_isMuch_0 18 rfl rfl)
theorem dX4_isMuch_21 : decode cX4_isMuch 21 = .ok (.lmul, 1) := dk_105 (dk_at dksX4_isMuch_0 21 rfl rfl)
theorem dX4_isMuch_22 : decode cX4_isMuch 22 = .ok (.lcmp, 1) := dk_148 (dk_at dksX4_isMuch_0 22 rfl rfl)
theorem dX4_isMuch_23 : decode cX4_isMuch 23 = .ok (.ifCond .le 7, 3) := dk_158 0 7 (dk_at dksX4_isMuch_1 0 rfl rfl)
theorem dX4_isMuch_26 : decode cX4_isMuch 26 = .ok (.iconst 1, 1) := dk_4 (dk_at dksX4_isMuch_1 3 rfl rfl)
theorem dX4_isMuch_27 : decode cX4_isMuch 27 = .ok (.goto 4, 3) := dk_167 0 4 (dk_at dksX4_isMuch_1 4 rfl rfl)
theorem dX4_isMuch_30 : decode cX4_isMuch 30 = .ok (.iconst 0, 1) := dk_3 (dk_at dksX4_isMuch_1 7 rfl rfl)
theorem dX4_isMuch_31 : decode cX4_isMuch 31 = .ok (.ireturn, 1) := dk_172 (dk_at dksX4_isMuch_1 8 rfl rfl)
abbrev cX4_highOf : ByteArray := prog_12_method_69_code
def yX4_highOf : MethodName := ⟨RX4, "highOf", "(II)I"⟩
def dkwX4_highOf_1 : List UInt8 := [167, 255, 237, 29, 172]
abbrev dktX4_highOf_1 : List UInt8 := dkwX4_highOf_1 ++ []
def dkwX4_highOf_0 : List UInt8 := [42, 182, 0, 218, 62, 42, 42, 27, 29, 3, 28, 182, 1, 40, 27, 182, 1, 44, 154, 0, 9, 132, 3, 255]
abbrev dktX4_highOf_0 : List UInt8 := dkwX4_highOf_0 ++ dktX4_highOf_1
theorem dksX4_highOf_0 : cX4_highOf.data.toList.drop 0 = dktX4_highOf_0 := by decide +kernel
theorem dksX4_highOf_1 : cX4_highOf.data.toList.drop 24 = dktX4_highOf_1 := dk_seg dksX4_highOf_0 24 rfl rfl
theorem dX4_highOf_0 : decode cX4_highOf 0 = .ok (.aload_n 0, 1) := dk_42 (dk_at dksX4_highOf_0 0 rfl rfl)
theorem dX4_highOf_1 : decode cX4_highOf 1 = .ok (.invokevirtual 218, 3) := dk_182 0 218 (dk_at dksX4_highOf_0 1 rfl rfl)
theorem dX4_highOf_4 : decode cX4_highOf 4 = .ok (.istore_n 3, 1) := dk_62 (dk_at dksX4_highOf_0 4 rfl rfl)
theorem dX4_highOf_5 : decode cX4_highOf 5 = .ok (.aload_n 0, 1) := dk_42 (dk_at dksX4_highOf_0 5 rfl rfl)
theorem dX4_highOf_6 : decode cX4_highOf 6 = .ok (.aload_n 0, 1) := dk_42 (dk_at dksX4_highOf_0 6 rfl rfl)
theorem dX4_highOf_7 : decode cX4_highOf 7 = .ok (.iload_n 1, 1) := dk_27 (dk_at dksX4_highOf_0 7 rfl rfl)
theorem dX4_highOf_8 : decode cX4_highOf 8 = .ok (.iload_n 3, 1) := dk_29 (dk_at dksX4_highOf_0 8 rfl rfl)
theorem dX4_highOf_9 : decode cX4_highOf 9 = .ok (.iconst 0, 1) := dk_3 (dk_at dksX4_highOf_0 9 rfl rfl)
theorem dX4_highOf_10 : decode cX4_highOf 10 = .ok (.iload_n 2, 1) := dk_28 (dk_at dksX4_highOf_0 10 rfl rfl)
theorem dX4_highOf_11 : decode cX4_highOf 11 = .ok (.invokevirtual 296, 3) := dk_182 1 40 (dk_at dksX4_highOf_0 11 rfl rfl)
theorem dX4_highOf_14 : decode cX4_highOf 14 = .ok (.iload_n 1, 1) := dk_27 (dk_at dksX4_highOf_0 14 rfl rfl)
theorem dX4_highOf_15 : decode cX4_highOf 15 = .ok (.invokevirtual 300, 3) := dk_182 1 44 (dk_at dksX4_highOf_0 15 rfl rfl)
theorem dX4_highOf_18 : decode cX4_highOf 18 = .ok (.ifCond .ne 9, 3) := dk_154 0 9 (dk_at dksX4_highOf_0 18 rfl rfl)
theorem dX4_highOf_21 : decode cX4_highOf 21 = .ok (.iinc 3 (-1), 3) := dk_132 3 255 (dk_at dksX4_highOf_0 21 rfl rfl)
theorem dX4_highOf_24 : decode cX4_highOf 24 = .ok (.goto (-19), 3) := dk_167 255 237 (dk_at dksX4_highOf_1 0 rfl rfl)
theorem dX4_highOf_27 : decode cX4_highOf 27 = .ok (.iload_n 3, 1) := dk_29 (dk_at dksX4_highOf_1 3 rfl rfl)
theorem dX4_highOf_28 : decode cX4_highOf 28 = .ok (.ireturn, 1) := dk_172 (dk_at dksX4_highOf_1 4 rfl rfl)
abbrev cX4_estimate : ByteArray := prog_12_method_74_code
def yX4_estimate : MethodName := ⟨RX4, "estimate", "(II)J"⟩
def dkwX4_estimate_5 : List UInt8 := [182, 1, 51, 133, 105, 101, 22, 5, 22, 5, 10, 101, 105, 28, 184, 1, 60, 173]
abbrev dktX4_estimate_5 : List UInt8 := dkwX4_estimate_5 ++ []
def dkwX4_estimate_4 : List UInt8 := [55, 5, 33, 42, 27, 182, 1, 3, 133, 105, 22, 5, 10, 101, 105, 33, 33, 10, 101, 105, 42, 27]
abbrev dktX4_estimate_4 : List UInt8 := dkwX4_estimate_4 ++ dktX4_estimate_5
def dkwX4_estimate_3 : List UInt8 := [9, 173, 42, 42, 180, 0, 20, 3, 182, 0, 255, 42, 182, 0, 218, 133, 66, 42, 27, 182, 1, 48, 133]
abbrev dktX4_estimate_3 : List UInt8 := dkwX4_estimate_3 ++ dktX4_estimate_4
def dkwX4_estimate_2 : List UInt8 := [167, 0, 4, 3, 182, 1, 48, 5, 162, 0, 7, 4, 167, 0, 4, 3, 5, 5, 182, 0, 204, 153, 0, 5]
abbrev dktX4_estimate_2 : List UInt8 := dkwX4_estimate_2 ++ dktX4_estimate_3
def dkwX4_estimate_1 : List UInt8 := [167, 0, 4, 3, 4, 4, 182, 0, 204, 154, 0, 37, 42, 42, 27, 184, 0, 251, 153, 0, 7, 27]
abbrev dktX4_estimate_1 : List UInt8 := dkwX4_estimate_1 ++ dktX4_estimate_2
def dkwX4_estimate_0 : List UInt8 := [42, 3, 181, 0, 48, 42, 27, 184, 0, 251, 153, 0, 13, 28, 133, 9, 10, 184, 0, 107, 154, 0, 7, 4]
abbrev dktX4_estimate_0 : List UInt8 := dkwX4_estimate_0 ++ dktX4_estimate_1
theorem dksX4_estimate_0 : cX4_estimate.data.toList.drop 0 = dktX4_estimate_0 := by decide +kernel
theorem dksX4_estimate_1 : cX4_estimate.data.toList.drop 24 = dktX4_estimate_1 := dk_seg dksX4_estimate_0 24 rfl rfl
theorem dksX4_estimate_2 : cX4_estimate.data.toList.drop 46 = dktX4_estimate_2 := dk_seg dksX4_estimate_1 22 rfl rfl
theorem dksX4_estimate_3 : cX4_estimate.data.toList.drop 70 = dktX4_estimate_3 := dk_seg dksX4_estimate_2 24 rfl rfl
theorem dksX4_estimate_4 : cX4_estimate.data.toList.drop 93 = dktX4_estimate_4 := dk_seg dksX4_estimate_3 23 rfl rfl
theorem dksX4_estimate_5 : cX4_estimate.data.toList.drop 115 = dktX4_estimate_5 := dk_seg dksX4_estimate_4 22 rfl rfl
theorem dX4_estimate_0 : decode cX4_estimate 0 = .ok (.aload_n 0, 1) := dk_42 (dk_at dksX4_estimate_0 0 rfl rfl)
theorem dX4_estimate_1 : decode cX4_estimate 1 = .ok (.iconst 0, 1) := dk_3 (dk_at dksX4_estimate_0 1 rfl rfl)
theorem dX4_estimate_2 : decode cX4_estimate 2 = .ok (.putfield 48, 3) := dk_181 0 48 (dk_at dksX4_estimate_0 2 rfl rfl)
theorem dX4_estimate_5 : decode cX4_estimate 5 = .ok (.aload_n 0, 1) := dk_42 (dk_at dksX4_estimate_0 5 rfl rfl)
theorem dX4_estimate_6 : decode cX4_estimate 6 = .ok (.iload_n 1, 1) := dk_27 (dk_at dksX4_estimate_0 6 rfl rfl)
theorem dX4_estimate_7 : decode cX4_estimate 7 = .ok (.invokestatic 251, 3) := dk_184 0 251 (dk_at dksX4_estimate_0 7 rfl rfl)
theorem dX4_estimate_10 : decode cX4_estimate 10 = .ok (.ifCond .eq 13, 3) := dk_153 0 13 (dk_at dksX4_estimate_0 10 rfl rfl)
theorem dX4_estimate_13 : decode cX4_estimate 13 = .ok (.iload_n 2, 1) := dk_28 (dk_at dksX4_estimate_0 13 rfl rfl)
theorem dX4_estimate_14 : decode cX4_estimate 14 = .ok (.i2l, 1) := dk_133 (dk_at dksX4_estimate_0 14 rfl rfl)
theorem dX4_estimate_15 : decode cX4_estimate 15 = .ok (.lconst 0, 1) := dk_9 (dk_at dksX4_estimate_0 15 rfl rfl)
theorem dX4_estimate_16 : decode cX4_estimate 16 = .ok (.lconst 1, 1) := dk_10 (dk_at dksX4_estimate_0 16 rfl rfl)
theorem dX4_estimate_17 : decode cX4_estimate 17 = .ok (.invokestatic 107, 3) := dk_184 0 107 (dk_at dksX4_estimate_0 17 rfl rfl)
theorem dX4_estimate_20 : decode cX4_estimate 20 = .ok (.ifCond .ne 7, 3) := dk_154 0 7 (dk_at dksX4_estimate_0 20 rfl rfl)
theorem dX4_estimate_23 : decode cX4_estimate 23 = .ok (.iconst 1, 1) := dk_4 (dk_at dksX4_estimate_0 23 rfl rfl)
theorem dX4_estimate_24 : decode cX4_estimate 24 = .ok (.goto 4, 3) := dk_167 0 4 (dk_at dksX4_estimate_1 0 rfl rfl)
theorem dX4_estimate_27 : decode cX4_estimate 27 = .ok (.iconst 0, 1) := dk_3 (dk_at dksX4_estimate_1 3 rfl rfl)
theorem dX4_estimate_28 : decode cX4_estimate 28 = .ok (.iconst 1, 1) := dk_4 (dk_at dksX4_estimate_1 4 rfl rfl)
theorem dX4_estimate_29 : decode cX4_estimate 29 = .ok (.iconst 1, 1) := dk_4 (dk_at dksX4_estimate_1 5 rfl rfl)
theorem dX4_estimate_30 : decode cX4_estimate 30 = .ok (.invokevirtual 204, 3) := dk_182 0 204 (dk_at dksX4_estimate_1 6 rfl rfl)
theorem dX4_estimate_33 : decode cX4_estimate 33 = .ok (.ifCond .ne 37, 3) := dk_154 0 37 (dk_at dksX4_estimate_1 9 rfl rfl)
theorem dX4_estimate_36 : decode cX4_estimate 36 = .ok (.aload_n 0, 1) := dk_42 (dk_at dksX4_estimate_1 12 rfl rfl)
theorem dX4_estimate_37 : decode cX4_estimate 37 = .ok (.aload_n 0, 1) := dk_42 (dk_at dksX4_estimate_1 13 rfl rfl)
theorem dX4_estimate_38 : decode cX4_estimate 38 = .ok (.iload_n 1, 1) := dk_27 (dk_at dksX4_estimate_1 14 rfl rfl)
theorem dX4_estimate_39 : decode cX4_estimate 39 = .ok (.invokestatic 251, 3) := dk_184 0 251 (dk_at dksX4_estimate_1 15 rfl rfl)
theorem dX4_estimate_42 : decode cX4_estimate 42 = .ok (.ifCond .eq 7, 3) := dk_153 0 7 (dk_at dksX4_estimate_1 18 rfl rfl)
theorem dX4_estimate_45 : decode cX4_estimate 45 = .ok (.iload_n 1, 1) := dk_27 (dk_at dksX4_estimate_1 21 rfl rfl)
theorem dX4_estimate_46 : decode cX4_estimate 46 = .ok (.goto 4, 3) := dk_167 0 4 (dk_at dksX4_estimate_2 0 rfl rfl)
theorem dX4_estimate_49 : decode cX4_estimate 49 = .ok (.iconst 0, 1) := dk_3 (dk_at dksX4_estimate_2 3 rfl rfl)
theorem dX4_estimate_50 : decode cX4_estimate 50 = .ok (.invokevirtual 304, 3) := dk_182 1 48 (dk_at dksX4_estimate_2 4 rfl rfl)
theorem dX4_estimate_53 : decode cX4_estimate 53 = .ok (.iconst 2, 1) := dk_5 (dk_at dksX4_estimate_2 7 rfl rfl)
theorem dX4_estimate_54 : decode cX4_estimate 54 = .ok (.if_icmp .ge 7, 3) := dk_162 0 7 (dk_at dksX4_estimate_2 8 rfl rfl)
theorem dX4_estimate_57 : decode cX4_estimate 57 = .ok (.iconst 1, 1) := dk_4 (dk_at dksX4_estimate_2 11 rfl rfl)
theorem dX4_estimate_58 : decode cX4_estimate 58 = .ok (.goto 4, 3) := dk_167 0 4 (dk_at dksX4_estimate_2 12 rfl rfl)
theorem dX4_estimate_61 : decode cX4_estimate 61 = .ok (.iconst 0, 1) := dk_3 (dk_at dksX4_estimate_2 15 rfl rfl)
theorem dX4_estimate_62 : decode cX4_estimate 62 = .ok (.iconst 2, 1) := dk_5 (dk_at dksX4_estimate_2 16 rfl rfl)
theorem dX4_estimate_63 : decode cX4_estimate 63 = .ok (.iconst 2, 1) := dk_5 (dk_at dksX4_estimate_2 17 rfl rfl)
theorem dX4_estimate_64 : decode cX4_estimate 64 = .ok (.invokevirtual 204, 3) := dk_182 0 204 (dk_at dksX4_estimate_2 18 rfl rfl)
theorem dX4_estimate_67 : decode cX4_estimate 67 = .ok (.ifCond .eq 5, 3) := dk_153 0 5 (dk_at dksX4_estimate_2 21 rfl rfl)
theorem dX4_estimate_70 : decode cX4_estimate 70 = .ok (.lconst 0, 1) := dk_9 (dk_at dksX4_estimate_3 0 rfl rfl)
theorem dX4_estimate_71 : decode cX4_estimate 71 = .ok (.lreturn, 1) := dk_173 (dk_at dksX4_estimate_3 1 rfl rfl)
theorem dX4_estimate_72 : decode cX4_estimate 72 = .ok (.aload_n 0, 1) := dk_42 (dk_at dksX4_estimate_3 2 rfl rfl)
theorem dX4_estimate_73 : decode cX4_estimate 73 = .ok (.aload_n 0, 1) := dk_42 (dk_at dksX4_estimate_3 3 rfl rfl)
theorem dX4_estimate_74 : decode cX4_estimate 74 = .ok (.getfield 20, 3) := dk_180 0 20 (dk_at dksX4_estimate_3 4 rfl rfl)
theorem dX4_estimate_77 : decode cX4_estimate 77 = .ok (.iconst 0, 1) := dk_3 (dk_at dksX4_estimate_3 7 rfl rfl)
theorem dX4_estimate_78 : decode cX4_estimate 78 = .ok (.invokevirtual 255, 3) := dk_182 0 255 (dk_at dksX4_estimate_3 8 rfl rfl)
theorem dX4_estimate_81 : decode cX4_estimate 81 = .ok (.aload_n 0, 1) := dk_42 (dk_at dksX4_estimate_3 11 rfl rfl)
theorem dX4_estimate_82 : decode cX4_estimate 82 = .ok (.invokevirtual 218, 3) := dk_182 0 218 (dk_at dksX4_estimate_3 12 rfl rfl)
theorem dX4_estimate_85 : decode cX4_estimate 85 = .ok (.i2l, 1) := dk_133 (dk_at dksX4_estimate_3 15 rfl rfl)
theorem dX4_estimate_86 : decode cX4_estimate 86 = .ok (.lstore_n 3, 1) := dk_66 (dk_at dksX4_estimate_3 16 rfl rfl)
theorem dX4_estimate_87 : decode cX4_estimate 87 = .ok (.aload_n 0, 1) := dk_42 (dk_at dksX4_estimate_3 17 rfl rfl)
theorem dX4_estimate_88 : decode cX4_estimate 88 = .ok (.iload_n 1, 1) := dk_27 (dk_at dksX4_estimate_3 18 rfl rfl)
theorem dX4_estimate_89 : decode cX4_estimate 89 = .ok (.invokevirtual 304, 3) := dk_182 1 48 (dk_at dksX4_estimate_3 19 rfl rfl)
theorem dX4_estimate_92 : decode cX4_estimate 92 = .ok (.i2l, 1) := dk_133 (dk_at dksX4_estimate_3 22 rfl rfl)
theorem dX4_estimate_93 : decode cX4_estimate 93 = .ok (.lstore 5, 2) := dk_55 5 (dk_at dksX4_estimate_4 0 rfl rfl)
theorem dX4_estimate_95 : decode cX4_estimate 95 = .ok (.lload_n 3, 1) := dk_33 (dk_at dksX4_estimate_4 2 rfl rfl)
theorem dX4_estimate_96 : decode cX4_estimate 96 = .ok (.aload_n 0, 1) := dk_42 (dk_at dksX4_estimate_4 3 rfl rfl)
theorem dX4_estimate_97 : decode cX4_estimate 97 = .ok (.iload_n 1, 1) := dk_27 (dk_at dksX4_estimate_4 4 rfl rfl)
theorem dX4_estimate_98 : decode cX4_estimate 98 = .ok (.invokevirtual 259, 3) := dk_182 1 3 (dk_at dksX4_estimate_4 5 rfl rfl)
theorem dX4_estimate_101 : decode cX4_estimate 101 = .ok (.i2l, 1) := dk_133 (dk_at dksX4_estimate_4 8 rfl rfl)
theorem dX4_estimate_102 : decode cX4_estimate 102 = .ok (.lmul, 1) := dk_105 (dk_at dksX4_estimate_4 9 rfl rfl)
theorem dX4_estimate_103 : decode cX4_estimate 103 = .ok (.lload 5, 2) := dk_22 5 (dk_at dksX4_estimate_4 10 rfl rfl)
theorem dX4_estimate_105 : decode cX4_estimate 105 = .ok (.lconst 1, 1) := dk_10 (dk_at dksX4_estimate_4 12 rfl rfl)
theorem dX4_estimate_106 : decode cX4_estimate 106 = .ok (.lsub, 1) := dk_101 (dk_at dksX4_estimate_4 13 rfl rfl)
theorem dX4_estimate_107 : decode cX4_estimate 107 = .ok (.lmul, 1) := dk_105 (dk_at dksX4_estimate_4 14 rfl rfl)
theorem dX4_estimate_108 : decode cX4_estimate 108 = .ok (.lload_n 3, 1) := dk_33 (dk_at dksX4_estimate_4 15 rfl rfl)
theorem dX4_estimate_109 : decode cX4_estimate 109 = .ok (.lload_n 3, 1) := dk_33 (dk_at dksX4_estimate_4 16 rfl rfl)
theorem dX4_estimate_110 : decode cX4_estimate 110 = .ok (.lconst 1, 1) := dk_10 (dk_at dksX4_estimate_4 17 rfl rfl)
theorem dX4_estimate_111 : decode cX4_estimate 111 = .ok (.lsub, 1) := dk_101 (dk_at dksX4_estimate_4 18 rfl rfl)
theorem dX4_estimate_112 : decode cX4_estimate 112 = .ok (.lmul, 1) := dk_105 (dk_at dksX4_estimate_4 19 rfl rfl)
theorem dX4_estimate_113 : decode cX4_estimate 113 = .ok (.aload_n 0, 1) := dk_42 (dk_at dksX4_estimate_4 20 rfl rfl)
theorem dX4_estimate_114 : decode cX4_estimate 114 = .ok (.iload_n 1, 1) := dk_27 (dk_at dksX4_estimate_4 21 rfl rfl)
theorem dX4_estimate_115 : decode cX4_estimate 115 = .ok (.invokevirtual 307, 3) := dk_182 1 51 (dk_at dksX4_estimate_5 0 rfl rfl)
theorem dX4_estimate_118 : decode cX4_estimate 118 = .ok (.i2l, 1) := dk_133 (dk_at dksX4_estimate_5 3 rfl rfl)
theorem dX4_estimate_119 : decode cX4_estimate 119 = .ok (.lmul, 1) := dk_105 (dk_at dksX4_estimate_5 4 rfl rfl)
theorem dX4_estimate_120 : decode cX4_estimate 120 = .ok (.lsub, 1) := dk_101 (dk_at dksX4_estimate_5 5 rfl rfl)
theorem dX4_estimate_121 : decode cX4_estimate 121 = .ok (.lload 5, 2) := dk_22 5 (dk_at dksX4_estimate_5 6 rfl rfl)
theorem dX4_estimate_123 : decode cX4_estimate 123 = .ok (.lload 5, 2) := dk_22 5 (dk_at dksX4_estimate_5 8 rfl rfl)
theorem dX4_estimate_125 : decode cX4_estimate 125 = .ok (.lconst 1, 1) := dk_10 (dk_at dksX4_estimate_5 10 rfl rfl)
theorem dX4_estimate_126 : decode cX4_estimate 126 = .ok (.lsub, 1) := dk_101 (dk_at dksX4_estimate_5 11 rfl rfl)
theorem dX4_estimate_127 : decode cX4_estimate 127 = .ok (.lmul, 1) := dk_105 (dk_at dksX4_estimate_5 12 rfl rfl)
theorem dX4_estimate_128 : decode cX4_estimate 128 = .ok (.iload_n 2, 1) := dk_28 (dk_at dksX4_estimate_5 13 rfl rfl)
theorem dX4_estimate_129 : decode cX4_estimate 129 = .ok (.invokestatic 316, 3) := dk_184 1 60 (dk_at dksX4_estimate_5 14 rfl rfl)
theorem dX4_estimate_132 : decode cX4_estimate 132 = .ok (.lreturn, 1) := dk_173 (dk_at dksX4_estimate_5 17 rfl rfl)
abbrev cX4_terms : ByteArray := prog_12_method_73_code
def yX4_terms : MethodName := ⟨RX4, "terms", "(JJI)J"⟩
def dkwX4_terms_2 : List UInt8 := [167, 0, 4, 32, 22, 5, 109, 173]
abbrev dktX4_terms_2 : List UInt8 := dkwX4_terms_2 ++ []
def dkwX4_terms_1 : List UInt8 := [22, 5, 22, 7, 113, 55, 9, 22, 7, 55, 5, 22, 9, 55, 7, 167, 255, 234, 21, 4, 154, 0, 7, 30]
abbrev dktX4_terms_1 : List UInt8 := dkwX4_terms_1 ++ dktX4_terms_2
def dkwX4_terms_0 : List UInt8 := [30, 9, 148, 156, 0, 8, 30, 117, 167, 0, 4, 30, 55, 5, 32, 55, 7, 22, 7, 9, 148, 153, 0, 21]
abbrev dktX4_terms_0 : List UInt8 := dkwX4_terms_0 ++ dktX4_terms_1
theorem dksX4_terms_0 : cX4_terms.data.toList.drop 0 = dktX4_terms_0 := by decide +kernel
theorem dksX4_terms_1 : cX4_terms.data.toList.drop 24 = dktX4_terms_1 := dk_seg dksX4_terms_0 24 rfl rfl
theorem dksX4_terms_2 : cX4_terms.data.toList.drop 48 = dktX4_terms_2 := dk_seg dksX4_terms_1 24 rfl rfl
theorem dX4_terms_0 : decode cX4_terms 0 = .ok (.lload_n 0, 1) := dk_30 (dk_at dksX4_terms_0 0 rfl rfl)
theorem dX4_terms_1 : decode cX4_terms 1 = .ok (.lconst 0, 1) := dk_9 (dk_at dksX4_terms_0 1 rfl rfl)
theorem dX4_terms_2 : decode cX4_terms 2 = .ok (.lcmp, 1) := dk_148 (dk_at dksX4_terms_0 2 rfl rfl)
theorem dX4_terms_3 : decode cX4_terms 3 = .ok (.ifCond .ge 8, 3) := dk_156 0 8 (dk_at dksX4_terms_0 3 rfl rfl)
theorem dX4_terms_6 : decode cX4_terms 6 = .ok (.lload_n 0, 1) := dk_30 (dk_at dksX4_terms_0 6 rfl rfl)
theorem dX4_terms_7 : decode cX4_terms 7 = .ok (.lneg, 1) := dk_117 (dk_at dksX4_terms_0 7 rfl rfl)
theorem dX4_terms_8 : decode cX4_terms 8 = .ok (.goto 4, 3) := dk_167 0 4 (dk_at dksX4_terms_0 8 rfl rfl)
theorem dX4_terms_11 : decode cX4_terms 11 = .ok (.lload_n 0, 1) := dk_30 (dk_at dksX4_terms_0 11 rfl rfl)
theorem dX4_terms_12 : decode cX4_terms 12 = .ok (.lstore 5, 2) := dk_55 5 (dk_at dksX4_terms_0 12 rfl rfl)
theorem dX4_terms_14 : decode cX4_terms 14 = .ok (.lload_n 2, 1) := dk_32 (dk_at dksX4_terms_0 14 rfl rfl)
theorem dX4_terms_15 : decode cX4_terms 15 = .ok (.lstore 7, 2) := dk_55 7 (dk_at dksX4_terms_0 15 rfl rfl)
theorem dX4_terms_17 : decode cX4_terms 17 = .ok (.lload 7, 2) := dk_22 7 (dk_at dksX4_terms_0 17 rfl rfl)
theorem dX4_terms_19 : decode cX4_terms 19 = .ok (.lconst 0, 1) := dk_9 (dk_at dksX4_terms_0 19 rfl rfl)
theorem dX4_terms_20 : decode cX4_terms 20 = .ok (.lcmp, 1) := dk_148 (dk_at dksX4_terms_0 20 rfl rfl)
theorem dX4_terms_21 : decode cX4_terms 21 = .ok (.ifCond .eq 21, 3) := dk_153 0 21 (dk_at dksX4_terms_0 21 rfl rfl)
theorem dX4_terms_24 : decode cX4_terms 24 = .ok (.lload 5, 2) := dk_22 5 (dk_at dksX4_terms_1 0 rfl rfl)
theorem dX4_terms_26 : decode cX4_terms 26 = .ok (.lload 7, 2) := dk_22 7 (dk_at dksX4_terms_1 2 rfl rfl)
theorem dX4_terms_28 : decode cX4_terms 28 = .ok (.lrem, 1) := dk_113 (dk_at dksX4_terms_1 4 rfl rfl)
theorem dX4_terms_29 : decode cX4_terms 29 = .ok (.lstore 9, 2) := dk_55 9 (dk_at dksX4_terms_1 5 rfl rfl)
theorem dX4_terms_31 : decode cX4_terms 31 = .ok (.lload 7, 2) := dk_22 7 (dk_at dksX4_terms_1 7 rfl rfl)
theorem dX4_terms_33 : decode cX4_terms 33 = .ok (.lstore 5, 2) := dk_55 5 (dk_at dksX4_terms_1 9 rfl rfl)
theorem dX4_terms_35 : decode cX4_terms 35 = .ok (.lload 9, 2) := dk_22 9 (dk_at dksX4_terms_1 11 rfl rfl)
theorem dX4_terms_37 : decode cX4_terms 37 = .ok (.lstore 7, 2) := dk_55 7 (dk_at dksX4_terms_1 13 rfl rfl)
theorem dX4_terms_39 : decode cX4_terms 39 = .ok (.goto (-22), 3) := dk_167 255 234 (dk_at dksX4_terms_1 15 rfl rfl)
theorem dX4_terms_42 : decode cX4_terms 42 = .ok (.iload 4, 2) := dk_21 4 (dk_at dksX4_terms_1 18 rfl rfl)
theorem dX4_terms_44 : decode cX4_terms 44 = .ok (.ifCond .ne 7, 3) := dk_154 0 7 (dk_at dksX4_terms_1 20 rfl rfl)
theorem dX4_terms_47 : decode cX4_terms 47 = .ok (.lload_n 0, 1) := dk_30 (dk_at dksX4_terms_1 23 rfl rfl)
theorem dX4_terms_48 : decode cX4_terms 48 = .ok (.goto 4, 3) := dk_167 0 4 (dk_at dksX4_terms_2 0 rfl rfl)
theorem dX4_terms_51 : decode cX4_terms 51 = .ok (.lload_n 2, 1) := dk_32 (dk_at dksX4_terms_2 3 rfl rfl)
theorem dX4_terms_52 : decode cX4_terms 52 = .ok (.lload 5, 2) := dk_22 5 (dk_at dksX4_terms_2 4 rfl rfl)
theorem dX4_terms_54 : decode cX4_terms 54 = .ok (.ldiv, 1) := dk_109 (dk_at dksX4_terms_2 6 rfl rfl)
theorem dX4_terms_55 : decode cX4_terms 55 = .ok (.lreturn, 1) := dk_173 (dk_at dksX4_terms_2 7 rfl rfl)
abbrev cX4_unlike : ByteArray := prog_12_method_77_code
def yX4_unlike : MethodName := ⟨RX4, "unlike", "(I)I"⟩
def dkwX4_unlike_3 : List UInt8 := [133, 28, 29, 126, 184, 1, 67, 133, 27, 184, 1, 60, 136, 172]
abbrev dktX4_unlike_3 : List UInt8 := dkwX4_unlike_3 ++ []
def dkwX4_unlike_2 : List UInt8 := [4, 182, 1, 64, 62, 28, 29, 126, 154, 0, 7, 2, 167, 0, 25, 28, 184, 1, 67, 29, 184, 1, 67, 104]
abbrev dktX4_unlike_2 : List UInt8 := dkwX4_unlike_2 ++ dktX4_unlike_3
def dkwX4_unlike_1 : List UInt8 := [182, 0, 204, 153, 0, 5, 3, 172, 42, 42, 180, 0, 20, 3, 182, 0, 255, 42, 3, 182, 1, 64, 61, 42]
abbrev dktX4_unlike_1 : List UInt8 := dkwX4_unlike_1 ++ dktX4_unlike_2
def dkwX4_unlike_0 : List UInt8 := [42, 3, 181, 0, 48, 42, 27, 133, 9, 10, 184, 0, 107, 154, 0, 7, 4, 167, 0, 4, 3, 4, 4]
abbrev dktX4_unlike_0 : List UInt8 := dkwX4_unlike_0 ++ dktX4_unlike_1
theorem dksX4_unlike_0 : cX4_unlike.data.toList.drop 0 = dktX4_unlike_0 := by decide +kernel
theorem dksX4_unlike_1 : cX4_unlike.data.toList.drop 23 = dktX4_unlike_1 := dk_seg dksX4_unlike_0 23 rfl rfl
theorem dksX4_unlike_2 : cX4_unlike.data.toList.drop 47 = dktX4_unlike_2 := dk_seg dksX4_unlike_1 24 rfl rfl
theorem dksX4_unlike_3 : cX4_unlike.data.toList.drop 71 = dktX4_unlike_3 := dk_seg dksX4_unlike_2 24 rfl rfl
theorem dX4_unlike_0 : decode cX4_unlike 0 = .ok (.aload_n 0, 1) := dk_42 (dk_at dksX4_unlike_0 0 rfl rfl)
theorem dX4_unlike_1 : decode cX4_unlike 1 = .ok (.iconst 0, 1) := dk_3 (dk_at dksX4_unlike_0 1 rfl rfl)
theorem dX4_unlike_2 : decode cX4_unlike 2 = .ok (.putfield 48, 3) := dk_181 0 48 (dk_at dksX4_unlike_0 2 rfl rfl)
theorem dX4_unlike_5 : decode cX4_unlike 5 = .ok (.aload_n 0, 1) := dk_42 (dk_at dksX4_unlike_0 5 rfl rfl)
theorem dX4_unlike_6 : decode cX4_unlike 6 = .ok (.iload_n 1, 1) := dk_27 (dk_at dksX4_unlike_0 6 rfl rfl)
theorem dX4_unlike_7 : decode cX4_unlike 7 = .ok (.i2l, 1) := dk_133 (dk_at dksX4_unlike_0 7 rfl rfl)
theorem dX4_unlike_8 : decode cX4_unlike 8 = .ok (.lconst 0, 1) := dk_9 (dk_at dksX4_unlike_0 8 rfl rfl)
theorem dX4_unlike_9 : decode cX4_unlike 9 = .ok (.lconst 1, 1) := dk_10 (dk_at dksX4_unlike_0 9 rfl rfl)
theorem dX4_unlike_10 : decode cX4_unlike 10 = .ok (.invokestatic 107, 3) := dk_184 0 107 (dk_at dksX4_unlike_0 10 rfl rfl)
theorem dX4_unlike_13 : decode cX4_unlike 13 = .ok (.ifCond .ne 7, 3) := dk_154 0 7 (dk_at dksX4_unlike_0 13 rfl rfl)
theorem dX4_unlike_16 : decode cX4_unlike 16 = .ok (.iconst 1, 1) := dk_4 (dk_at dksX4_unlike_0 16 rfl rfl)
theorem dX4_unlike_17 : decode cX4_unlike 17 = .ok (.goto 4, 3) := dk_167 0 4 (dk_at dksX4_unlike_0 17 rfl rfl)
theorem dX4_unlike_20 : decode cX4_unlike 20 = .ok (.iconst 0, 1) := dk_3 (dk_at dksX4_unlike_0 20 rfl rfl)
theorem dX4_unlike_21 : decode cX4_unlike 21 = .ok (.iconst 1, 1) := dk_4 (dk_at dksX4_unlike_0 21 rfl rfl)
theorem dX4_unlike_22 : decode cX4_unlike 22 = .ok (.iconst 1, 1) := dk_4 (dk_at dksX4_unlike_0 22 rfl rfl)
theorem dX4_unlike_23 : decode cX4_unlike 23 = .ok (.invokevirtual 204, 3) := dk_182 0 204 (dk_at dksX4_unlike_1 0 rfl rfl)
theorem dX4_unlike_26 : decode cX4_unlike 26 = .ok (.ifCond .eq 5, 3) := dk_153 0 5 (dk_at dksX4_unlike_1 3 rfl rfl)
theorem dX4_unlike_29 : decode cX4_unlike 29 = .ok (.iconst 0, 1) := dk_3 (dk_at dksX4_unlike_1 6 rfl rfl)
theorem dX4_unlike_30 : decode cX4_unlike 30 = .ok (.ireturn, 1) := dk_172 (dk_at dksX4_unlike_1 7 rfl rfl)
theorem dX4_unlike_31 : decode cX4_unlike 31 = .ok (.aload_n 0, 1) := dk_42 (dk_at dksX4_unlike_1 8 rfl rfl)
theorem dX4_unlike_32 : decode cX4_unlike 32 = .ok (.aload_n 0, 1) := dk_42 (dk_at dksX4_unlike_1 9 rfl rfl)
theorem dX4_unlike_33 : decode cX4_unlike 33 = .ok (.getfield 20, 3) := dk_180 0 20 (dk_at dksX4_unlike_1 10 rfl rfl)
theorem dX4_unlike_36 : decode cX4_unlike 36 = .ok (.iconst 0, 1) := dk_3 (dk_at dksX4_unlike_1 13 rfl rfl)
theorem dX4_unlike_37 : decode cX4_unlike 37 = .ok (.invokevirtual 255, 3) := dk_182 0 255 (dk_at dksX4_unlike_1 14 rfl rfl)
theorem dX4_unlike_40 : decode cX4_unlike 40 = .ok (.aload_n 0, 1) := dk_42 (dk_at dksX4_unlike_1 17 rfl rfl)
theorem dX4_unlike_41 : decode cX4_unlike 41 = .ok (.iconst 0, 1) := dk_3 (dk_at dksX4_unlike_1 18 rfl rfl)
theorem dX4_unlike_42 : decode cX4_unlike 42 = .ok (.invokevirtual 320, 3) := dk_182 1 64 (dk_at dksX4_unlike_1 19 rfl rfl)
theorem dX4_unlike_45 : decode cX4_unlike 45 = .ok (.istore_n 2, 1) := dk_61 (dk_at dksX4_unlike_1 22 rfl rfl)
theorem dX4_unlike_46 : decode cX4_unlike 46 = .ok (.aload_n 0, 1) := dk_42 (dk_at dksX4_unlike_1 23 rfl rfl)
theorem dX4_unlike_47 : decode cX4_unlike 47 = .ok (.iconst 1, 1) := dk_4 (dk_at dksX4_unlike_2 0 rfl rfl)
theorem dX4_unlike_48 : decode cX4_unlike 48 = .ok (.invokevirtual 320, 3) := dk_182 1 64 (dk_at dksX4_unlike_2 1 rfl rfl)
theorem dX4_unlike_51 : decode cX4_unlike 51 = .ok (.istore_n 3, 1) := dk_62 (dk_at dksX4_unlike_2 4 rfl rfl)
theorem dX4_unlike_52 : decode cX4_unlike 52 = .ok (.iload_n 2, 1) := dk_28 (dk_at dksX4_unlike_2 5 rfl rfl)
theorem dX4_unlike_53 : decode cX4_unlike 53 = .ok (.iload_n 3, 1) := dk_29 (dk_at dksX4_unlike_2 6 rfl rfl)
theorem dX4_unlike_54 : decode cX4_unlike 54 = .ok (.iand, 1) := dk_126 (dk_at dksX4_unlike_2 7 rfl rfl)
theorem dX4_unlike_55 : decode cX4_unlike 55 = .ok (.ifCond .ne 7, 3) := dk_154 0 7 (dk_at dksX4_unlike_2 8 rfl rfl)
theorem dX4_unlike_58 : decode cX4_unlike 58 = .ok (.iconst (-1), 1) := dk_2 (dk_at dksX4_unlike_2 11 rfl rfl)
theorem dX4_unlike_59 : decode cX4_unlike 59 = .ok (.goto 25, 3) := dk_167 0 25 (dk_at dksX4_unlike_2 12 rfl rfl)
theorem dX4_unlike_62 : decode cX4_unlike 62 = .ok (.iload_n 2, 1) := dk_28 (dk_at dksX4_unlike_2 15 rfl rfl)
theorem dX4_unlike_63 : decode cX4_unlike 63 = .ok (.invokestatic 323, 3) := dk_184 1 67 (dk_at dksX4_unlike_2 16 rfl rfl)
theorem dX4_unlike_66 : decode cX4_unlike 66 = .ok (.iload_n 3, 1) := dk_29 (dk_at dksX4_unlike_2 19 rfl rfl)
theorem dX4_unlike_67 : decode cX4_unlike 67 = .ok (.invokestatic 323, 3) := dk_184 1 67 (dk_at dksX4_unlike_2 20 rfl rfl)
theorem dX4_unlike_70 : decode cX4_unlike 70 = .ok (.imul, 1) := dk_104 (dk_at dksX4_unlike_2 23 rfl rfl)
theorem dX4_unlike_71 : decode cX4_unlike 71 = .ok (.i2l, 1) := dk_133 (dk_at dksX4_unlike_3 0 rfl rfl)
theorem dX4_unlike_72 : decode cX4_unlike 72 = .ok (.iload_n 2, 1) := dk_28 (dk_at dksX4_unlike_3 1 rfl rfl)
theorem dX4_unlike_73 : decode cX4_unlike 73 = .ok (.iload_n 3, 1) := dk_29 (dk_at dksX4_unlike_3 2 rfl rfl)
theorem dX4_unlike_74 : decode cX4_unlike 74 = .ok (.iand, 1) := dk_126 (dk_at dksX4_unlike_3 3 rfl rfl)
theorem dX4_unlike_75 : decode cX4_unlike 75 = .ok (.invokestatic 323, 3) := dk_184 1 67 (dk_at dksX4_unlike_3 4 rfl rfl)
theorem dX4_unlike_78 : decode cX4_unlike 78 = .ok (.i2l, 1) := dk_133 (dk_at dksX4_unlike_3 7 rfl rfl)
theorem dX4_unlike_79 : decode cX4_unlike 79 = .ok (.iload_n 1, 1) := dk_27 (dk_at dksX4_unlike_3 8 rfl rfl)
theorem dX4_unlike_80 : decode cX4_unlike 80 = .ok (.invokestatic 316, 3) := dk_184 1 60 (dk_at dksX4_unlike_3 9 rfl rfl)
theorem dX4_unlike_83 : decode cX4_unlike 83 = .ok (.l2i, 1) := dk_136 (dk_at dksX4_unlike_3 12 rfl rfl)
theorem dX4_unlike_84 : decode cX4_unlike 84 = .ok (.ireturn, 1) := dk_172 (dk_at dksX4_unlike_3 13 rfl rfl)
abbrev cX4_votersIn : ByteArray := prog_12_method_75_code
def yX4_votersIn : MethodName := ⟨RX4, "votersIn", "(I)I"⟩
def dkwX4_votersIn_2 : List UInt8 := [167, 255, 213, 28, 172]
abbrev dktX4_votersIn_2 : List UInt8 := dkwX4_votersIn_2 ++ []
def dkwX4_votersIn_1 : List UInt8 := [182, 0, 248, 153, 0, 14, 4, 42, 180, 0, 34, 29, 46, 120, 167, 0, 4, 3, 128, 61, 132, 3, 1]
abbrev dktX4_votersIn_1 : List UInt8 := dkwX4_votersIn_1 ++ dktX4_votersIn_2
def dkwX4_votersIn_0 : List UInt8 := [3, 61, 3, 62, 29, 42, 182, 0, 218, 162, 0, 41, 28, 42, 27, 29, 182, 0, 244, 153, 0, 22, 42, 29]
abbrev dktX4_votersIn_0 : List UInt8 := dkwX4_votersIn_0 ++ dktX4_votersIn_1
theorem dksX4_votersIn_0 : cX4_votersIn.data.toList.drop 0 = dktX4_votersIn_0 := by decide +kernel
theorem dksX4_votersIn_1 : cX4_votersIn.data.toList.drop 24 = dktX4_votersIn_1 := dk_seg dksX4_votersIn_0 24 rfl rfl
theorem dksX4_votersIn_2 : cX4_votersIn.data.toList.drop 47 = dktX4_votersIn_2 := dk_seg dksX4_votersIn_1 23 rfl rfl
theorem dX4_votersIn_0 : decode cX4_votersIn 0 = .ok (.iconst 0, 1) := dk_3 (dk_at dksX4_votersIn_0 0 rfl rfl)
theorem dX4_votersIn_1 : decode cX4_votersIn 1 = .ok (.istore_n 2, 1) := dk_61 (dk_at dksX4_votersIn_0 1 rfl rfl)
theorem dX4_votersIn_2 : decode cX4_votersIn 2 = .ok (.iconst 0, 1) := dk_3 (dk_at dksX4_votersIn_0 2 rfl rfl)
theorem dX4_votersIn_3 : decode cX4_votersIn 3 = .ok (.istore_n 3, 1) := dk_62 (dk_at dksX4_votersIn_0 3 rfl rfl)
theorem dX4_votersIn_4 : decode cX4_votersIn 4 = .ok (.iload_n 3, 1) := dk_29 (dk_at dksX4_votersIn_0 4 rfl rfl)
theorem dX4_votersIn_5 : decode cX4_votersIn 5 = .ok (.aload_n 0, 1) := dk_42 (dk_at dksX4_votersIn_0 5 rfl rfl)
theorem dX4_votersIn_6 : decode cX4_votersIn 6 = .ok (.invokevirtual 218, 3) := dk_182 0 218 (dk_at dksX4_votersIn_0 6 rfl rfl)
theorem dX4_votersIn_9 : decode cX4_votersIn 9 = .ok (.if_icmp .ge 41, 3) := dk_162 0 41 (dk_at dksX4_votersIn_0 9 rfl rfl)
theorem dX4_votersIn_12 : decode cX4_votersIn 12 = .ok (.iload_n 2, 1) := dk_28 (dk_at dksX4_votersIn_0 12 rfl rfl)
theorem dX4_votersIn_13 : decode cX4_votersIn 13 = .ok (.aload_n 0, 1) := dk_42 (dk_at dksX4_votersIn_0 13 rfl rfl)
theorem dX4_votersIn_14 : decode cX4_votersIn 14 = .ok (.iload_n 1, 1) := dk_27 (dk_at dksX4_votersIn_0 14 rfl rfl)
theorem dX4_votersIn_15 : decode cX4_votersIn 15 = .ok (.iload_n 3, 1) := dk_29 (dk_at dksX4_votersIn_0 15 rfl rfl)
theorem dX4_votersIn_16 : decode cX4_votersIn 16 = .ok (.invokevirtual 244, 3) := dk_182 0 244 (dk_at dksX4_votersIn_0 16 rfl rfl)
theorem dX4_votersIn_19 : decode cX4_votersIn 19 = .ok (.ifCond .eq 22, 3) := dk_153 0 22 (dk_at dksX4_votersIn_0 19 rfl rfl)
theorem dX4_votersIn_22 : decode cX4_votersIn 22 = .ok (.aload_n 0, 1) := dk_42 (dk_at dksX4_votersIn_0 22 rfl rfl)
theorem dX4_votersIn_23 : decode cX4_votersIn 23 = .ok (.iload_n 3, 1) := dk_29 (dk_at dksX4_votersIn_0 23 rfl rfl)
theorem dX4_votersIn_24 : decode cX4_votersIn 24 = .ok (.invokevirtual 248, 3) := dk_182 0 248 (dk_at dksX4_votersIn_1 0 rfl rfl)
theorem dX4_votersIn_27 : decode cX4_votersIn 27 = .ok (.ifCond .eq 14, 3) := dk_153 0 14 (dk_at dksX4_votersIn_1 3 rfl rfl)
theorem dX4_votersIn_30 : decode cX4_votersIn 30 = .ok (.iconst 1, 1) := dk_4 (dk_at dksX4_votersIn_1 6 rfl rfl)
theorem dX4_votersIn_31 : decode cX4_votersIn 31 = .ok (.aload_n 0, 1) := dk_42 (dk_at dksX4_votersIn_1 7 rfl rfl)
theorem dX4_votersIn_32 : decode cX4_votersIn 32 = .ok (.getfield 34, 3) := dk_180 0 34 (dk_at dksX4_votersIn_1 8 rfl rfl)
theorem dX4_votersIn_35 : decode cX4_votersIn 35 = .ok (.iload_n 3, 1) := dk_29 (dk_at dksX4_votersIn_1 11 rfl rfl)
theorem dX4_votersIn_36 : decode cX4_votersIn 36 = .ok (.iaload, 1) := dk_46 (dk_at dksX4_votersIn_1 12 rfl rfl)
theorem dX4_votersIn_37 : decode cX4_votersIn 37 = .ok (.ishl, 1) := dk_120 (dk_at dksX4_votersIn_1 13 rfl rfl)
theorem dX4_votersIn_38 : decode cX4_votersIn 38 = .ok (.goto 4, 3) := dk_167 0 4 (dk_at dksX4_votersIn_1 14 rfl rfl)
theorem dX4_votersIn_41 : decode cX4_votersIn 41 = .ok (.iconst 0, 1) := dk_3 (dk_at dksX4_votersIn_1 17 rfl rfl)
theorem dX4_votersIn_42 : decode cX4_votersIn 42 = .ok (.ior, 1) := dk_128 (dk_at dksX4_votersIn_1 18 rfl rfl)
theorem dX4_votersIn_43 : decode cX4_votersIn 43 = .ok (.istore_n 2, 1) := dk_61 (dk_at dksX4_votersIn_1 19 rfl rfl)
theorem dX4_votersIn_44 : decode cX4_votersIn 44 = .ok (.iinc 3 1, 3) := dk_132 3 1 (dk_at dksX4_votersIn_1 20 rfl rfl)
theorem dX4_votersIn_47 : decode cX4_votersIn 47 = .ok (.goto (-43), 3) := dk_167 255 213 (dk_at dksX4_votersIn_2 0 rfl rfl)
theorem dX4_votersIn_50 : decode cX4_votersIn 50 = .ok (.iload_n 2, 1) := dk_28 (dk_at dksX4_votersIn_2 3 rfl rfl)
theorem dX4_votersIn_51 : decode cX4_votersIn 51 = .ok (.ireturn, 1) := dk_172 (dk_at dksX4_votersIn_2 4 rfl rfl)
abbrev cX4_ones : ByteArray := prog_12_method_76_code
def yX4_ones : MethodName := ⟨RX4, "ones", "(I)I"⟩
def dkwX4_ones_1 : List UInt8 := [27, 172]
abbrev dktX4_ones_1 : List UInt8 := dkwX4_ones_1 ++ []
def dkwX4_ones_0 : List UInt8 := [3, 60, 3, 61, 28, 16, 16, 162, 0, 17, 27, 26, 28, 122, 4, 126, 96, 60, 132, 2, 1, 167, 255, 239]
abbrev dktX4_ones_0 : List UInt8 := dkwX4_ones_0 ++ dktX4_ones_1
theorem dksX4_ones_0 : cX4_ones.data.toList.drop 0 = dktX4_ones_0 := by decide +kernel
theorem dksX4_ones_1 : cX4_ones.data.toList.drop 24 = dktX4_ones_1 := dk_seg dksX4_ones_0 24 rfl rfl
theorem dX4_ones_0 : decode cX4_ones 0 = .ok (.iconst 0, 1) := dk_3 (dk_at dksX4_ones_0 0 rfl rfl)
theorem dX4_ones_1 : decode cX4_ones 1 = .ok (.istore_n 1, 1) := dk_60 (dk_at dksX4_ones_0 1 rfl rfl)
theorem dX4_ones_2 : decode cX4_ones 2 = .ok (.iconst 0, 1) := dk_3 (dk_at dksX4_ones_0 2 rfl rfl)
theorem dX4_ones_3 : decode cX4_ones 3 = .ok (.istore_n 2, 1) := dk_61 (dk_at dksX4_ones_0 3 rfl rfl)
theorem dX4_ones_4 : decode cX4_ones 4 = .ok (.iload_n 2, 1) := dk_28 (dk_at dksX4_ones_0 4 rfl rfl)
theorem dX4_ones_5 : decode cX4_ones 5 = .ok (.bipush 16, 2) := dk_16 16 (dk_at dksX4_ones_0 5 rfl rfl)
theorem dX4_ones_7 : decode cX4_ones 7 = .ok (.if_icmp .ge 17, 3) := dk_162 0 17 (dk_at dksX4_ones_0 7 rfl rfl)
theorem dX4_ones_10 : decode cX4_ones 10 = .ok (.iload_n 1, 1) := dk_27 (dk_at dksX4_ones_0 10 rfl rfl)
theorem dX4_ones_11 : decode cX4_ones 11 = .ok (.iload_n 0, 1) := dk_26 (dk_at dksX4_ones_0 11 rfl rfl)
theorem dX4_ones_12 : decode cX4_ones 12 = .ok (.iload_n 2, 1) := dk_28 (dk_at dksX4_ones_0 12 rfl rfl)
theorem dX4_ones_13 : decode cX4_ones 13 = .ok (.ishr, 1) := dk_122 (dk_at dksX4_ones_0 13 rfl rfl)
theorem dX4_ones_14 : decode cX4_ones 14 = .ok (.iconst 1, 1) := dk_4 (dk_at dksX4_ones_0 14 rfl rfl)
theorem dX4_ones_15 : decode cX4_ones 15 = .ok (.iand, 1) := dk_126 (dk_at dksX4_ones_0 15 rfl rfl)
theorem dX4_ones_16 : decode cX4_ones 16 = .ok (.iadd, 1) := dk_96 (dk_at dksX4_ones_0 16 rfl rfl)
theorem dX4_ones_17 : decode cX4_ones 17 = .ok (.istore_n 1, 1) := dk_60 (dk_at dksX4_ones_0 17 rfl rfl)
theorem dX4_ones_18 : decode cX4_ones 18 = .ok (.iinc 2 1, 3) := dk_132 2 1 (dk_at dksX4_ones_0 18 rfl rfl)
theorem dX4_ones_21 : decode cX4_ones 21 = .ok (.goto (-17), 3) := dk_167 255 239 (dk_at dksX4_ones_0 21 rfl rfl)
theorem dX4_ones_24 : decode cX4_ones 24 = .ok (.iload_n 1, 1) := dk_27 (dk_at dksX4_ones_1 0 rfl rfl)
theorem dX4_ones_25 : decode cX4_ones 25 = .ok (.ireturn, 1) := dk_172 (dk_at dksX4_ones_1 1 rfl rfl)
abbrev cX4_unseen : ByteArray := prog_12_method_79_code
def yX4_unseen : MethodName := ⟨RX4, "unseen", "(II)J"⟩
def dkwX4_unseen_8 : List UInt8 := [167, 255, 185, 42, 180, 0, 40, 27, 47, 42, 182, 0, 218, 27, 184, 1, 34, 28, 184, 1, 60, 173]
abbrev dktX4_unseen_8 : List UInt8 := dkwX4_unseen_8 ++ []
def dkwX4_unseen_7 : List UInt8 := [167, 0, 4, 3, 96, 54, 4, 132, 5, 1, 167, 255, 214, 42, 21, 4, 27, 182, 1, 70, 132, 3, 1]
abbrev dktX4_unseen_7 : List UInt8 := dkwX4_unseen_7 ++ dktX4_unseen_8
def dkwX4_unseen_6 : List UInt8 := [21, 4, 42, 21, 5, 182, 0, 248, 153, 0, 18, 42, 180, 0, 34, 21, 5, 46, 29, 160, 0, 7, 4]
abbrev dktX4_unseen_6 : List UInt8 := dkwX4_unseen_6 ++ dktX4_unseen_7
def dkwX4_unseen_5 : List UInt8 := [180, 0, 20, 3, 46, 162, 0, 67, 3, 54, 4, 3, 54, 5, 21, 5, 42, 182, 0, 218, 162, 0, 39]
abbrev dktX4_unseen_5 : List UInt8 := dkwX4_unseen_5 ++ dktX4_unseen_6
def dkwX4_unseen_4 : List UInt8 := [182, 0, 248, 154, 0, 9, 42, 4, 27, 182, 1, 70, 132, 3, 1, 167, 255, 231, 3, 62, 29, 42]
abbrev dktX4_unseen_4 : List UInt8 := dkwX4_unseen_4 ++ dktX4_unseen_5
def dkwX4_unseen_3 : List UInt8 := [10, 167, 0, 4, 9, 80, 132, 3, 1, 167, 255, 232, 3, 62, 29, 42, 182, 0, 218, 162, 0, 23, 42, 29]
abbrev dktX4_unseen_3 : List UInt8 := dkwX4_unseen_3 ++ dktX4_unseen_4
def dkwX4_unseen_2 : List UInt8 := [180, 0, 20, 3, 182, 0, 255, 3, 62, 29, 16, 40, 163, 0, 24, 42, 180, 0, 40, 29, 29, 154, 0, 7]
abbrev dktX4_unseen_2 : List UInt8 := dkwX4_unseen_2 ++ dktX4_unseen_3
def dkwX4_unseen_1 : List UInt8 := [184, 0, 107, 154, 0, 7, 4, 167, 0, 4, 3, 4, 4, 182, 0, 204, 153, 0, 5, 9, 173, 42, 42]
abbrev dktX4_unseen_1 : List UInt8 := dkwX4_unseen_1 ++ dktX4_unseen_2
def dkwX4_unseen_0 : List UInt8 := [42, 3, 181, 0, 48, 42, 27, 133, 9, 42, 182, 0, 218, 133, 184, 0, 107, 153, 0, 13, 28, 133, 9, 10]
abbrev dktX4_unseen_0 : List UInt8 := dkwX4_unseen_0 ++ dktX4_unseen_1
theorem dksX4_unseen_0 : cX4_unseen.data.toList.drop 0 = dktX4_unseen_0 := by decide +kernel
theorem dksX4_unseen_1 : cX4_unseen.data.toList.drop 24 = dktX4_unseen_1 := dk_seg dksX4_unseen_0 24 rfl rfl
theorem dksX4_unseen_2 : cX4_unseen.data.toList.drop 47 = dktX4_unseen_2 := dk_seg dksX4_unseen_1 23 rfl rfl
theorem dksX4_unseen_3 : cX4_unseen.data.toList.drop 71 = dktX4_unseen_3 := dk_seg dksX4_unseen_2 24 rfl rfl
theorem dksX4_unseen_4 : cX4_unseen.data.toList.drop 95 = dktX4_unseen_4 := dk_seg dksX4_unseen_3 24 rfl rfl
theorem dksX4_unseen_5 : cX4_unseen.data.toList.drop 117 = dktX4_unseen_5 := dk_seg dksX4_unseen_4 22 rfl rfl
theorem dksX4_unseen_6 : cX4_unseen.data.toList.drop 140 = dktX4_unseen_6 := dk_seg dksX4_unseen_5 23 rfl rfl
theorem dksX4_unseen_7 : cX4_unseen.data.toList.drop 163 = dktX4_unseen_7 := dk_seg dksX4_unseen_6 23 rfl rfl
theorem dksX4_unseen_8 : cX4_unseen.data.toList.drop 186 = dktX4_unseen_8 := dk_seg dksX4_unseen_7 23 rfl rfl
theorem dX4_unseen_0 : decode cX4_unseen 0 = .ok (.aload_n 0, 1) := dk_42 (dk_at dksX4_unseen_0 0 rfl rfl)
theorem dX4_unseen_1 : decode cX4_unseen 1 = .ok (.iconst 0, 1) := dk_3 (dk_at dksX4_unseen_0 1 rfl rfl)
theorem dX4_unseen_2 : decode cX4_unseen 2 = .ok (.putfield 48, 3) := dk_181 0 48 (dk_at dksX4_unseen_0 2 rfl rfl)
theorem dX4_unseen_5 : decode cX4_unseen 5 = .ok (.aload_n 0, 1) := dk_42 (dk_at dksX4_unseen_0 5 rfl rfl)
theorem dX4_unseen_6 : decode cX4_unseen 6 = .ok (.iload_n 1, 1) := dk_27 (dk_at dksX4_unseen_0 6 rfl rfl)
theorem dX4_unseen_7 : decode cX4_unseen 7 = .ok (.i2l, 1) := dk_133 (dk_at dksX4_unseen_0 7 rfl rfl)
theorem dX4_unseen_8 : decode cX4_unseen 8 = .ok (.lconst 0, 1) := dk_9 (dk_at dksX4_unseen_0 8 rfl rfl)
theorem dX4_unseen_9 : decode cX4_unseen 9 = .ok (.aload_n 0, 1) := dk_42 (dk_at dksX4_unseen_0 9 rfl rfl)
theorem dX4_unseen_10 : decode cX4_unseen 10 = .ok (.invokevirtual 218, 3) := dk_182 0 218 (dk_at dksX4_unseen_0 10 rfl rfl)
theorem dX4_unseen_13 : decode cX4_unseen 13 = .ok (.i2l, 1) := dk_133 (dk_at dksX4_unseen_0 13 rfl rfl)
theorem dX4_unseen_14 : decode cX4_unseen 14 = .ok (.invokestatic 107, 3) := dk_184 0 107 (dk_at dksX4_unseen_0 14 rfl rfl)
theorem dX4_unseen_17 : decode cX4_unseen 17 = .ok (.ifCond .eq 13, 3) := dk_153 0 13 (dk_at dksX4_unseen_0 17 rfl rfl)
theorem dX4_unseen_20 : decode cX4_unseen 20 = .ok (.iload_n 2, 1) := dk_28 (dk_at dksX4_unseen_0 20 rfl rfl)
theorem dX4_unseen_21 : decode cX4_unseen 21 = .ok (.i2l, 1) := dk_133 (dk_at dksX4_unseen_0 21 rfl rfl)
theorem dX4_unseen_22 : decode cX4_unseen 22 = .ok (.lconst 0, 1) := dk_9 (dk_at dksX4_unseen_0 22 rfl rfl)
theorem dX4_unseen_23 : decode cX4_unseen 23 = .ok (.lconst 1, 1) := dk_10 (dk_at dksX4_unseen_0 23 rfl rfl)
theorem dX4_unseen_24 : decode cX4_unseen 24 = .ok (.invokestatic 107, 3) := dk_184 0 107 (dk_at dksX4_unseen_1 0 rfl rfl)
theorem dX4_unseen_27 : decode cX4_unseen 27 = .ok (.ifCond .ne 7, 3) := dk_154 0 7 (dk_at dksX4_unseen_1 3 rfl rfl)
theorem dX4_unseen_30 : decode cX4_unseen 30 = .ok (.iconst 1, 1) := dk_4 (dk_at dksX4_unseen_1 6 rfl rfl)
theorem dX4_unseen_31 : decode cX4_unseen 31 = .ok (.goto 4, 3) := dk_167 0 4 (dk_at dksX4_unseen_1 7 rfl rfl)
theorem dX4_unseen_34 : decode cX4_unseen 34 = .ok (.iconst 0, 1) := dk_3 (dk_at dksX4_unseen_1 10 rfl rfl)
theorem dX4_unseen_35 : decode cX4_unseen 35 = .ok (.iconst 1, 1) := dk_4 (dk_at dksX4_unseen_1 11 rfl rfl)
theorem dX4_unseen_36 : decode cX4_unseen 36 = .ok (.iconst 1, 1) := dk_4 (dk_at dksX4_unseen_1 12 rfl rfl)
theorem dX4_unseen_37 : decode cX4_unseen 37 = .ok (.invokevirtual 204, 3) := dk_182 0 204 (dk_at dksX4_unseen_1 13 rfl rfl)
theorem dX4_unseen_40 : decode cX4_unseen 40 = .ok (.ifCond .eq 5, 3) := dk_153 0 5 (dk_at dksX4_unseen_1 16 rfl rfl)
theorem dX4_unseen_43 : decode cX4_unseen 43 = .ok (.lconst 0, 1) := dk_9 (dk_at dksX4_unseen_1 19 rfl rfl)
theorem dX4_unseen_44 : decode cX4_unseen 44 = .ok (.lreturn, 1) := dk_173 (dk_at dksX4_unseen_1 20 rfl rfl)
theorem dX4_unseen_45 : decode cX4_unseen 45 = .ok (.aload_n 0, 1) := dk_42 (dk_at dksX4_unseen_1 21 rfl rfl)
theorem dX4_unseen_46 : decode cX4_unseen 46 = .ok (.aload_n 0, 1) := dk_42 (dk_at dksX4_unseen_1 22 rfl rfl)
theorem dX4_unseen_47 : decode cX4_unseen 47 = .ok (.getfield 20, 3) := dk_180 0 20 (dk_at dksX4_unseen_2 0 rfl rfl)
theorem dX4_unseen_50 : decode cX4_unseen 50 = .ok (.iconst 0, 1) := dk_3 (dk_at dksX4_unseen_2 3 rfl rfl)
theorem dX4_unseen_51 : decode cX4_unseen 51 = .ok (.invokevirtual 255, 3) := dk_182 0 255 (dk_at dksX4_unseen_2 4 rfl rfl)
theorem dX4_unseen_54 : decode cX4_unseen 54 = .ok (.iconst 0, 1) := dk_3 (dk_at dksX4_unseen_2 7 rfl rfl)
theorem dX4_unseen_55 : decode cX4_unseen 55 = .ok (.istore_n 3, 1) := dk_62 (dk_at dksX4_unseen_2 8 rfl rfl)
theorem dX4_unseen_56 : decode cX4_unseen 56 = .ok (.iload_n 3, 1) := dk_29 (dk_at dksX4_unseen_2 9 rfl rfl)
theorem dX4_unseen_57 : decode cX4_unseen 57 = .ok (.bipush 40, 2) := dk_16 40 (dk_at dksX4_unseen_2 10 rfl rfl)
theorem dX4_unseen_59 : decode cX4_unseen 59 = .ok (.if_icmp .gt 24, 3) := dk_163 0 24 (dk_at dksX4_unseen_2 12 rfl rfl)
theorem dX4_unseen_62 : decode cX4_unseen 62 = .ok (.aload_n 0, 1) := dk_42 (dk_at dksX4_unseen_2 15 rfl rfl)
theorem dX4_unseen_63 : decode cX4_unseen 63 = .ok (.getfield 40, 3) := dk_180 0 40 (dk_at dksX4_unseen_2 16 rfl rfl)
theorem dX4_unseen_66 : decode cX4_unseen 66 = .ok (.iload_n 3, 1) := dk_29 (dk_at dksX4_unseen_2 19 rfl rfl)
theorem dX4_unseen_67 : decode cX4_unseen 67 = .ok (.iload_n 3, 1) := dk_29 (dk_at dksX4_unseen_2 20 rfl rfl)
theorem dX4_unseen_68 : decode cX4_unseen 68 = .ok (.ifCond .ne 7, 3) := dk_154 0 7 (dk_at dksX4_unseen_2 21 rfl rfl)
theorem dX4_unseen_71 : decode cX4_unseen 71 = .ok (.lconst 1, 1) := dk_10 (dk_at dksX4_unseen_3 0 rfl rfl)
theorem dX4_unseen_72 : decode cX4_unseen 72 = .ok (.goto 4, 3) := dk_167 0 4 (dk_at dksX4_unseen_3 1 rfl rfl)
theorem dX4_unseen_75 : decode cX4_unseen 75 = .ok (.lconst 0, 1) := dk_9 (dk_at dksX4_unseen_3 4 rfl rfl)
theorem dX4_unseen_76 : decode cX4_unseen 76 = .ok (.lastore, 1) := dk_80 (dk_at dksX4_unseen_3 5 rfl rfl)
theorem dX4_unseen_77 : decode cX4_unseen 77 = .ok (.iinc 3 1, 3) := dk_132 3 1 (dk_at dksX4_unseen_3 6 rfl rfl)
theorem dX4_unseen_80 : decode cX4_unseen 80 = .ok (.goto (-24), 3) := dk_167 255 232 (dk_at dksX4_unseen_3 9 rfl rfl)
theorem dX4_unseen_83 : decode cX4_unseen 83 = .ok (.iconst 0, 1) := dk_3 (dk_at dksX4_unseen_3 12 rfl rfl)
theorem dX4_unseen_84 : decode cX4_unseen 84 = .ok (.istore_n 3, 1) := dk_62 (dk_at dksX4_unseen_3 13 rfl rfl)
theorem dX4_unseen_85 : decode cX4_unseen 85 = .ok (.iload_n 3, 1) := dk_29 (dk_at dksX4_unseen_3 14 rfl rfl)
theorem dX4_unseen_86 : decode cX4_unseen 86 = .ok (.aload_n 0, 1) := dk_42 (dk_at dksX4_unseen_3 15 rfl rfl)
theorem dX4_unseen_87 : decode cX4_unseen 87 = .ok (.invokevirtual 218, 3) := dk_182 0 218 (dk_at dksX4_unseen_3 16 rfl rfl)
theorem dX4_unseen_90 : decode cX4_unseen 90 = .ok (.if_icmp .ge 23, 3) := dk_162 0 23 (dk_at dksX4_unseen_3 19 rfl rfl)
theorem dX4_unseen_93 : decode cX4_unseen 93 = .ok (.aload_n 0, 1) := dk_42 (dk_at dksX4_unseen_3 22 rfl rfl)
theorem dX4_unseen_94 : decode cX4_unseen 94 = .ok (.iload_n 3, 1) := dk_29 (dk_at dksX4_unseen_3 23 rfl rfl)
theorem dX4_unseen_95 : decode cX4_unseen 95 = .ok (.invokevirtual 248, 3) := dk_182 0 248 (dk_at dksX4_unseen_4 0 rfl rfl)
theorem dX4_unseen_98 : decode cX4_unseen 98 = .ok (.ifCond .ne 9, 3) := dk_154 0 9 (dk_at dksX4_unseen_4 3 rfl rfl)
theorem dX4_unseen_101 : decode cX4_unseen 101 = .ok (.aload_n 0, 1) := dk_42 (dk_at dksX4_unseen_4 6 rfl rfl)
theorem dX4_unseen_102 : decode cX4_unseen 102 = .ok (.iconst 1, 1) := dk_4 (dk_at dksX4_unseen_4 7 rfl rfl)
theorem dX4_unseen_103 : decode cX4_unseen 103 = .ok (.iload_n 1, 1) := dk_27 (dk_at dksX4_unseen_4 8 rfl rfl)
theorem dX4_unseen_104 : decode cX4_unseen 104 = .ok (.invokevirtual 326, 3) := dk_182 1 70 (dk_at dksX4_unseen_4 9 rfl rfl)
theorem dX4_unseen_107 : decode cX4_unseen 107 = .ok (.iinc 3 1, 3) := dk_132 3 1 (dk_at dksX4_unseen_4 12 rfl rfl)
theorem dX4_unseen_110 : decode cX4_unseen 110 = .ok (.goto (-25), 3) := dk_167 255 231 (dk_at dksX4_unseen_4 15 rfl rfl)
theorem dX4_unseen_113 : decode cX4_unseen 113 = .ok (.iconst 0, 1) := dk_3 (dk_at dksX4_unseen_4 18 rfl rfl)
theorem dX4_unseen_114 : decode cX4_unseen 114 = .ok (.istore_n 3, 1) := dk_62 (dk_at dksX4_unseen_4 19 rfl rfl)
theorem dX4_unseen_115 : decode cX4_unseen 115 = .ok (.iload_n 3, 1) := dk_29 (dk_at dksX4_unseen_4 20 rfl rfl)
theorem dX4_unseen_116 : decode cX4_unseen 116 = .ok (.aload_n 0, 1) := dk_42 (dk_at dksX4_unseen_4 21 rfl rfl)
theorem dX4_unseen_117 : decode cX4_unseen 117 = .ok (.getfield 20, 3) := dk_180 0 20 (dk_at dksX4_unseen_5 0 rfl rfl)
theorem dX4_unseen_120 : decode cX4_unseen 120 = .ok (.iconst 0, 1) := dk_3 (dk_at dksX4_unseen_5 3 rfl rfl)
theorem dX4_unseen_121 : decode cX4_unseen 121 = .ok (.iaload, 1) := dk_46 (dk_at dksX4_unseen_5 4 rfl rfl)
theorem dX4_unseen_122 : decode cX4_unseen 122 = .ok (.if_icmp .ge 67, 3) := dk_162 0 67 (dk_at dksX4_unseen_5 5 rfl rfl)
theorem dX4_unseen_125 : decode cX4_unseen 125 = .ok (.iconst 0, 1) := dk_3 (dk_at dksX4_unseen_5 8 rfl rfl)
theorem dX4_unseen_126 : decode cX4_unseen 126 = .ok (.istore 4, 2) := dk_54 4 (dk_at dksX4_unseen_5 9 rfl rfl)
theorem dX4_unseen_128 : decode cX4_unseen 128 = .ok (.iconst 0, 1) := dk_3 (dk_at dksX4_unseen_5 11 rfl rfl)
theorem dX4_unseen_129 : decode cX4_unseen 129 = .ok (.istore 5, 2) := dk_54 5 (dk_at dksX4_unseen_5 12 rfl rfl)
theorem dX4_unseen_131 : decode cX4_unseen 131 = .ok (.iload 5, 2) := dk_21 5 (dk_at dksX4_unseen_5 14 rfl rfl)
theorem dX4_unseen_133 : decode cX4_unseen 133 = .ok (.aload_n 0, 1) := dk_42 (dk_at dksX4_unseen_5 16 rfl rfl)
theorem dX4_unseen_134 : decode cX4_unseen 134 = .ok (.invokevirtual 218, 3) := dk_182 0 218 (dk_at dksX4_unseen_5 17 rfl rfl)
theorem dX4_unseen_137 : decode cX4_unseen 137 = .ok (.if_icmp .ge 39, 3) := dk_162 0 39 (dk_at dksX4_unseen_5 20 rfl rfl)
theorem dX4_unseen_140 : decode cX4_unseen 140 = .ok (.iload 4, 2) := dk_21 4 (dk_at dksX4_unseen_6 0 rfl rfl)
theorem dX4_unseen_142 : decode cX4_unseen 142 = .ok (.aload_n 0, 1) := dk_42 (dk_at dksX4_unseen_6 2 rfl rfl)
theorem dX4_unseen_143 : decode cX4_unseen 143 = .ok (.iload 5, 2) := dk_21 5 (dk_at dksX4_unseen_6 3 rfl rfl)
theorem dX4_unseen_145 : decode cX4_unseen 145 = .ok (.invokevirtual 248, 3) := dk_182 0 248 (dk_at dksX4_unseen_6 5 rfl rfl)
theorem dX4_unseen_148 : decode cX4_unseen 148 = .ok (.ifCond .eq 18, 3) := dk_153 0 18 (dk_at dksX4_unseen_6 8 rfl rfl)
theorem dX4_unseen_151 : decode cX4_unseen 151 = .ok (.aload_n 0, 1) := dk_42 (dk_at dksX4_unseen_6 11 rfl rfl)
theorem dX4_unseen_152 : decode cX4_unseen 152 = .ok (.getfield 34, 3) := dk_180 0 34 (dk_at dksX4_unseen_6 12 rfl rfl)
theorem dX4_unseen_155 : decode cX4_unseen 155 = .ok (.iload 5, 2) := dk_21 5 (dk_at dksX4_unseen_6 15 rfl rfl)
theorem dX4_unseen_157 : decode cX4_unseen 157 = .ok (.iaload, 1) := dk_46 (dk_at dksX4_unseen_6 17 rfl rfl)
theorem dX4_unseen_158 : decode cX4_unseen 158 = .ok (.iload_n 3, 1) := dk_29 (dk_at dksX4_unseen_6 18 rfl rfl)
theorem dX4_unseen_159 : decode cX4_unseen 159 = .ok (.if_icmp .ne 7, 3) := dk_160 0 7 (dk_at dksX4_unseen_6 19 rfl rfl)
theorem dX4_unseen_162 : decode cX4_unseen 162 = .ok (.iconst 1, 1) := dk_4 (dk_at dksX4_unseen_6 22 rfl rfl)
theorem dX4_unseen_163 : decode cX4_unseen 163 = .ok (.goto 4, 3) := dk_167 0 4 (dk_at dksX4_unseen_7 0 rfl rfl)
theorem dX4_unseen_166 : decode cX4_unseen 166 = .ok (.iconst 0, 1) := dk_3 (dk_at dksX4_unseen_7 3 rfl rfl)
theorem dX4_unseen_167 : decode cX4_unseen 167 = .ok (.iadd, 1) := dk_96 (dk_at dksX4_unseen_7 4 rfl rfl)
theorem dX4_unseen_168 : decode cX4_unseen 168 = .ok (.istore 4, 2) := dk_54 4 (dk_at dksX4_unseen_7 5 rfl rfl)
theorem dX4_unseen_170 : decode cX4_unseen 170 = .ok (.iinc 5 1, 3) := dk_132 5 1 (dk_at dksX4_unseen_7 7 rfl rfl)
theorem dX4_unseen_173 : decode cX4_unseen 173 = .ok (.goto (-42), 3) := dk_167 255 214 (dk_at dksX4_unseen_7 10 rfl rfl)
theorem dX4_unseen_176 : decode cX4_unseen 176 = .ok (.aload_n 0, 1) := dk_42 (dk_at dksX4_unseen_7 13 rfl rfl)
theorem dX4_unseen_177 : decode cX4_unseen 177 = .ok (.iload 4, 2) := dk_21 4 (dk_at dksX4_unseen_7 14 rfl rfl)
theorem dX4_unseen_179 : decode cX4_unseen 179 = .ok (.iload_n 1, 1) := dk_27 (dk_at dksX4_unseen_7 16 rfl rfl)
theorem dX4_unseen_180 : decode cX4_unseen 180 = .ok (.invokevirtual 326, 3) := dk_182 1 70 (dk_at dksX4_unseen_7 17 rfl rfl)
theorem dX4_unseen_183 : decode cX4_unseen 183 = .ok (.iinc 3 1, 3) := dk_132 3 1 (dk_at dksX4_unseen_7 20 rfl rfl)
theorem dX4_unseen_186 : decode cX4_unseen 186 = .ok (.goto (-71), 3) := dk_167 255 185 (dk_at dksX4_unseen_8 0 rfl rfl)
theorem dX4_unseen_189 : decode cX4_unseen 189 = .ok (.aload_n 0, 1) := dk_42 (dk_at dksX4_unseen_8 3 rfl rfl)
theorem dX4_unseen_190 : decode cX4_unseen 190 = .ok (.getfield 40, 3) := dk_180 0 40 (dk_at dksX4_unseen_8 4 rfl rfl)
theorem dX4_unseen_193 : decode cX4_unseen 193 = .ok (.iload_n 1, 1) := dk_27 (dk_at dksX4_unseen_8 7 rfl rfl)
theorem dX4_unseen_194 : decode cX4_unseen 194 = .ok (.laload, 1) := dk_47 (dk_at dksX4_unseen_8 8 rfl rfl)
theorem dX4_unseen_195 : decode cX4_unseen 195 = .ok (.aload_n 0, 1) := dk_42 (dk_at dksX4_unseen_8 9 rfl rfl)
theorem dX4_unseen_196 : decode cX4_unseen 196 = .ok (.invokevirtual 218, 3) := dk_182 0 218 (dk_at dksX4_unseen_8 10 rfl rfl)
theorem dX4_unseen_199 : decode cX4_unseen 199 = .ok (.iload_n 1, 1) := dk_27 (dk_at dksX4_unseen_8 13 rfl rfl)
theorem dX4_unseen_200 : decode cX4_unseen 200 = .ok (.invokestatic 290, 3) := dk_184 1 34 (dk_at dksX4_unseen_8 14 rfl rfl)
theorem dX4_unseen_203 : decode cX4_unseen 203 = .ok (.iload_n 2, 1) := dk_28 (dk_at dksX4_unseen_8 17 rfl rfl)
theorem dX4_unseen_204 : decode cX4_unseen 204 = .ok (.invokestatic 316, 3) := dk_184 1 60 (dk_at dksX4_unseen_8 18 rfl rfl)
theorem dX4_unseen_207 : decode cX4_unseen 207 = .ok (.lreturn, 1) := dk_173 (dk_at dksX4_unseen_8 21 rfl rfl)
abbrev cX4_adds : ByteArray := prog_12_method_78_code
def yX4_adds : MethodName := ⟨RX4, "adds", "(II)V"⟩
def dkwX4_adds_1 : List UInt8 := [97, 80, 132, 3, 255, 167, 255, 229, 177]
abbrev dktX4_adds_1 : List UInt8 := dkwX4_adds_1 ++ []
def dkwX4_adds_0 : List UInt8 := [28, 62, 29, 158, 0, 29, 42, 180, 0, 40, 29, 92, 47, 27, 133, 42, 180, 0, 40, 29, 4, 100, 47, 105]
abbrev dktX4_adds_0 : List UInt8 := dkwX4_adds_0 ++ dktX4_adds_1
theorem dksX4_adds_0 : cX4_adds.data.toList.drop 0 = dktX4_adds_0 := by decide +kernel
theorem dksX4_adds_1 : cX4_adds.data.toList.drop 24 = dktX4_adds_1 := dk_seg dksX4_adds_0 24 rfl rfl
theorem dX4_adds_0 : decode cX4_adds 0 = .ok (.iload_n 2, 1) := dk_28 (dk_at dksX4_adds_0 0 rfl rfl)
theorem dX4_adds_1 : decode cX4_adds 1 = .ok (.istore_n 3, 1) := dk_62 (dk_at dksX4_adds_0 1 rfl rfl)
theorem dX4_adds_2 : decode cX4_adds 2 = .ok (.iload_n 3, 1) := dk_29 (dk_at dksX4_adds_0 2 rfl rfl)
theorem dX4_adds_3 : decode cX4_adds 3 = .ok (.ifCond .le 29, 3) := dk_158 0 29 (dk_at dksX4_adds_0 3 rfl rfl)
theorem dX4_adds_6 : decode cX4_adds 6 = .ok (.aload_n 0, 1) := dk_42 (dk_at dksX4_adds_0 6 rfl rfl)
theorem dX4_adds_7 : decode cX4_adds 7 = .ok (.getfield 40, 3) := dk_180 0 40 (dk_at dksX4_adds_0 7 rfl rfl)
theorem dX4_adds_10 : decode cX4_adds 10 = .ok (.iload_n 3, 1) := dk_29 (dk_at dksX4_adds_0 10 rfl rfl)
theorem dX4_adds_11 : decode cX4_adds 11 = .ok (.dup2, 1) := dk_92 (dk_at dksX4_adds_0 11 rfl rfl)
theorem dX4_adds_12 : decode cX4_adds 12 = .ok (.laload, 1) := dk_47 (dk_at dksX4_adds_0 12 rfl rfl)
theorem dX4_adds_13 : decode cX4_adds 13 = .ok (.iload_n 1, 1) := dk_27 (dk_at dksX4_adds_0 13 rfl rfl)
theorem dX4_adds_14 : decode cX4_adds 14 = .ok (.i2l, 1) := dk_133 (dk_at dksX4_adds_0 14 rfl rfl)
theorem dX4_adds_15 : decode cX4_adds 15 = .ok (.aload_n 0, 1) := dk_42 (dk_at dksX4_adds_0 15 rfl rfl)
theorem dX4_adds_16 : decode cX4_adds 16 = .ok (.getfield 40, 3) := dk_180 0 40 (dk_at dksX4_adds_0 16 rfl rfl)
theorem dX4_adds_19 : decode cX4_adds 19 = .ok (.iload_n 3, 1) := dk_29 (dk_at dksX4_adds_0 19 rfl rfl)
theorem dX4_adds_20 : decode cX4_adds 20 = .ok (.iconst 1, 1) := dk_4 (dk_at dksX4_adds_0 20 rfl rfl)
theorem dX4_adds_21 : decode cX4_adds 21 = .ok (.isub, 1) := dk_100 (dk_at dksX4_adds_0 21 rfl rfl)
theorem dX4_adds_22 : decode cX4_adds 22 = .ok (.laload, 1) := dk_47 (dk_at dksX4_adds_0 22 rfl rfl)
theorem dX4_adds_23 : decode cX4_adds 23 = .ok (.lmul, 1) := dk_105 (dk_at dksX4_adds_0 23 rfl rfl)
theorem dX4_adds_24 : decode cX4_adds 24 = .ok (.ladd, 1) := dk_97 (dk_at dksX4_adds_1 0 rfl rfl)
theorem dX4_adds_25 : decode cX4_adds 25 = .ok (.lastore, 1) := dk_80 (dk_at dksX4_adds_1 1 rfl rfl)
theorem dX4_adds_26 : decode cX4_adds 26 = .ok (.iinc 3 (-1), 3) := dk_132 3 255 (dk_at dksX4_adds_1 2 rfl rfl)
theorem dX4_adds_29 : decode cX4_adds 29 = .ok (.goto (-27), 3) := dk_167 255 229 (dk_at dksX4_adds_1 5 rfl rfl)
theorem dX4_adds_32 : decode cX4_adds 32 = .ok (.return_, 1) := dk_177 (dk_at dksX4_adds_1 8 rfl rfl)
abbrev cX4_fewest : ByteArray := prog_12_method_80_code
def yX4_fewest : MethodName := ⟨RX4, "fewest", "()I"⟩
def dkwX4_fewest_1 : List UInt8 := [180, 0, 20, 6, 46, 161, 0, 5, 27, 172, 132, 1, 1, 167, 255, 228, 2, 172]
abbrev dktX4_fewest_1 : List UInt8 := dkwX4_fewest_1 ++ []
def dkwX4_fewest_0 : List UInt8 := [42, 3, 181, 0, 48, 4, 60, 27, 42, 182, 0, 218, 163, 0, 26, 42, 27, 27, 182, 1, 54, 42]
abbrev dktX4_fewest_0 : List UInt8 := dkwX4_fewest_0 ++ dktX4_fewest_1
theorem dksX4_fewest_0 : cX4_fewest.data.toList.drop 0 = dktX4_fewest_0 := by decide +kernel
theorem dksX4_fewest_1 : cX4_fewest.data.toList.drop 22 = dktX4_fewest_1 := dk_seg dksX4_fewest_0 22 rfl rfl
theorem dX4_fewest_0 : decode cX4_fewest 0 = .ok (.aload_n 0, 1) := dk_42 (dk_at dksX4_fewest_0 0 rfl rfl)
theorem dX4_fewest_1 : decode cX4_fewest 1 = .ok (.iconst 0, 1) := dk_3 (dk_at dksX4_fewest_0 1 rfl rfl)
theorem dX4_fewest_2 : decode cX4_fewest 2 = .ok (.putfield 48, 3) := dk_181 0 48 (dk_at dksX4_fewest_0 2 rfl rfl)
theorem dX4_fewest_5 : decode cX4_fewest 5 = .ok (.iconst 1, 1) := dk_4 (dk_at dksX4_fewest_0 5 rfl rfl)
theorem dX4_fewest_6 : decode cX4_fewest 6 = .ok (.istore_n 1, 1) := dk_60 (dk_at dksX4_fewest_0 6 rfl rfl)
theorem dX4_fewest_7 : decode cX4_fewest 7 = .ok (.iload_n 1, 1) := dk_27 (dk_at dksX4_fewest_0 7 rfl rfl)
theorem dX4_fewest_8 : decode cX4_fewest 8 = .ok (.aload_n 0, 1) := dk_42 (dk_at dksX4_fewest_0 8 rfl rfl)
theorem dX4_fewest_9 : decode cX4_fewest 9 = .ok (.invokevirtual 218, 3) := dk_182 0 218 (dk_at dksX4_fewest_0 9 rfl rfl)
theorem dX4_fewest_12 : decode cX4_fewest 12 = .ok (.if_icmp .gt 26, 3) := dk_163 0 26 (dk_at dksX4_fewest_0 12 rfl rfl)
theorem dX4_fewest_15 : decode cX4_fewest 15 = .ok (.aload_n 0, 1) := dk_42 (dk_at dksX4_fewest_0 15 rfl rfl)
theorem dX4_fewest_16 : decode cX4_fewest 16 = .ok (.iload_n 1, 1) := dk_27 (dk_at dksX4_fewest_0 16 rfl rfl)
theorem dX4_fewest_17 : decode cX4_fewest 17 = .ok (.iload_n 1, 1) := dk_27 (dk_at dksX4_fewest_0 17 rfl rfl)
theorem dX4_fewest_18 : decode cX4_fewest 18 = .ok (.invokevirtual 310, 3) := dk_182 1 54 (dk_at dksX4_fewest_0 18 rfl rfl)
theorem dX4_fewest_21 : decode cX4_fewest 21 = .ok (.aload_n 0, 1) := dk_42 (dk_at dksX4_fewest_0 21 rfl rfl)
theorem dX4_fewest_22 : decode cX4_fewest 22 = .ok (.getfield 20, 3) := dk_180 0 20 (dk_at dksX4_fewest_1 0 rfl rfl)
theorem dX4_fewest_25 : decode cX4_fewest 25 = .ok (.iconst 3, 1) := dk_6 (dk_at dksX4_fewest_1 3 rfl rfl)
theorem dX4_fewest_26 : decode cX4_fewest 26 = .ok (.iaload, 1) := dk_46 (dk_at dksX4_fewest_1 4 rfl rfl)
theorem dX4_fewest_27 : decode cX4_fewest 27 = .ok (.if_icmp .lt 5, 3) := dk_161 0 5 (dk_at dksX4_fewest_1 5 rfl rfl)
theorem dX4_fewest_30 : decode cX4_fewest 30 = .ok (.iload_n 1, 1) := dk_27 (dk_at dksX4_fewest_1 8 rfl rfl)
theorem dX4_fewest_31 : decode cX4_fewest 31 = .ok (.ireturn, 1) := dk_172 (dk_at dksX4_fewest_1 9 rfl rfl)
theorem dX4_fewest_32 : decode cX4_fewest 32 = .ok (.iinc 1 1, 3) := dk_132 1 1 (dk_at dksX4_fewest_1 10 rfl rfl)
theorem dX4_fewest_35 : decode cX4_fewest 35 = .ok (.goto (-28), 3) := dk_167 255 228 (dk_at dksX4_fewest_1 13 rfl rfl)
theorem dX4_fewest_38 : decode cX4_fewest 38 = .ok (.iconst (-1), 1) := dk_2 (dk_at dksX4_fewest_1 16 rfl rfl)
theorem dX4_fewest_39 : decode cX4_fewest 39 = .ok (.ireturn, 1) := dk_172 (dk_at dksX4_fewest_1 17 rfl rfl)
abbrev cX4_worst : ByteArray := prog_12_method_81_code
def yX4_worst : MethodName := ⟨RX4, "worst", "(II)I"⟩
def dkwX4_worst_7 : List UInt8 := [167, 0, 5, 21, 5, 172]
abbrev dktX4_worst_7 : List UInt8 := dkwX4_worst_7 ++ []
def dkwX4_worst_6 : List UInt8 := [132, 6, 1, 167, 255, 180, 21, 4, 2, 160, 0, 7, 2, 167, 0, 14, 28, 154, 0, 8, 21, 4]
abbrev dktX4_worst_6 : List UInt8 := dkwX4_worst_6 ++ dktX4_worst_7
def dkwX4_worst_5 : List UInt8 := [21, 4, 2, 159, 0, 13, 21, 7, 21, 5, 161, 0, 6, 167, 0, 11, 21, 6, 54, 4, 21, 7, 54, 5]
abbrev dktX4_worst_5 : List UInt8 := dkwX4_worst_5 ++ dktX4_worst_6
def dkwX4_worst_4 : List UInt8 := [159, 0, 6, 167, 0, 44, 42, 42, 180, 0, 20, 21, 6, 182, 0, 255, 42, 3, 182, 1, 31, 54, 7]
abbrev dktX4_worst_4 : List UInt8 := dkwX4_worst_4 ++ dktX4_worst_5
def dkwX4_worst_3 : List UInt8 := [42, 180, 0, 20, 4, 46, 120, 162, 0, 69, 21, 6, 29, 126, 154, 0, 56, 21, 6, 184, 1, 67, 27]
abbrev dktX4_worst_3 : List UInt8 := dkwX4_worst_3 ++ dktX4_worst_4
def dkwX4_worst_2 : List UInt8 := [180, 0, 20, 3, 182, 0, 255, 42, 180, 0, 228, 62, 2, 54, 4, 3, 54, 5, 3, 54, 6, 21, 6, 4]
abbrev dktX4_worst_2 : List UInt8 := dkwX4_worst_2 ++ dktX4_worst_3
def dkwX4_worst_1 : List UInt8 := [184, 0, 107, 154, 0, 7, 4, 167, 0, 4, 3, 4, 4, 182, 0, 204, 153, 0, 5, 3, 172, 42, 42]
abbrev dktX4_worst_1 : List UInt8 := dkwX4_worst_1 ++ dktX4_worst_2
def dkwX4_worst_0 : List UInt8 := [42, 3, 181, 0, 48, 42, 27, 133, 10, 20, 1, 27, 184, 0, 107, 153, 0, 13, 28, 133, 9, 10]
abbrev dktX4_worst_0 : List UInt8 := dkwX4_worst_0 ++ dktX4_worst_1
theorem dksX4_worst_0 : cX4_worst.data.toList.drop 0 = dktX4_worst_0 := by decide +kernel
theorem dksX4_worst_1 : cX4_worst.data.toList.drop 22 = dktX4_worst_1 := dk_seg dksX4_worst_0 22 rfl rfl
theorem dksX4_worst_2 : cX4_worst.data.toList.drop 45 = dktX4_worst_2 := dk_seg dksX4_worst_1 23 rfl rfl
theorem dksX4_worst_3 : cX4_worst.data.toList.drop 69 = dktX4_worst_3 := dk_seg dksX4_worst_2 24 rfl rfl
theorem dksX4_worst_4 : cX4_worst.data.toList.drop 92 = dktX4_worst_4 := dk_seg dksX4_worst_3 23 rfl rfl
theorem dksX4_worst_5 : cX4_worst.data.toList.drop 115 = dktX4_worst_5 := dk_seg dksX4_worst_4 23 rfl rfl
theorem dksX4_worst_6 : cX4_worst.data.toList.drop 139 = dktX4_worst_6 := dk_seg dksX4_worst_5 24 rfl rfl
theorem dksX4_worst_7 : cX4_worst.data.toList.drop 161 = dktX4_worst_7 := dk_seg dksX4_worst_6 22 rfl rfl
theorem dX4_worst_0 : decode cX4_worst 0 = .ok (.aload_n 0, 1) := dk_42 (dk_at dksX4_worst_0 0 rfl rfl)
theorem dX4_worst_1 : decode cX4_worst 1 = .ok (.iconst 0, 1) := dk_3 (dk_at dksX4_worst_0 1 rfl rfl)
theorem dX4_worst_2 : decode cX4_worst 2 = .ok (.putfield 48, 3) := dk_181 0 48 (dk_at dksX4_worst_0 2 rfl rfl)
theorem dX4_worst_5 : decode cX4_worst 5 = .ok (.aload_n 0, 1) := dk_42 (dk_at dksX4_worst_0 5 rfl rfl)
theorem dX4_worst_6 : decode cX4_worst 6 = .ok (.iload_n 1, 1) := dk_27 (dk_at dksX4_worst_0 6 rfl rfl)
theorem dX4_worst_7 : decode cX4_worst 7 = .ok (.i2l, 1) := dk_133 (dk_at dksX4_worst_0 7 rfl rfl)
theorem dX4_worst_8 : decode cX4_worst 8 = .ok (.lconst 1, 1) := dk_10 (dk_at dksX4_worst_0 8 rfl rfl)
theorem dX4_worst_9 : decode cX4_worst 9 = .ok (.ldc2_w 283, 3) := dk_20 1 27 (dk_at dksX4_worst_0 9 rfl rfl)
theorem dX4_worst_12 : decode cX4_worst 12 = .ok (.invokestatic 107, 3) := dk_184 0 107 (dk_at dksX4_worst_0 12 rfl rfl)
theorem dX4_worst_15 : decode cX4_worst 15 = .ok (.ifCond .eq 13, 3) := dk_153 0 13 (dk_at dksX4_worst_0 15 rfl rfl)
theorem dX4_worst_18 : decode cX4_worst 18 = .ok (.iload_n 2, 1) := dk_28 (dk_at dksX4_worst_0 18 rfl rfl)
theorem dX4_worst_19 : decode cX4_worst 19 = .ok (.i2l, 1) := dk_133 (dk_at dksX4_worst_0 19 rfl rfl)
theorem dX4_worst_20 : decode cX4_worst 20 = .ok (.lconst 0, 1) := dk_9 (dk_at dksX4_worst_0 20 rfl rfl)
theorem dX4_worst_21 : decode cX4_worst 21 = .ok (.lconst 1, 1) := dk_10 (dk_at dksX4_worst_0 21 rfl rfl)
theorem dX4_worst_22 : decode cX4_worst 22 = .ok (.invokestatic 107, 3) := dk_184 0 107 (dk_at dksX4_worst_1 0 rfl rfl)
theorem dX4_worst_25 : decode cX4_worst 25 = .ok (.ifCond .ne 7, 3) := dk_154 0 7 (dk_at dksX4_worst_1 3 rfl rfl)
theorem dX4_worst_28 : decode cX4_worst 28 = .ok (.iconst 1, 1) := dk_4 (dk_at dksX4_worst_1 6 rfl rfl)
theorem dX4_worst_29 : decode cX4_worst 29 = .ok (.goto 4, 3) := dk_167 0 4 (dk_at dksX4_worst_1 7 rfl rfl)
theorem dX4_worst_32 : decode cX4_worst 32 = .ok (.iconst 0, 1) := dk_3 (dk_at dksX4_worst_1 10 rfl rfl)
theorem dX4_worst_33 : decode cX4_worst 33 = .ok (.iconst 1, 1) := dk_4 (dk_at dksX4_worst_1 11 rfl rfl)
theorem dX4_worst_34 : decode cX4_worst 34 = .ok (.iconst 1, 1) := dk_4 (dk_at dksX4_worst_1 12 rfl rfl)
theorem dX4_worst_35 : decode cX4_worst 35 = .ok (.invokevirtual 204, 3) := dk_182 0 204 (dk_at dksX4_worst_1 13 rfl rfl)
theorem dX4_worst_38 : decode cX4_worst 38 = .ok (.ifCond .eq 5, 3) := dk_153 0 5 (dk_at dksX4_worst_1 16 rfl rfl)
theorem dX4_worst_41 : decode cX4_worst 41 = .ok (.iconst 0, 1) := dk_3 (dk_at dksX4_worst_1 19 rfl rfl)
theorem dX4_worst_42 : decode cX4_worst 42 = .ok (.ireturn, 1) := dk_172 (dk_at dksX4_worst_1 20 rfl rfl)
theorem dX4_worst_43 : decode cX4_worst 43 = .ok (.aload_n 0, 1) := dk_42 (dk_at dksX4_worst_1 21 rfl rfl)
theorem dX4_worst_44 : decode cX4_worst 44 = .ok (.aload_n 0, 1) := dk_42 (dk_at dksX4_worst_1 22 rfl rfl)
theorem dX4_worst_45 : decode cX4_worst 45 = .ok (.getfield 20, 3) := dk_180 0 20 (dk_at dksX4_worst_2 0 rfl rfl)
theorem dX4_worst_48 : decode cX4_worst 48 = .ok (.iconst 0, 1) := dk_3 (dk_at dksX4_worst_2 3 rfl rfl)
theorem dX4_worst_49 : decode cX4_worst 49 = .ok (.invokevirtual 255, 3) := dk_182 0 255 (dk_at dksX4_worst_2 4 rfl rfl)
theorem dX4_worst_52 : decode cX4_worst 52 = .ok (.aload_n 0, 1) := dk_42 (dk_at dksX4_worst_2 7 rfl rfl)
theorem dX4_worst_53 : decode cX4_worst 53 = .ok (.getfield 228, 3) := dk_180 0 228 (dk_at dksX4_worst_2 8 rfl rfl)
theorem dX4_worst_56 : decode cX4_worst 56 = .ok (.istore_n 3, 1) := dk_62 (dk_at dksX4_worst_2 11 rfl rfl)
theorem dX4_worst_57 : decode cX4_worst 57 = .ok (.iconst (-1), 1) := dk_2 (dk_at dksX4_worst_2 12 rfl rfl)
theorem dX4_worst_58 : decode cX4_worst 58 = .ok (.istore 4, 2) := dk_54 4 (dk_at dksX4_worst_2 13 rfl rfl)
theorem dX4_worst_60 : decode cX4_worst 60 = .ok (.iconst 0, 1) := dk_3 (dk_at dksX4_worst_2 15 rfl rfl)
theorem dX4_worst_61 : decode cX4_worst 61 = .ok (.istore 5, 2) := dk_54 5 (dk_at dksX4_worst_2 16 rfl rfl)
theorem dX4_worst_63 : decode cX4_worst 63 = .ok (.iconst 0, 1) := dk_3 (dk_at dksX4_worst_2 18 rfl rfl)
theorem dX4_worst_64 : decode cX4_worst 64 = .ok (.istore 6, 2) := dk_54 6 (dk_at dksX4_worst_2 19 rfl rfl)
theorem dX4_worst_66 : decode cX4_worst 66 = .ok (.iload 6, 2) := dk_21 6 (dk_at dksX4_worst_2 21 rfl rfl)
theorem dX4_worst_68 : decode cX4_worst 68 = .ok (.iconst 1, 1) := dk_4 (dk_at dksX4_worst_2 23 rfl rfl)
theorem dX4_worst_69 : decode cX4_worst 69 = .ok (.aload_n 0, 1) := dk_42 (dk_at dksX4_worst_3 0 rfl rfl)
theorem dX4_worst_70 : decode cX4_worst 70 = .ok (.getfield 20, 3) := dk_180 0 20 (dk_at dksX4_worst_3 1 rfl rfl)
theorem dX4_worst_73 : decode cX4_worst 73 = .ok (.iconst 1, 1) := dk_4 (dk_at dksX4_worst_3 4 rfl rfl)
theorem dX4_worst_74 : decode cX4_worst 74 = .ok (.iaload, 1) := dk_46 (dk_at dksX4_worst_3 5 rfl rfl)
theorem dX4_worst_75 : decode cX4_worst 75 = .ok (.ishl, 1) := dk_120 (dk_at dksX4_worst_3 6 rfl rfl)
theorem dX4_worst_76 : decode cX4_worst 76 = .ok (.if_icmp .ge 69, 3) := dk_162 0 69 (dk_at dksX4_worst_3 7 rfl rfl)
theorem dX4_worst_79 : decode cX4_worst 79 = .ok (.iload 6, 2) := dk_21 6 (dk_at dksX4_worst_3 10 rfl rfl)
theorem dX4_worst_81 : decode cX4_worst 81 = .ok (.iload_n 3, 1) := dk_29 (dk_at dksX4_worst_3 12 rfl rfl)
theorem dX4_worst_82 : decode cX4_worst 82 = .ok (.iand, 1) := dk_126 (dk_at dksX4_worst_3 13 rfl rfl)
theorem dX4_worst_83 : decode cX4_worst 83 = .ok (.ifCond .ne 56, 3) := dk_154 0 56 (dk_at dksX4_worst_3 14 rfl rfl)
theorem dX4_worst_86 : decode cX4_worst 86 = .ok (.iload 6, 2) := dk_21 6 (dk_at dksX4_worst_3 17 rfl rfl)
theorem dX4_worst_88 : decode cX4_worst 88 = .ok (.invokestatic 323, 3) := dk_184 1 67 (dk_at dksX4_worst_3 19 rfl rfl)
theorem dX4_worst_91 : decode cX4_worst 91 = .ok (.iload_n 1, 1) := dk_27 (dk_at dksX4_worst_3 22 rfl rfl)
theorem dX4_worst_92 : decode cX4_worst 92 = .ok (.if_icmp .eq 6, 3) := dk_159 0 6 (dk_at dksX4_worst_4 0 rfl rfl)
theorem dX4_worst_95 : decode cX4_worst 95 = .ok (.goto 44, 3) := dk_167 0 44 (dk_at dksX4_worst_4 3 rfl rfl)
theorem dX4_worst_98 : decode cX4_worst 98 = .ok (.aload_n 0, 1) := dk_42 (dk_at dksX4_worst_4 6 rfl rfl)
theorem dX4_worst_99 : decode cX4_worst 99 = .ok (.aload_n 0, 1) := dk_42 (dk_at dksX4_worst_4 7 rfl rfl)
theorem dX4_worst_100 : decode cX4_worst 100 = .ok (.getfield 20, 3) := dk_180 0 20 (dk_at dksX4_worst_4 8 rfl rfl)
theorem dX4_worst_103 : decode cX4_worst 103 = .ok (.iload 6, 2) := dk_21 6 (dk_at dksX4_worst_4 11 rfl rfl)
theorem dX4_worst_105 : decode cX4_worst 105 = .ok (.invokevirtual 255, 3) := dk_182 0 255 (dk_at dksX4_worst_4 13 rfl rfl)
theorem dX4_worst_108 : decode cX4_worst 108 = .ok (.aload_n 0, 1) := dk_42 (dk_at dksX4_worst_4 16 rfl rfl)
theorem dX4_worst_109 : decode cX4_worst 109 = .ok (.iconst 0, 1) := dk_3 (dk_at dksX4_worst_4 17 rfl rfl)
theorem dX4_worst_110 : decode cX4_worst 110 = .ok (.invokevirtual 287, 3) := dk_182 1 31 (dk_at dksX4_worst_4 18 rfl rfl)
theorem dX4_worst_113 : decode cX4_worst 113 = .ok (.istore 7, 2) := dk_54 7 (dk_at dksX4_worst_4 21 rfl rfl)
theorem dX4_worst_115 : decode cX4_worst 115 = .ok (.iload 4, 2) := dk_21 4 (dk_at dksX4_worst_5 0 rfl rfl)
theorem dX4_worst_117 : decode cX4_worst 117 = .ok (.iconst (-1), 1) := dk_2 (dk_at dksX4_worst_5 2 rfl rfl)
theorem dX4_worst_118 : decode cX4_worst 118 = .ok (.if_icmp .eq 13, 3) := dk_159 0 13 (dk_at dksX4_worst_5 3 rfl rfl)
theorem dX4_worst_121 : decode cX4_worst 121 = .ok (.iload 7, 2) := dk_21 7 (dk_at dksX4_worst_5 6 rfl rfl)
theorem dX4_worst_123 : decode cX4_worst 123 = .ok (.iload 5, 2) := dk_21 5 (dk_at dksX4_worst_5 8 rfl rfl)
theorem dX4_worst_125 : decode cX4_worst 125 = .ok (.if_icmp .lt 6, 3) := dk_161 0 6 (dk_at dksX4_worst_5 10 rfl rfl)
theorem dX4_worst_128 : decode cX4_worst 128 = .ok (.goto 11, 3) := dk_167 0 11 (dk_at dksX4_worst_5 13 rfl rfl)
theorem dX4_worst_131 : decode cX4_worst 131 = .ok (.iload 6, 2) := dk_21 6 (dk_at dksX4_worst_5 16 rfl rfl)
theorem dX4_worst_133 : decode cX4_worst 133 = .ok (.istore 4, 2) := dk_54 4 (dk_at dksX4_worst_5 18 rfl rfl)
theorem dX4_worst_135 : decode cX4_worst 135 = .ok (.iload 7, 2) := dk_21 7 (dk_at dksX4_worst_5 20 rfl rfl)
theorem dX4_worst_137 : decode cX4_worst 137 = .ok (.istore 5, 2) := dk_54 5 (dk_at dksX4_worst_5 22 rfl rfl)
theorem dX4_worst_139 : decode cX4_worst 139 = .ok (.iinc 6 1, 3) := dk_132 6 1 (dk_at dksX4_worst_6 0 rfl rfl)
theorem dX4_worst_142 : decode cX4_worst 142 = .ok (.goto (-76), 3) := dk_167 255 180 (dk_at dksX4_worst_6 3 rfl rfl)
theorem dX4_worst_145 : decode cX4_worst 145 = .ok (.iload 4, 2) := dk_21 4 (dk_at dksX4_worst_6 6 rfl rfl)
theorem dX4_worst_147 : decode cX4_worst 147 = .ok (.iconst (-1), 1) := dk_2 (dk_at dksX4_worst_6 8 rfl rfl)
theorem dX4_worst_148 : decode cX4_worst 148 = .ok (.if_icmp .ne 7, 3) := dk_160 0 7 (dk_at dksX4_worst_6 9 rfl rfl)
theorem dX4_worst_151 : decode cX4_worst 151 = .ok (.iconst (-1), 1) := dk_2 (dk_at dksX4_worst_6 12 rfl rfl)
theorem dX4_worst_152 : decode cX4_worst 152 = .ok (.goto 14, 3) := dk_167 0 14 (dk_at dksX4_worst_6 13 rfl rfl)
theorem dX4_worst_155 : decode cX4_worst 155 = .ok (.iload_n 2, 1) := dk_28 (dk_at dksX4_worst_6 16 rfl rfl)
theorem dX4_worst_156 : decode cX4_worst 156 = .ok (.ifCond .ne 8, 3) := dk_154 0 8 (dk_at dksX4_worst_6 17 rfl rfl)
theorem dX4_worst_159 : decode cX4_worst 159 = .ok (.iload 4, 2) := dk_21 4 (dk_at dksX4_worst_6 20 rfl rfl)
theorem dX4_worst_161 : decode cX4_worst 161 = .ok (.goto 5, 3) := dk_167 0 5 (dk_at dksX4_worst_7 0 rfl rfl)
theorem dX4_worst_164 : decode cX4_worst 164 = .ok (.iload 5, 2) := dk_21 5 (dk_at dksX4_worst_7 3 rfl rfl)
theorem dX4_worst_166 : decode cX4_worst 166 = .ok (.ireturn, 1) := dk_172 (dk_at dksX4_worst_7 5 rfl rfl)
abbrev cX4_cost : ByteArray := prog_12_method_82_code
def yX4_cost : MethodName := ⟨RX4, "cost", "(I)I"⟩
def dkwX4_cost_2 : List UInt8 := [172]
abbrev dktX4_cost_2 : List UInt8 := dkwX4_cost_2 ++ []
def dkwX4_cost_1 : List UInt8 := [158, 0, 7, 4, 167, 0, 4, 3, 4, 4, 182, 0, 204, 153, 0, 5, 3, 172, 27, 42, 182, 0, 218, 104]
abbrev dktX4_cost_1 : List UInt8 := dkwX4_cost_1 ++ dktX4_cost_2
def dkwX4_cost_0 : List UInt8 := [42, 3, 181, 0, 48, 42, 27, 155, 0, 18, 27, 133, 42, 182, 0, 218, 133, 105, 20, 1, 75, 148]
abbrev dktX4_cost_0 : List UInt8 := dkwX4_cost_0 ++ dktX4_cost_1
theorem dksX4_cost_0 : cX4_cost.data.toList.drop 0 = dktX4_cost_0 := by decide +kernel
theorem dksX4_cost_1 : cX4_cost.data.toList.drop 22 = dktX4_cost_1 := dk_seg dksX4_cost_0 22 rfl rfl
theorem dksX4_cost_2 : cX4_cost.data.toList.drop 46 = dktX4_cost_2 := dk_seg dksX4_cost_1 24 rfl rfl
theorem dX4_cost_0 : decode cX4_cost 0 = .ok (.aload_n 0, 1) := dk_42 (dk_at dksX4_cost_0 0 rfl rfl)
theorem dX4_cost_1 : decode cX4_cost 1 = .ok (.iconst 0, 1) := dk_3 (dk_at dksX4_cost_0 1 rfl rfl)
theorem dX4_cost_2 : decode cX4_cost 2 = .ok (.putfield 48, 3) := dk_181 0 48 (dk_at dksX4_cost_0 2 rfl rfl)
theorem dX4_cost_5 : decode cX4_cost 5 = .ok (.aload_n 0, 1) := dk_42 (dk_at dksX4_cost_0 5 rfl rfl)
theorem dX4_cost_6 : decode cX4_cost 6 = .ok (.iload_n 1, 1) := dk_27 (dk_at dksX4_cost_0 6 rfl rfl)
theorem dX4_cost_7 : decode cX4_cost 7 = .ok (.ifCond .lt 18, 3) := dk_155 0 18 (dk_at dksX4_cost_0 7 rfl rfl)
theorem dX4_cost_10 : decode cX4_cost 10 = .ok (.iload_n 1, 1) := dk_27 (dk_at dksX4_cost_0 10 rfl rfl)
theorem dX4_cost_11 : decode cX4_cost 11 = .ok (.i2l, 1) := dk_133 (dk_at dksX4_cost_0 11 rfl rfl)
theorem dX4_cost_12 : decode cX4_cost 12 = .ok (.aload_n 0, 1) := dk_42 (dk_at dksX4_cost_0 12 rfl rfl)
theorem dX4_cost_13 : decode cX4_cost 13 = .ok (.invokevirtual 218, 3) := dk_182 0 218 (dk_at dksX4_cost_0 13 rfl rfl)
theorem dX4_cost_16 : decode cX4_cost 16 = .ok (.i2l, 1) := dk_133 (dk_at dksX4_cost_0 16 rfl rfl)
theorem dX4_cost_17 : decode cX4_cost 17 = .ok (.lmul, 1) := dk_105 (dk_at dksX4_cost_0 17 rfl rfl)
theorem dX4_cost_18 : decode cX4_cost 18 = .ok (.ldc2_w 331, 3) := dk_20 1 75 (dk_at dksX4_cost_0 18 rfl rfl)
theorem dX4_cost_21 : decode cX4_cost 21 = .ok (.lcmp, 1) := dk_148 (dk_at dksX4_cost_0 21 rfl rfl)
theorem dX4_cost_22 : decode cX4_cost 22 = .ok (.ifCond .le 7, 3) := dk_158 0 7 (dk_at dksX4_cost_1 0 rfl rfl)
theorem dX4_cost_25 : decode cX4_cost 25 = .ok (.iconst 1, 1) := dk_4 (dk_at dksX4_cost_1 3 rfl rfl)
theorem dX4_cost_26 : decode cX4_cost 26 = .ok (.goto 4, 3) := dk_167 0 4 (dk_at dksX4_cost_1 4 rfl rfl)
theorem dX4_cost_29 : decode cX4_cost 29 = .ok (.iconst 0, 1) := dk_3 (dk_at dksX4_cost_1 7 rfl rfl)
theorem dX4_cost_30 : decode cX4_cost 30 = .ok (.iconst 1, 1) := dk_4 (dk_at dksX4_cost_1 8 rfl rfl)
theorem dX4_cost_31 : decode cX4_cost 31 = .ok (.iconst 1, 1) := dk_4 (dk_at dksX4_cost_1 9 rfl rfl)
theorem dX4_cost_32 : decode cX4_cost 32 = .ok (.invokevirtual 204, 3) := dk_182 0 204 (dk_at dksX4_cost_1 10 rfl rfl)
theorem dX4_cost_35 : decode cX4_cost 35 = .ok (.ifCond .eq 5, 3) := dk_153 0 5 (dk_at dksX4_cost_1 13 rfl rfl)
theorem dX4_cost_38 : decode cX4_cost 38 = .ok (.iconst 0, 1) := dk_3 (dk_at dksX4_cost_1 16 rfl rfl)
theorem dX4_cost_39 : decode cX4_cost 39 = .ok (.ireturn, 1) := dk_172 (dk_at dksX4_cost_1 17 rfl rfl)
theorem dX4_cost_40 : decode cX4_cost 40 = .ok (.iload_n 1, 1) := dk_27 (dk_at dksX4_cost_1 18 rfl rfl)
theorem dX4_cost_41 : decode cX4_cost 41 = .ok (.aload_n 0, 1) := dk_42 (dk_at dksX4_cost_1 19 rfl rfl)
theorem dX4_cost_42 : decode cX4_cost 42 = .ok (.invokevirtual 218, 3) := dk_182 0 218 (dk_at dksX4_cost_1 20 rfl rfl)
theorem dX4_cost_45 : decode cX4_cost 45 = .ok (.imul, 1) := dk_104 (dk_at dksX4_cost_1 23 rfl rfl)
theorem dX4_cost_46 : decode cX4_cost 46 = .ok (.ireturn, 1) := dk_172 (dk_at dksX4_cost_2 0 rfl rfl)
abbrev cX4_print : ByteArray := prog_12_method_83_code
def yX4_print : MethodName := ⟨RX4, "print", "()J"⟩
def dkwX4_print_2 : List UInt8 := [42, 180, 0, 31, 29, 46, 133, 97, 64, 132, 3, 1, 167, 255, 215, 31, 173]
abbrev dktX4_print_2 : List UInt8 := dkwX4_print_2 ++ []
def dkwX4_print_1 : List UInt8 := [162, 0, 39, 20, 1, 77, 20, 1, 77, 31, 105, 42, 180, 0, 20, 29, 4, 184, 0, 124, 46, 133, 97, 105]
abbrev dktX4_print_1 : List UInt8 := dkwX4_print_1 ++ dktX4_print_2
def dkwX4_print_0 : List UInt8 := [42, 3, 181, 0, 48, 42, 42, 180, 0, 20, 3, 182, 0, 255, 9, 64, 3, 62, 29, 42, 182, 0, 218]
abbrev dktX4_print_0 : List UInt8 := dkwX4_print_0 ++ dktX4_print_1
theorem dksX4_print_0 : cX4_print.data.toList.drop 0 = dktX4_print_0 := by decide +kernel
theorem dksX4_print_1 : cX4_print.data.toList.drop 23 = dktX4_print_1 := dk_seg dksX4_print_0 23 rfl rfl
theorem dksX4_print_2 : cX4_print.data.toList.drop 47 = dktX4_print_2 := dk_seg dksX4_print_1 24 rfl rfl
theorem dX4_print_0 : decode cX4_print 0 = .ok (.aload_n 0, 1) := dk_42 (dk_at dksX4_print_0 0 rfl rfl)
theorem dX4_print_1 : decode cX4_print 1 = .ok (.iconst 0, 1) := dk_3 (dk_at dksX4_print_0 1 rfl rfl)
theorem dX4_print_2 : decode cX4_print 2 = .ok (.putfield 48, 3) := dk_181 0 48 (dk_at dksX4_print_0 2 rfl rfl)
theorem dX4_print_5 : decode cX4_print 5 = .ok (.aload_n 0, 1) := dk_42 (dk_at dksX4_print_0 5 rfl rfl)
theorem dX4_print_6 : decode cX4_print 6 = .ok (.aload_n 0, 1) := dk_42 (dk_at dksX4_print_0 6 rfl rfl)
theorem dX4_print_7 : decode cX4_print 7 = .ok (.getfield 20, 3) := dk_180 0 20 (dk_at dksX4_print_0 7 rfl rfl)
theorem dX4_print_10 : decode cX4_print 10 = .ok (.iconst 0, 1) := dk_3 (dk_at dksX4_print_0 10 rfl rfl)
theorem dX4_print_11 : decode cX4_print 11 = .ok (.invokevirtual 255, 3) := dk_182 0 255 (dk_at dksX4_print_0 11 rfl rfl)
theorem dX4_print_14 : decode cX4_print 14 = .ok (.lconst 0, 1) := dk_9 (dk_at dksX4_print_0 14 rfl rfl)
theorem dX4_print_15 : decode cX4_print 15 = .ok (.lstore_n 1, 1) := dk_64 (dk_at dksX4_print_0 15 rfl rfl)
theorem dX4_print_16 : decode cX4_print 16 = .ok (.iconst 0, 1) := dk_3 (dk_at dksX4_print_0 16 rfl rfl)
theorem dX4_print_17 : decode cX4_print 17 = .ok (.istore_n 3, 1) := dk_62 (dk_at dksX4_print_0 17 rfl rfl)
theorem dX4_print_18 : decode cX4_print 18 = .ok (.iload_n 3, 1) := dk_29 (dk_at dksX4_print_0 18 rfl rfl)
theorem dX4_print_19 : decode cX4_print 19 = .ok (.aload_n 0, 1) := dk_42 (dk_at dksX4_print_0 19 rfl rfl)
theorem dX4_print_20 : decode cX4_print 20 = .ok (.invokevirtual 218, 3) := dk_182 0 218 (dk_at dksX4_print_0 20 rfl rfl)
theorem dX4_print_23 : decode cX4_print 23 = .ok (.if_icmp .ge 39, 3) := dk_162 0 39 (dk_at dksX4_print_1 0 rfl rfl)
theorem dX4_print_26 : decode cX4_print 26 = .ok (.ldc2_w 333, 3) := dk_20 1 77 (dk_at dksX4_print_1 3 rfl rfl)
theorem dX4_print_29 : decode cX4_print 29 = .ok (.ldc2_w 333, 3) := dk_20 1 77 (dk_at dksX4_print_1 6 rfl rfl)
theorem dX4_print_32 : decode cX4_print 32 = .ok (.lload_n 1, 1) := dk_31 (dk_at dksX4_print_1 9 rfl rfl)
theorem dX4_print_33 : decode cX4_print 33 = .ok (.lmul, 1) := dk_105 (dk_at dksX4_print_1 10 rfl rfl)
theorem dX4_print_34 : decode cX4_print 34 = .ok (.aload_n 0, 1) := dk_42 (dk_at dksX4_print_1 11 rfl rfl)
theorem dX4_print_35 : decode cX4_print 35 = .ok (.getfield 20, 3) := dk_180 0 20 (dk_at dksX4_print_1 12 rfl rfl)
theorem dX4_print_38 : decode cX4_print 38 = .ok (.iload_n 3, 1) := dk_29 (dk_at dksX4_print_1 15 rfl rfl)
theorem dX4_print_39 : decode cX4_print 39 = .ok (.iconst 1, 1) := dk_4 (dk_at dksX4_print_1 16 rfl rfl)
theorem dX4_print_40 : decode cX4_print 40 = .ok (.invokestatic 124, 3) := dk_184 0 124 (dk_at dksX4_print_1 17 rfl rfl)
theorem dX4_print_43 : decode cX4_print 43 = .ok (.iaload, 1) := dk_46 (dk_at dksX4_print_1 20 rfl rfl)
theorem dX4_print_44 : decode cX4_print 44 = .ok (.i2l, 1) := dk_133 (dk_at dksX4_print_1 21 rfl rfl)
theorem dX4_print_45 : decode cX4_print 45 = .ok (.ladd, 1) := dk_97 (dk_at dksX4_print_1 22 rfl rfl)
theorem dX4_print_46 : decode cX4_print 46 = .ok (.lmul, 1) := dk_105 (dk_at dksX4_print_1 23 rfl rfl)
theorem dX4_print_47 : decode cX4_print 47 = .ok (.aload_n 0, 1) := dk_42 (dk_at dksX4_print_2 0 rfl rfl)
theorem dX4_print_48 : decode cX4_print 48 = .ok (.getfield 31, 3) := dk_180 0 31 (dk_at dksX4_print_2 1 rfl rfl)
theorem dX4_print_51 : decode cX4_print 51 = .ok (.iload_n 3, 1) := dk_29 (dk_at dksX4_print_2 4 rfl rfl)
theorem dX4_print_52 : decode cX4_print 52 = .ok (.iaload, 1) := dk_46 (dk_at dksX4_print_2 5 rfl rfl)
theorem dX4_print_53 : decode cX4_print 53 = .ok (.i2l, 1) := dk_133 (dk_at dksX4_print_2 6 rfl rfl)
theorem dX4_print_54 : decode cX4_print 54 = .ok (.ladd, 1) := dk_97 (dk_at dksX4_print_2 7 rfl rfl)
theorem dX4_print_55 : decode cX4_print 55 = .ok (.lstore_n 1, 1) := dk_64 (dk_at dksX4_print_2 8 rfl rfl)
theorem dX4_print_56 : decode cX4_print 56 = .ok (.iinc 3 1, 3) := dk_132 3 1 (dk_at dksX4_print_2 9 rfl rfl)
theorem dX4_print_59 : decode cX4_print 59 = .ok (.goto (-41), 3) := dk_167 255 215 (dk_at dksX4_print_2 12 rfl rfl)
theorem dX4_print_62 : decode cX4_print 62 = .ok (.lload_n 1, 1) := dk_31 (dk_at dksX4_print_2 15 rfl rfl)
theorem dX4_print_63 : decode cX4_print 63 = .ok (.lreturn, 1) := dk_173 (dk_at dksX4_print_2 16 rfl rfl)
abbrev cX4_status : ByteArray := prog_12_method_84_code
def yX4_status : MethodName := ⟨RX4, "status", "(I)I"⟩
def dkwX4_status_1 : List UInt8 := [167, 0, 4, 2, 172]
abbrev dktX4_status_1 : List UInt8 := dkwX4_status_1 ++ []
def dkwX4_status_0 : List UInt8 := [42, 3, 181, 0, 48, 27, 133, 9, 20, 1, 79, 184, 0, 107, 153, 0, 12, 42, 180, 0, 9, 27, 46]
abbrev dktX4_status_0 : List UInt8 := dkwX4_status_0 ++ dktX4_status_1
theorem dksX4_status_0 : cX4_status.data.toList.drop 0 = dktX4_status_0 := by decide +kernel
theorem dksX4_status_1 : cX4_status.data.toList.drop 23 = dktX4_status_1 := dk_seg dksX4_status_0 23 rfl rfl
theorem dX4_status_0 : decode cX4_status 0 = .ok (.aload_n 0, 1) := dk_42 (dk_at dksX4_status_0 0 rfl rfl)
theorem dX4_status_1 : decode cX4_status 1 = .ok (.iconst 0, 1) := dk_3 (dk_at dksX4_status_0 1 rfl rfl)
theorem dX4_status_2 : decode cX4_status 2 = .ok (.putfield 48, 3) := dk_181 0 48 (dk_at dksX4_status_0 2 rfl rfl)
theorem dX4_status_5 : decode cX4_status 5 = .ok (.iload_n 1, 1) := dk_27 (dk_at dksX4_status_0 5 rfl rfl)
theorem dX4_status_6 : decode cX4_status 6 = .ok (.i2l, 1) := dk_133 (dk_at dksX4_status_0 6 rfl rfl)
theorem dX4_status_7 : decode cX4_status 7 = .ok (.lconst 0, 1) := dk_9 (dk_at dksX4_status_0 7 rfl rfl)
theorem dX4_status_8 : decode cX4_status 8 = .ok (.ldc2_w 335, 3) := dk_20 1 79 (dk_at dksX4_status_0 8 rfl rfl)
theorem dX4_status_11 : decode cX4_status 11 = .ok (.invokestatic 107, 3) := dk_184 0 107 (dk_at dksX4_status_0 11 rfl rfl)
theorem dX4_status_14 : decode cX4_status 14 = .ok (.ifCond .eq 12, 3) := dk_153 0 12 (dk_at dksX4_status_0 14 rfl rfl)
theorem dX4_status_17 : decode cX4_status 17 = .ok (.aload_n 0, 1) := dk_42 (dk_at dksX4_status_0 17 rfl rfl)
theorem dX4_status_18 : decode cX4_status 18 = .ok (.getfield 9, 3) := dk_180 0 9 (dk_at dksX4_status_0 18 rfl rfl)
theorem dX4_status_21 : decode cX4_status 21 = .ok (.iload_n 1, 1) := dk_27 (dk_at dksX4_status_0 21 rfl rfl)
theorem dX4_status_22 : decode cX4_status 22 = .ok (.iaload, 1) := dk_46 (dk_at dksX4_status_0 22 rfl rfl)
theorem dX4_status_23 : decode cX4_status 23 = .ok (.goto 4, 3) := dk_167 0 4 (dk_at dksX4_status_1 0 rfl rfl)
theorem dX4_status_26 : decode cX4_status 26 = .ok (.iconst (-1), 1) := dk_2 (dk_at dksX4_status_1 3 rfl rfl)
theorem dX4_status_27 : decode cX4_status 27 = .ok (.ireturn, 1) := dk_172 (dk_at dksX4_status_1 4 rfl rfl)
theorem q104 : (Jvm.Cond.initialized "PetitionDeskModel") ∈ lw_all := lw_g (lw_at lw_m1 16 rfl) rfl
theorem q507 : (Jvm.Cond.selects "PetitionDeskModel" ({ cls := "java/lang/Object", name := "equals", desc := "(Ljava/lang/Object;)Z" } : Jvm.MethodName) ({ cls := "java/lang/Object", name := "equals", desc := "(Ljava/lang/Object;)Z" } : Jvm.MethodName)) ∈ lw_all := lw_g (lw_at lw_m2 179 rfl) rfl
theorem q1163 : (Jvm.Cond.selects "PetitionDeskModel" ({ cls := "java/lang/Object", name := "getClass", desc := "()Ljava/lang/Class;" } : Jvm.MethodName) ({ cls := "java/lang/Object", name := "getClass", desc := "()Ljava/lang/Class;" } : Jvm.MethodName)) ∈ lw_all := lw_g (lw_at lw_m5 115 rfl) rfl
theorem q1659 : (Jvm.Cond.instantiable "PetitionDeskModel" (21 : Nat)) ∈ lw_all := lw_g (lw_at lw_m7 131 rfl) rfl
theorem q1661 : (Jvm.Cond.instanceMethod ({ cls := "PetitionDeskModel", name := "<init>", desc := "()V" } : Jvm.MethodName)) ∈ lw_all := lw_g (lw_at lw_m7 133 rfl) rfl
theorem q1662 : (Jvm.Cond.code ({ cls := "PetitionDeskModel", name := "<init>", desc := "()V" } : Jvm.MethodName) prog_12_method_1_code (1 : Nat) (Option.none : Option Jvm.ClassFile.FieldType)) ∈ lw_all := lw_g (lw_at lw_m7 134 rfl) rfl
theorem q1663 : (Jvm.Cond.methodLink "PetitionDeskModel" (3 : Nat) ({ cls := "java/lang/Object", name := "<init>", desc := "()V" } : Jvm.MethodName)) ∈ lw_all := lw_g (lw_at lw_m7 135 rfl) rfl
theorem q1664 : (Jvm.Cond.classLink "PetitionDeskModel" (26 : Nat) "[[I") ∈ lw_all := lw_g (lw_at lw_m7 136 rfl) rfl
theorem q1666 : (Jvm.Cond.methodLink "PetitionDeskModel" (44 : Nat) ({ cls := "PetitionDeskModel", name := "begins", desc := "([I)V" } : Jvm.MethodName)) ∈ lw_all := lw_g (lw_at lw_m7 138 rfl) rfl
theorem q1667 : (Jvm.Cond.static ({ cls := "PetitionDeskModel", name := "begins", desc := "([I)V" } : Jvm.MethodName)) ∈ lw_all := lw_g (lw_at lw_m7 139 rfl) rfl
theorem q1668 : (Jvm.Cond.code ({ cls := "PetitionDeskModel", name := "begins", desc := "([I)V" } : Jvm.MethodName) prog_12_method_2_code (2 : Nat) (Option.none : Option Jvm.ClassFile.FieldType)) ∈ lw_all := lw_g (lw_at lw_m7 140 rfl) rfl
theorem q1669 : (Jvm.Cond.fieldLink "PetitionDeskModel" (48 : Nat) "PetitionDeskModel" "thrown" "I") ∈ lw_all := lw_g (lw_at lw_m7 141 rfl) rfl
theorem q1670 : (Jvm.Cond.fieldLink "PetitionDeskModel" (9 : Nat) "PetitionDeskModel" "refused" "[I") ∈ lw_all := lw_g (lw_at lw_m7 142 rfl) rfl
theorem q1671 : (Jvm.Cond.fieldLink "PetitionDeskModel" (51 : Nat) "PetitionDeskModel" "tape" "I") ∈ lw_all := lw_g (lw_at lw_m7 143 rfl) rfl
theorem q1672 : (Jvm.Cond.fieldLink "PetitionDeskModel" (54 : Nat) "PetitionDeskModel" "size" "I") ∈ lw_all := lw_g (lw_at lw_m7 144 rfl) rfl
theorem q1673 : (Jvm.Cond.fieldLink "PetitionDeskModel" (57 : Nat) "PetitionDeskModel" "at" "I") ∈ lw_all := lw_g (lw_at lw_m7 145 rfl) rfl
theorem q1674 : (Jvm.Cond.fieldLink "PetitionDeskModel" (13 : Nat) "PetitionDeskModel" "place" "I") ∈ lw_all := lw_g (lw_at lw_m7 146 rfl) rfl
theorem q1675 : (Jvm.Cond.fieldLink "PetitionDeskModel" (64 : Nat) "PetitionDeskModel" "fault" "I") ∈ lw_all := lw_g (lw_at lw_m7 147 rfl) rfl
theorem q1676 : (Jvm.Cond.fieldLink "PetitionDeskModel" (67 : Nat) "PetitionDeskModel" "faultAt" "I") ∈ lw_all := lw_g (lw_at lw_m7 148 rfl) rfl
theorem q1677 : (Jvm.Cond.fieldLink "PetitionDeskModel" (17 : Nat) "PetitionDeskModel" "fed" "[I") ∈ lw_all := lw_g (lw_at lw_m7 149 rfl) rfl
theorem q1678 : (Jvm.Cond.fieldLink "PetitionDeskModel" (20 : Nat) "PetitionDeskModel" "now" "[I") ∈ lw_all := lw_g (lw_at lw_m7 150 rfl) rfl
theorem q1679 : (Jvm.Cond.fieldLink "PetitionDeskModel" (23 : Nat) "PetitionDeskModel" "told" "[I") ∈ lw_all := lw_g (lw_at lw_m7 151 rfl) rfl
theorem q1680 : (Jvm.Cond.fieldLink "PetitionDeskModel" (28 : Nat) "PetitionDeskModel" "past" "[[I") ∈ lw_all := lw_g (lw_at lw_m7 152 rfl) rfl
theorem q1681 : (Jvm.Cond.fieldLink "PetitionDeskModel" (235 : Nat) "PetitionDeskModel" "backs" "I") ∈ lw_all := lw_g (lw_at lw_m7 153 rfl) rfl
theorem q1682 : (Jvm.Cond.fieldLink "PetitionDeskModel" (127 : Nat) "PetitionDeskModel" "codes" "I") ∈ lw_all := lw_g (lw_at lw_m7 154 rfl) rfl
theorem q1683 : (Jvm.Cond.fieldLink "PetitionDeskModel" (158 : Nat) "PetitionDeskModel" "open" "I") ∈ lw_all := lw_g (lw_at lw_m7 155 rfl) rfl
theorem q1684 : (Jvm.Cond.fieldLink "PetitionDeskModel" (177 : Nat) "PetitionDeskModel" "once" "I") ∈ lw_all := lw_g (lw_at lw_m7 156 rfl) rfl
theorem q1685 : (Jvm.Cond.fieldLink "PetitionDeskModel" (31 : Nat) "PetitionDeskModel" "how" "[I") ∈ lw_all := lw_g (lw_at lw_m7 157 rfl) rfl
theorem q1686 : (Jvm.Cond.fieldLink "PetitionDeskModel" (34 : Nat) "PetitionDeskModel" "whose" "[I") ∈ lw_all := lw_g (lw_at lw_m7 158 rfl) rfl
theorem q1687 : (Jvm.Cond.fieldLink "PetitionDeskModel" (37 : Nat) "PetitionDeskModel" "stack" "[I") ∈ lw_all := lw_g (lw_at lw_m7 159 rfl) rfl
theorem q1688 : (Jvm.Cond.fieldLink "PetitionDeskModel" (228 : Nat) "PetitionDeskModel" "struck" "I") ∈ lw_all := lw_g (lw_at lw_m7 160 rfl) rfl
theorem q1689 : (Jvm.Cond.fieldLink "PetitionDeskModel" (40 : Nat) "PetitionDeskModel" "apart" "[J") ∈ lw_all := lw_g (lw_at lw_m7 161 rfl) rfl
theorem q1690 : (Jvm.Cond.lays "PetitionDeskModel" "PetitionDeskModel" "thrown" "I") ∈ lw_all := lw_g (lw_at lw_m7 162 rfl) rfl
theorem q1691 : (Jvm.Cond.soleField "PetitionDeskModel" "thrown") ∈ lw_all := lw_g (lw_at lw_m7 163 rfl) rfl
theorem q1692 : (Jvm.Cond.laysFinal "PetitionDeskModel" "PetitionDeskModel" "refused" "[I") ∈ lw_all := lw_g (lw_at lw_m7 164 rfl) rfl
theorem q1693 : (Jvm.Cond.soleField "PetitionDeskModel" "refused") ∈ lw_all := lw_g (lw_at lw_m7 165 rfl) rfl
theorem q1694 : (Jvm.Cond.lays "PetitionDeskModel" "PetitionDeskModel" "tape" "I") ∈ lw_all := lw_g (lw_at lw_m7 166 rfl) rfl
theorem q1695 : (Jvm.Cond.soleField "PetitionDeskModel" "tape") ∈ lw_all := lw_g (lw_at lw_m7 167 rfl) rfl
theorem q1696 : (Jvm.Cond.lays "PetitionDeskModel" "PetitionDeskModel" "size" "I") ∈ lw_all := lw_g (lw_at lw_m7 168 rfl) rfl
theorem q1697 : (Jvm.Cond.soleField "PetitionDeskModel" "size") ∈ lw_all := lw_g (lw_at lw_m7 169 rfl) rfl
theorem q1698 : (Jvm.Cond.lays "PetitionDeskModel" "PetitionDeskModel" "at" "I") ∈ lw_all := lw_g (lw_at lw_m7 170 rfl) rfl
theorem q1699 : (Jvm.Cond.soleField "PetitionDeskModel" "at") ∈ lw_all := lw_g (lw_at lw_m7 171 rfl) rfl
theorem q1700 : (Jvm.Cond.lays "PetitionDeskModel" "PetitionDeskModel" "place" "I") ∈ lw_all := lw_g (lw_at lw_m7 172 rfl) rfl
theorem q1701 : (Jvm.Cond.soleField "PetitionDeskModel" "place") ∈ lw_all := lw_g (lw_at lw_m7 173 rfl) rfl
theorem q1702 : (Jvm.Cond.lays "PetitionDeskModel" "PetitionDeskModel" "fault" "I") ∈ lw_all := lw_g (lw_at lw_m7 174 rfl) rfl
theorem q1703 : (Jvm.Cond.soleField "PetitionDeskModel" "fault") ∈ lw_all := lw_g (lw_at lw_m7 175 rfl) rfl
theorem q1704 : (Jvm.Cond.lays "PetitionDeskModel" "PetitionDeskModel" "faultAt" "I") ∈ lw_all := lw_g (lw_at lw_m7 176 rfl) rfl
theorem q1705 : (Jvm.Cond.soleField "PetitionDeskModel" "faultAt") ∈ lw_all := lw_g (lw_at lw_m7 177 rfl) rfl
theorem q1706 : (Jvm.Cond.laysFinal "PetitionDeskModel" "PetitionDeskModel" "fed" "[I") ∈ lw_all := lw_g (lw_at lw_m7 178 rfl) rfl
theorem q1707 : (Jvm.Cond.soleField "PetitionDeskModel" "fed") ∈ lw_all := lw_g (lw_at lw_m7 179 rfl) rfl
theorem q1708 : (Jvm.Cond.laysFinal "PetitionDeskModel" "PetitionDeskModel" "now" "[I") ∈ lw_all := lw_g (lw_at lw_m7 180 rfl) rfl
theorem q1709 : (Jvm.Cond.soleField "PetitionDeskModel" "now") ∈ lw_all := lw_g (lw_at lw_m7 181 rfl) rfl
theorem q1710 : (Jvm.Cond.laysFinal "PetitionDeskModel" "PetitionDeskModel" "told" "[I") ∈ lw_all := lw_g (lw_at lw_m7 182 rfl) rfl
theorem q1711 : (Jvm.Cond.soleField "PetitionDeskModel" "told") ∈ lw_all := lw_g (lw_at lw_m7 183 rfl) rfl
theorem q1712 : (Jvm.Cond.laysFinal "PetitionDeskModel" "PetitionDeskModel" "past" "[[I") ∈ lw_all := lw_g (lw_at lw_m7 184 rfl) rfl
theorem q1713 : (Jvm.Cond.soleField "PetitionDeskModel" "past") ∈ lw_all := lw_g (lw_at lw_m7 185 rfl) rfl
theorem q1714 : (Jvm.Cond.lays "PetitionDeskModel" "PetitionDeskModel" "backs" "I") ∈ lw_all := lw_g (lw_at lw_m7 186 rfl) rfl
theorem q1715 : (Jvm.Cond.soleField "PetitionDeskModel" "backs") ∈ lw_all := lw_g (lw_at lw_m7 187 rfl) rfl
theorem q1716 : (Jvm.Cond.lays "PetitionDeskModel" "PetitionDeskModel" "codes" "I") ∈ lw_all := lw_g (lw_at lw_m7 188 rfl) rfl
theorem q1717 : (Jvm.Cond.soleField "PetitionDeskModel" "codes") ∈ lw_all := lw_g (lw_at lw_m7 189 rfl) rfl
theorem q1718 : (Jvm.Cond.lays "PetitionDeskModel" "PetitionDeskModel" "open" "I") ∈ lw_all := lw_g (lw_at lw_m7 190 rfl) rfl
theorem q1719 : (Jvm.Cond.soleField "PetitionDeskModel" "open") ∈ lw_all := lw_g (lw_at lw_m7 191 rfl) rfl
theorem q1720 : (Jvm.Cond.lays "PetitionDeskModel" "PetitionDeskModel" "once" "I") ∈ lw_all := lw_g (lw_at lw_m7 192 rfl) rfl
theorem q1721 : (Jvm.Cond.soleField "PetitionDeskModel" "once") ∈ lw_all := lw_g (lw_at lw_m7 193 rfl) rfl
theorem q1722 : (Jvm.Cond.laysFinal "PetitionDeskModel" "PetitionDeskModel" "how" "[I") ∈ lw_all := lw_g (lw_at lw_m7 194 rfl) rfl
theorem q1723 : (Jvm.Cond.soleField "PetitionDeskModel" "how") ∈ lw_all := lw_g (lw_at lw_m7 195 rfl) rfl
theorem q1724 : (Jvm.Cond.laysFinal "PetitionDeskModel" "PetitionDeskModel" "whose" "[I") ∈ lw_all := lw_g (lw_at lw_m7 196 rfl) rfl
theorem q1725 : (Jvm.Cond.soleField "PetitionDeskModel" "whose") ∈ lw_all := lw_g (lw_at lw_m7 197 rfl) rfl
theorem q1726 : (Jvm.Cond.laysFinal "PetitionDeskModel" "PetitionDeskModel" "stack" "[I") ∈ lw_all := lw_g (lw_at lw_m7 198 rfl) rfl
theorem q1727 : (Jvm.Cond.soleField "PetitionDeskModel" "stack") ∈ lw_all := lw_g (lw_at lw_m7 199 rfl) rfl
theorem q1728 : (Jvm.Cond.lays "PetitionDeskModel" "PetitionDeskModel" "struck" "I") ∈ lw_all := lw_g (lw_at lw_m7 200 rfl) rfl
theorem q1729 : (Jvm.Cond.soleField "PetitionDeskModel" "struck") ∈ lw_all := lw_g (lw_at lw_m7 201 rfl) rfl
theorem q1730 : (Jvm.Cond.laysFinal "PetitionDeskModel" "PetitionDeskModel" "apart" "[J") ∈ lw_all := lw_g (lw_at lw_m7 202 rfl) rfl
theorem q1731 : (Jvm.Cond.soleField "PetitionDeskModel" "apart") ∈ lw_all := lw_g (lw_at lw_m7 203 rfl) rfl
theorem q1732 : (Jvm.Cond.superclass "PetitionDeskModel" "java/lang/Object") ∈ lw_all := lw_g (lw_at lw_m7 204 rfl) rfl
theorem q1734 : (Jvm.Cond.instanceMethod ({ cls := "PetitionDeskModel", name := "thrown", desc := "()I" } : Jvm.MethodName)) ∈ lw_all := lw_g (lw_at lw_m7 206 rfl) rfl
theorem q1735 : (Jvm.Cond.selects "PetitionDeskModel" ({ cls := "PetitionDeskModel", name := "thrown", desc := "()I" } : Jvm.MethodName) ({ cls := "PetitionDeskModel", name := "thrown", desc := "()I" } : Jvm.MethodName)) ∈ lw_all := lw_g (lw_at lw_m7 207 rfl) rfl
theorem q1736 : (Jvm.Cond.code ({ cls := "PetitionDeskModel", name := "thrown", desc := "()I" } : Jvm.MethodName) prog_12_method_3_code (1 : Nat) (Option.some Jvm.ClassFile.FieldType.int)) ∈ lw_all := lw_g (lw_at lw_m7 208 rfl) rfl
theorem q1738 : (Jvm.Cond.instanceMethod ({ cls := "PetitionDeskModel", name := "feed", desc := "(IIIII)I" } : Jvm.MethodName)) ∈ lw_all := lw_g (lw_at lw_m7 210 rfl) rfl
theorem q1739 : (Jvm.Cond.selects "PetitionDeskModel" ({ cls := "PetitionDeskModel", name := "feed", desc := "(IIIII)I" } : Jvm.MethodName) ({ cls := "PetitionDeskModel", name := "feed", desc := "(IIIII)I" } : Jvm.MethodName)) ∈ lw_all := lw_g (lw_at lw_m7 211 rfl) rfl
theorem q1740 : (Jvm.Cond.code ({ cls := "PetitionDeskModel", name := "feed", desc := "(IIIII)I" } : Jvm.MethodName) prog_12_method_7_code (8 : Nat) (Option.some Jvm.ClassFile.FieldType.int)) ∈ lw_all := lw_g (lw_at lw_m7 212 rfl) rfl
theorem q1742 : (Jvm.Cond.instanceMethod ({ cls := "PetitionDeskModel", name := "text", desc := "(I)I" } : Jvm.MethodName)) ∈ lw_all := lw_g (lw_at lw_m7 214 rfl) rfl
theorem q1743 : (Jvm.Cond.selects "PetitionDeskModel" ({ cls := "PetitionDeskModel", name := "text", desc := "(I)I" } : Jvm.MethodName) ({ cls := "PetitionDeskModel", name := "text", desc := "(I)I" } : Jvm.MethodName)) ∈ lw_all := lw_g (lw_at lw_m7 215 rfl) rfl
theorem q1744 : (Jvm.Cond.code ({ cls := "PetitionDeskModel", name := "text", desc := "(I)I" } : Jvm.MethodName) prog_12_method_34_code (2 : Nat) (Option.some Jvm.ClassFile.FieldType.int)) ∈ lw_all := lw_g (lw_at lw_m7 216 rfl) rfl
theorem q1745 : (Jvm.Cond.methodLink "PetitionDeskModel" (107 : Nat) ({ cls := "PetitionDeskModel", name := "in", desc := "(JJJ)Z" } : Jvm.MethodName)) ∈ lw_all := lw_g (lw_at lw_m7 217 rfl) rfl
theorem q1746 : (Jvm.Cond.static ({ cls := "PetitionDeskModel", name := "in", desc := "(JJJ)Z" } : Jvm.MethodName)) ∈ lw_all := lw_g (lw_at lw_m7 218 rfl) rfl
theorem q1747 : (Jvm.Cond.code ({ cls := "PetitionDeskModel", name := "in", desc := "(JJJ)Z" } : Jvm.MethodName) prog_12_method_5_code (6 : Nat) (Option.some Jvm.ClassFile.FieldType.boolean)) ∈ lw_all := lw_g (lw_at lw_m7 219 rfl) rfl
theorem q1748 : (Jvm.Cond.methodLink "PetitionDeskModel" (204 : Nat) ({ cls := "PetitionDeskModel", name := "bad", desc := "(ZII)Z" } : Jvm.MethodName)) ∈ lw_all := lw_g (lw_at lw_m7 220 rfl) rfl
theorem q1749 : (Jvm.Cond.privateMethod ({ cls := "PetitionDeskModel", name := "bad", desc := "(ZII)Z" } : Jvm.MethodName)) ∈ lw_tbl := lw_at lw_m7 221 rfl
theorem q1750 : (Jvm.Cond.instanceMethod ({ cls := "PetitionDeskModel", name := "bad", desc := "(ZII)Z" } : Jvm.MethodName)) ∈ lw_all := lw_g (lw_at lw_m7 222 rfl) rfl
theorem q1751 : (Jvm.Cond.code ({ cls := "PetitionDeskModel", name := "bad", desc := "(ZII)Z" } : Jvm.MethodName) prog_12_method_4_code (4 : Nat) (Option.some Jvm.ClassFile.FieldType.boolean)) ∈ lw_all := lw_g (lw_at lw_m7 223 rfl) rfl
theorem q1752 : (Jvm.Cond.methodLink "PetitionDeskModel" (87 : Nat) ({ cls := "PetitionDeskModel", name := "fine", desc := "()Z" } : Jvm.MethodName)) ∈ lw_all := lw_g (lw_at lw_m7 224 rfl) rfl
theorem q1753 : (Jvm.Cond.privateMethod ({ cls := "PetitionDeskModel", name := "fine", desc := "()Z" } : Jvm.MethodName)) ∈ lw_tbl := lw_at lw_m7 225 rfl
theorem q1754 : (Jvm.Cond.instanceMethod ({ cls := "PetitionDeskModel", name := "fine", desc := "()Z" } : Jvm.MethodName)) ∈ lw_all := lw_g (lw_at lw_m7 226 rfl) rfl
theorem q1755 : (Jvm.Cond.code ({ cls := "PetitionDeskModel", name := "fine", desc := "()Z" } : Jvm.MethodName) prog_12_method_14_code (1 : Nat) (Option.some Jvm.ClassFile.FieldType.boolean)) ∈ lw_all := lw_g (lw_at lw_m7 227 rfl) rfl
theorem q1756 : (Jvm.Cond.methodLink "PetitionDeskModel" (70 : Nat) ({ cls := "PetitionDeskModel", name := "here", desc := "()I" } : Jvm.MethodName)) ∈ lw_all := lw_g (lw_at lw_m7 228 rfl) rfl
theorem q1757 : (Jvm.Cond.privateMethod ({ cls := "PetitionDeskModel", name := "here", desc := "()I" } : Jvm.MethodName)) ∈ lw_tbl := lw_at lw_m7 229 rfl
theorem q1758 : (Jvm.Cond.instanceMethod ({ cls := "PetitionDeskModel", name := "here", desc := "()I" } : Jvm.MethodName)) ∈ lw_all := lw_g (lw_at lw_m7 230 rfl) rfl
theorem q1759 : (Jvm.Cond.code ({ cls := "PetitionDeskModel", name := "here", desc := "()I" } : Jvm.MethodName) prog_12_method_13_code (1 : Nat) (Option.some Jvm.ClassFile.FieldType.int)) ∈ lw_all := lw_g (lw_at lw_m7 231 rfl) rfl
theorem q1760 : (Jvm.Cond.methodLink "PetitionDeskModel" (60 : Nat) ({ cls := "PetitionDeskModel", name := "byteAt", desc := "(I)I" } : Jvm.MethodName)) ∈ lw_all := lw_g (lw_at lw_m7 232 rfl) rfl
theorem q1761 : (Jvm.Cond.privateMethod ({ cls := "PetitionDeskModel", name := "byteAt", desc := "(I)I" } : Jvm.MethodName)) ∈ lw_tbl := lw_at lw_m7 233 rfl
theorem q1762 : (Jvm.Cond.instanceMethod ({ cls := "PetitionDeskModel", name := "byteAt", desc := "(I)I" } : Jvm.MethodName)) ∈ lw_all := lw_g (lw_at lw_m7 234 rfl) rfl
theorem q1763 : (Jvm.Cond.code ({ cls := "PetitionDeskModel", name := "byteAt", desc := "(I)I" } : Jvm.MethodName) prog_12_method_12_code (2 : Nat) (Option.some Jvm.ClassFile.FieldType.int)) ∈ lw_all := lw_g (lw_at lw_m7 235 rfl) rfl
theorem q1764 : (Jvm.Cond.methodLink "PetitionDeskModel" (208 : Nat) ({ cls := "PetitionDeskModel", name := "readsLine", desc := "()V" } : Jvm.MethodName)) ∈ lw_all := lw_g (lw_at lw_m7 236 rfl) rfl
theorem q1765 : (Jvm.Cond.privateMethod ({ cls := "PetitionDeskModel", name := "readsLine", desc := "()V" } : Jvm.MethodName)) ∈ lw_tbl := lw_at lw_m7 237 rfl
theorem q1766 : (Jvm.Cond.instanceMethod ({ cls := "PetitionDeskModel", name := "readsLine", desc := "()V" } : Jvm.MethodName)) ∈ lw_all := lw_g (lw_at lw_m7 238 rfl) rfl
theorem q1767 : (Jvm.Cond.code ({ cls := "PetitionDeskModel", name := "readsLine", desc := "()V" } : Jvm.MethodName) prog_12_method_33_code (2 : Nat) (Option.none : Option Jvm.ClassFile.FieldType)) ∈ lw_all := lw_g (lw_at lw_m7 239 rfl) rfl
theorem q1768 : (Jvm.Cond.stringRef "PetitionDeskModel" (180 : Nat) "voter") ∈ lw_tbl := lw_at lw_m8 0 rfl
theorem q1769 : (Jvm.Cond.methodLink "PetitionDeskModel" (150 : Nat) ({ cls := "PetitionDeskModel", name := "takes", desc := "(Ljava/lang/String;)Z" } : Jvm.MethodName)) ∈ lw_all := lw_g (lw_at lw_m8 1 rfl) rfl
theorem q1770 : (Jvm.Cond.privateMethod ({ cls := "PetitionDeskModel", name := "takes", desc := "(Ljava/lang/String;)Z" } : Jvm.MethodName)) ∈ lw_tbl := lw_at lw_m8 2 rfl
theorem q1771 : (Jvm.Cond.instanceMethod ({ cls := "PetitionDeskModel", name := "takes", desc := "(Ljava/lang/String;)Z" } : Jvm.MethodName)) ∈ lw_all := lw_g (lw_at lw_m8 3 rfl) rfl
theorem q1772 : (Jvm.Cond.code ({ cls := "PetitionDeskModel", name := "takes", desc := "(Ljava/lang/String;)Z" } : Jvm.MethodName) prog_12_method_19_code (2 : Nat) (Option.some Jvm.ClassFile.FieldType.boolean)) ∈ lw_all := lw_g (lw_at lw_m8 4 rfl) rfl
theorem q1773 : (Jvm.Cond.methodLink "PetitionDeskModel" (91 : Nat) ({ cls := "PetitionDeskModel", name := "isWord", desc := "(Ljava/lang/String;)Z" } : Jvm.MethodName)) ∈ lw_all := lw_g (lw_at lw_m8 5 rfl) rfl
theorem q1774 : (Jvm.Cond.privateMethod ({ cls := "PetitionDeskModel", name := "isWord", desc := "(Ljava/lang/String;)Z" } : Jvm.MethodName)) ∈ lw_tbl := lw_at lw_m8 6 rfl
theorem q1775 : (Jvm.Cond.instanceMethod ({ cls := "PetitionDeskModel", name := "isWord", desc := "(Ljava/lang/String;)Z" } : Jvm.MethodName)) ∈ lw_all := lw_g (lw_at lw_m8 7 rfl) rfl
theorem q1776 : (Jvm.Cond.code ({ cls := "PetitionDeskModel", name := "isWord", desc := "(Ljava/lang/String;)Z" } : Jvm.MethodName) prog_12_method_18_code (3 : Nat) (Option.some Jvm.ClassFile.FieldType.boolean)) ∈ lw_all := lw_g (lw_at lw_m8 8 rfl) rfl
theorem q1777 : (Jvm.Cond.methodLink "PetitionDeskModel" (74 : Nat) ({ cls := "java/lang/String", name := "length", desc := "()I" } : Jvm.MethodName)) ∈ lw_all := lw_g (lw_at lw_m8 9 rfl) rfl
theorem q1778 : (Jvm.Cond.methodLink "PetitionDeskModel" (79 : Nat) ({ cls := "java/lang/String", name := "charAt", desc := "(I)C" } : Jvm.MethodName)) ∈ lw_all := lw_g (lw_at lw_m8 10 rfl) rfl
theorem q1779 : (Jvm.Cond.methodLink "PetitionDeskModel" (83 : Nat) ({ cls := "PetitionDeskModel", name := "isSmall", desc := "(I)Z" } : Jvm.MethodName)) ∈ lw_all := lw_g (lw_at lw_m8 11 rfl) rfl
theorem q1780 : (Jvm.Cond.static ({ cls := "PetitionDeskModel", name := "isSmall", desc := "(I)Z" } : Jvm.MethodName)) ∈ lw_all := lw_g (lw_at lw_m8 12 rfl) rfl
theorem q1781 : (Jvm.Cond.code ({ cls := "PetitionDeskModel", name := "isSmall", desc := "(I)Z" } : Jvm.MethodName) prog_12_method_16_code (1 : Nat) (Option.some Jvm.ClassFile.FieldType.boolean)) ∈ lw_all := lw_g (lw_at lw_m8 13 rfl) rfl
theorem q1782 : (Jvm.Cond.methodLink "PetitionDeskModel" (182 : Nat) ({ cls := "PetitionDeskModel", name := "readsVoter", desc := "(I)V" } : Jvm.MethodName)) ∈ lw_all := lw_g (lw_at lw_m8 14 rfl) rfl
theorem q1783 : (Jvm.Cond.privateMethod ({ cls := "PetitionDeskModel", name := "readsVoter", desc := "(I)V" } : Jvm.MethodName)) ∈ lw_tbl := lw_at lw_m8 15 rfl
theorem q1784 : (Jvm.Cond.instanceMethod ({ cls := "PetitionDeskModel", name := "readsVoter", desc := "(I)V" } : Jvm.MethodName)) ∈ lw_all := lw_g (lw_at lw_m8 16 rfl) rfl
theorem q1785 : (Jvm.Cond.code ({ cls := "PetitionDeskModel", name := "readsVoter", desc := "(I)V" } : Jvm.MethodName) prog_12_method_24_code (7 : Nat) (Option.none : Option Jvm.ClassFile.FieldType)) ∈ lw_all := lw_g (lw_at lw_m8 17 rfl) rfl
theorem q1786 : (Jvm.Cond.methodLink "PetitionDeskModel" (95 : Nat) ({ cls := "PetitionDeskModel", name := "wrong", desc := "(II)V" } : Jvm.MethodName)) ∈ lw_all := lw_g (lw_at lw_m8 18 rfl) rfl
theorem q1787 : (Jvm.Cond.privateMethod ({ cls := "PetitionDeskModel", name := "wrong", desc := "(II)V" } : Jvm.MethodName)) ∈ lw_tbl := lw_at lw_m8 19 rfl
theorem q1788 : (Jvm.Cond.instanceMethod ({ cls := "PetitionDeskModel", name := "wrong", desc := "(II)V" } : Jvm.MethodName)) ∈ lw_all := lw_g (lw_at lw_m8 20 rfl) rfl
theorem q1789 : (Jvm.Cond.code ({ cls := "PetitionDeskModel", name := "wrong", desc := "(II)V" } : Jvm.MethodName) prog_12_method_15_code (3 : Nat) (Option.none : Option Jvm.ClassFile.FieldType)) ∈ lw_all := lw_g (lw_at lw_m8 21 rfl) rfl
theorem q1790 : (Jvm.Cond.methodLink "PetitionDeskModel" (114 : Nat) ({ cls := "PetitionDeskModel", name := "name", desc := "()I" } : Jvm.MethodName)) ∈ lw_all := lw_g (lw_at lw_m8 22 rfl) rfl
theorem q1791 : (Jvm.Cond.privateMethod ({ cls := "PetitionDeskModel", name := "name", desc := "()I" } : Jvm.MethodName)) ∈ lw_tbl := lw_at lw_m8 23 rfl
theorem q1792 : (Jvm.Cond.instanceMethod ({ cls := "PetitionDeskModel", name := "name", desc := "()I" } : Jvm.MethodName)) ∈ lw_all := lw_g (lw_at lw_m8 24 rfl) rfl
theorem q1793 : (Jvm.Cond.code ({ cls := "PetitionDeskModel", name := "name", desc := "()I" } : Jvm.MethodName) prog_12_method_22_code (3 : Nat) (Option.some Jvm.ClassFile.FieldType.int)) ∈ lw_all := lw_g (lw_at lw_m8 25 rfl) rfl
theorem q1794 : (Jvm.Cond.methodLink "PetitionDeskModel" (117 : Nat) ({ cls := "PetitionDeskModel", name := "number", desc := "(II)I" } : Jvm.MethodName)) ∈ lw_all := lw_g (lw_at lw_m8 26 rfl) rfl
theorem q1795 : (Jvm.Cond.privateMethod ({ cls := "PetitionDeskModel", name := "number", desc := "(II)I" } : Jvm.MethodName)) ∈ lw_tbl := lw_at lw_m8 27 rfl
theorem q1796 : (Jvm.Cond.instanceMethod ({ cls := "PetitionDeskModel", name := "number", desc := "(II)I" } : Jvm.MethodName)) ∈ lw_all := lw_g (lw_at lw_m8 28 rfl) rfl
theorem q1797 : (Jvm.Cond.code ({ cls := "PetitionDeskModel", name := "number", desc := "(II)I" } : Jvm.MethodName) prog_12_method_21_code (5 : Nat) (Option.some Jvm.ClassFile.FieldType.int)) ∈ lw_all := lw_g (lw_at lw_m8 29 rfl) rfl
theorem q1798 : (Jvm.Cond.methodLink "PetitionDeskModel" (99 : Nat) ({ cls := "PetitionDeskModel", name := "isDigit", desc := "(I)Z" } : Jvm.MethodName)) ∈ lw_all := lw_g (lw_at lw_m8 30 rfl) rfl
theorem q1799 : (Jvm.Cond.static ({ cls := "PetitionDeskModel", name := "isDigit", desc := "(I)Z" } : Jvm.MethodName)) ∈ lw_all := lw_g (lw_at lw_m8 31 rfl) rfl
theorem q1800 : (Jvm.Cond.code ({ cls := "PetitionDeskModel", name := "isDigit", desc := "(I)Z" } : Jvm.MethodName) prog_12_method_17_code (1 : Nat) (Option.some Jvm.ClassFile.FieldType.boolean)) ∈ lw_all := lw_g (lw_at lw_m8 32 rfl) rfl
theorem q1801 : (Jvm.Cond.constant "PetitionDeskModel" (102 : Nat) (100000 : Int32)) ∈ lw_all := lw_g (lw_at lw_m8 33 rfl) rfl
theorem q1802 : (Jvm.Cond.methodLink "PetitionDeskModel" (103 : Nat) ({ cls := "PetitionDeskModel", name := "less", desc := "(II)I" } : Jvm.MethodName)) ∈ lw_all := lw_g (lw_at lw_m8 34 rfl) rfl
theorem q1803 : (Jvm.Cond.static ({ cls := "PetitionDeskModel", name := "less", desc := "(II)I" } : Jvm.MethodName)) ∈ lw_all := lw_g (lw_at lw_m8 35 rfl) rfl
theorem q1804 : (Jvm.Cond.code ({ cls := "PetitionDeskModel", name := "less", desc := "(II)I" } : Jvm.MethodName) prog_12_method_6_code (2 : Nat) (Option.some Jvm.ClassFile.FieldType.int)) ∈ lw_all := lw_g (lw_at lw_m8 36 rfl) rfl
theorem q1805 : (Jvm.Cond.methodLink "PetitionDeskModel" (120 : Nat) ({ cls := "PetitionDeskModel", name := "voterOf", desc := "([III)I" } : Jvm.MethodName)) ∈ lw_all := lw_g (lw_at lw_m8 37 rfl) rfl
theorem q1806 : (Jvm.Cond.static ({ cls := "PetitionDeskModel", name := "voterOf", desc := "([III)I" } : Jvm.MethodName)) ∈ lw_all := lw_g (lw_at lw_m8 38 rfl) rfl
theorem q1807 : (Jvm.Cond.code ({ cls := "PetitionDeskModel", name := "voterOf", desc := "([III)I" } : Jvm.MethodName) prog_12_method_23_code (4 : Nat) (Option.some Jvm.ClassFile.FieldType.int)) ∈ lw_all := lw_g (lw_at lw_m8 39 rfl) rfl
theorem q1808 : (Jvm.Cond.methodLink "PetitionDeskModel" (111 : Nat) ({ cls := "PetitionDeskModel", name := "voterAt", desc := "(II)I" } : Jvm.MethodName)) ∈ lw_all := lw_g (lw_at lw_m8 40 rfl) rfl
theorem q1809 : (Jvm.Cond.static ({ cls := "PetitionDeskModel", name := "voterAt", desc := "(II)I" } : Jvm.MethodName)) ∈ lw_all := lw_g (lw_at lw_m8 41 rfl) rfl
theorem q1810 : (Jvm.Cond.code ({ cls := "PetitionDeskModel", name := "voterAt", desc := "(II)I" } : Jvm.MethodName) prog_12_method_10_code (2 : Nat) (Option.some Jvm.ClassFile.FieldType.int)) ∈ lw_all := lw_g (lw_at lw_m8 42 rfl) rfl
theorem q1811 : (Jvm.Cond.stringRef "PetitionDeskModel" (136 : Nat) "sheet") ∈ lw_tbl := lw_at lw_m8 43 rfl
theorem q1812 : (Jvm.Cond.stringRef "PetitionDeskModel" (185 : Nat) "sign") ∈ lw_tbl := lw_at lw_m8 44 rfl
theorem q1813 : (Jvm.Cond.methodLink "PetitionDeskModel" (187 : Nat) ({ cls := "PetitionDeskModel", name := "readsSign", desc := "(I)V" } : Jvm.MethodName)) ∈ lw_all := lw_g (lw_at lw_m8 45 rfl) rfl
theorem q1814 : (Jvm.Cond.privateMethod ({ cls := "PetitionDeskModel", name := "readsSign", desc := "(I)V" } : Jvm.MethodName)) ∈ lw_tbl := lw_at lw_m8 46 rfl
theorem q1815 : (Jvm.Cond.instanceMethod ({ cls := "PetitionDeskModel", name := "readsSign", desc := "(I)V" } : Jvm.MethodName)) ∈ lw_all := lw_g (lw_at lw_m8 47 rfl) rfl
theorem q1816 : (Jvm.Cond.code ({ cls := "PetitionDeskModel", name := "readsSign", desc := "(I)V" } : Jvm.MethodName) prog_12_method_25_code (6 : Nat) (Option.none : Option Jvm.ClassFile.FieldType)) ∈ lw_all := lw_g (lw_at lw_m8 48 rfl) rfl
theorem q1817 : (Jvm.Cond.methodLink "PetitionDeskModel" (124 : Nat) ({ cls := "PetitionDeskModel", name := "lineAt", desc := "(II)I" } : Jvm.MethodName)) ∈ lw_all := lw_g (lw_at lw_m8 49 rfl) rfl
theorem q1818 : (Jvm.Cond.static ({ cls := "PetitionDeskModel", name := "lineAt", desc := "(II)I" } : Jvm.MethodName)) ∈ lw_all := lw_g (lw_at lw_m8 50 rfl) rfl
theorem q1819 : (Jvm.Cond.code ({ cls := "PetitionDeskModel", name := "lineAt", desc := "(II)I" } : Jvm.MethodName) prog_12_method_9_code (2 : Nat) (Option.some Jvm.ClassFile.FieldType.int)) ∈ lw_all := lw_g (lw_at lw_m8 51 rfl) rfl
theorem q1820 : (Jvm.Cond.stringRef "PetitionDeskModel" (190 : Nat) "need") ∈ lw_tbl := lw_at lw_m8 52 rfl
theorem q1821 : (Jvm.Cond.methodLink "PetitionDeskModel" (192 : Nat) ({ cls := "PetitionDeskModel", name := "takesOnce", desc := "(Ljava/lang/String;I)Z" } : Jvm.MethodName)) ∈ lw_all := lw_g (lw_at lw_m8 53 rfl) rfl
theorem q1822 : (Jvm.Cond.privateMethod ({ cls := "PetitionDeskModel", name := "takesOnce", desc := "(Ljava/lang/String;I)Z" } : Jvm.MethodName)) ∈ lw_tbl := lw_at lw_m8 54 rfl
theorem q1823 : (Jvm.Cond.instanceMethod ({ cls := "PetitionDeskModel", name := "takesOnce", desc := "(Ljava/lang/String;I)Z" } : Jvm.MethodName)) ∈ lw_all := lw_g (lw_at lw_m8 55 rfl) rfl
theorem q1824 : (Jvm.Cond.code ({ cls := "PetitionDeskModel", name := "takesOnce", desc := "(Ljava/lang/String;I)Z" } : Jvm.MethodName) prog_12_method_32_code (3 : Nat) (Option.some Jvm.ClassFile.FieldType.boolean)) ∈ lw_all := lw_g (lw_at lw_m8 56 rfl) rfl
theorem q1825 : (Jvm.Cond.stringRef "PetitionDeskModel" (196 : Nat) "span") ∈ lw_tbl := lw_at lw_m8 57 rfl
theorem q1826 : (Jvm.Cond.stringRef "PetitionDeskModel" (198 : Nat) "spoilt") ∈ lw_tbl := lw_at lw_m8 58 rfl
theorem q1827 : (Jvm.Cond.stringRef "PetitionDeskModel" (200 : Nat) "alpha") ∈ lw_tbl := lw_at lw_m8 59 rfl
theorem q1828 : (Jvm.Cond.stringRef "PetitionDeskModel" (202 : Nat) "good") ∈ lw_tbl := lw_at lw_m8 60 rfl
theorem q1829 : (Jvm.Cond.methodLink "PetitionDeskModel" (164 : Nat) ({ cls := "PetitionDeskModel", name := "any", desc := "()V" } : Jvm.MethodName)) ∈ lw_all := lw_g (lw_at lw_m8 61 rfl) rfl
theorem q1830 : (Jvm.Cond.privateMethod ({ cls := "PetitionDeskModel", name := "any", desc := "()V" } : Jvm.MethodName)) ∈ lw_tbl := lw_at lw_m8 62 rfl
theorem q1831 : (Jvm.Cond.instanceMethod ({ cls := "PetitionDeskModel", name := "any", desc := "()V" } : Jvm.MethodName)) ∈ lw_all := lw_g (lw_at lw_m8 63 rfl) rfl
theorem q1832 : (Jvm.Cond.code ({ cls := "PetitionDeskModel", name := "any", desc := "()V" } : Jvm.MethodName) prog_12_method_31_code (1 : Nat) (Option.none : Option Jvm.ClassFile.FieldType)) ∈ lw_all := lw_g (lw_at lw_m8 64 rfl) rfl
theorem q1833 : (Jvm.Cond.methodLink "PetitionDeskModel" (172 : Nat) ({ cls := "PetitionDeskModel", name := "all", desc := "()V" } : Jvm.MethodName)) ∈ lw_all := lw_g (lw_at lw_m8 65 rfl) rfl
theorem q1834 : (Jvm.Cond.privateMethod ({ cls := "PetitionDeskModel", name := "all", desc := "()V" } : Jvm.MethodName)) ∈ lw_tbl := lw_at lw_m8 66 rfl
theorem q1835 : (Jvm.Cond.instanceMethod ({ cls := "PetitionDeskModel", name := "all", desc := "()V" } : Jvm.MethodName)) ∈ lw_all := lw_g (lw_at lw_m8 67 rfl) rfl
theorem q1836 : (Jvm.Cond.code ({ cls := "PetitionDeskModel", name := "all", desc := "()V" } : Jvm.MethodName) prog_12_method_30_code (1 : Nat) (Option.none : Option Jvm.ClassFile.FieldType)) ∈ lw_all := lw_g (lw_at lw_m8 68 rfl) rfl
theorem q1837 : (Jvm.Cond.methodLink "PetitionDeskModel" (161 : Nat) ({ cls := "PetitionDeskModel", name := "part", desc := "()V" } : Jvm.MethodName)) ∈ lw_all := lw_g (lw_at lw_m8 69 rfl) rfl
theorem q1838 : (Jvm.Cond.privateMethod ({ cls := "PetitionDeskModel", name := "part", desc := "()V" } : Jvm.MethodName)) ∈ lw_tbl := lw_at lw_m8 70 rfl
theorem q1839 : (Jvm.Cond.instanceMethod ({ cls := "PetitionDeskModel", name := "part", desc := "()V" } : Jvm.MethodName)) ∈ lw_all := lw_g (lw_at lw_m8 71 rfl) rfl
theorem q1840 : (Jvm.Cond.code ({ cls := "PetitionDeskModel", name := "part", desc := "()V" } : Jvm.MethodName) prog_12_method_29_code (3 : Nat) (Option.none : Option Jvm.ClassFile.FieldType)) ∈ lw_all := lw_g (lw_at lw_m8 72 rfl) rfl
theorem q1841 : (Jvm.Cond.stringRef "PetitionDeskModel" (153 : Nat) "not") ∈ lw_tbl := lw_at lw_m8 73 rfl
theorem q1842 : (Jvm.Cond.methodLink "PetitionDeskModel" (155 : Nat) ({ cls := "PetitionDeskModel", name := "side", desc := "()V" } : Jvm.MethodName)) ∈ lw_all := lw_g (lw_at lw_m8 74 rfl) rfl
theorem q1843 : (Jvm.Cond.privateMethod ({ cls := "PetitionDeskModel", name := "side", desc := "()V" } : Jvm.MethodName)) ∈ lw_tbl := lw_at lw_m8 75 rfl
theorem q1844 : (Jvm.Cond.instanceMethod ({ cls := "PetitionDeskModel", name := "side", desc := "()V" } : Jvm.MethodName)) ∈ lw_all := lw_g (lw_at lw_m8 76 rfl) rfl
theorem q1845 : (Jvm.Cond.code ({ cls := "PetitionDeskModel", name := "side", desc := "()V" } : Jvm.MethodName) prog_12_method_28_code (2 : Nat) (Option.none : Option Jvm.ClassFile.FieldType)) ∈ lw_all := lw_g (lw_at lw_m8 77 rfl) rfl
theorem q1846 : (Jvm.Cond.methodLink "PetitionDeskModel" (142 : Nat) ({ cls := "PetitionDeskModel", name := "tells", desc := "(I)V" } : Jvm.MethodName)) ∈ lw_all := lw_g (lw_at lw_m8 78 rfl) rfl
theorem q1847 : (Jvm.Cond.privateMethod ({ cls := "PetitionDeskModel", name := "tells", desc := "(I)V" } : Jvm.MethodName)) ∈ lw_tbl := lw_at lw_m8 79 rfl
theorem q1848 : (Jvm.Cond.instanceMethod ({ cls := "PetitionDeskModel", name := "tells", desc := "(I)V" } : Jvm.MethodName)) ∈ lw_all := lw_g (lw_at lw_m8 80 rfl) rfl
theorem q1849 : (Jvm.Cond.code ({ cls := "PetitionDeskModel", name := "tells", desc := "(I)V" } : Jvm.MethodName) prog_12_method_26_code (2 : Nat) (Option.none : Option Jvm.ClassFile.FieldType)) ∈ lw_all := lw_g (lw_at lw_m8 81 rfl) rfl
theorem q1850 : (Jvm.Cond.methodLink "PetitionDeskModel" (146 : Nat) ({ cls := "PetitionDeskModel", name := "factOf", desc := "(I)Ljava/lang/String;" } : Jvm.MethodName)) ∈ lw_all := lw_g (lw_at lw_m8 82 rfl) rfl
theorem q1851 : (Jvm.Cond.static ({ cls := "PetitionDeskModel", name := "factOf", desc := "(I)Ljava/lang/String;" } : Jvm.MethodName)) ∈ lw_all := lw_g (lw_at lw_m8 83 rfl) rfl
theorem q1852 : (Jvm.Cond.code ({ cls := "PetitionDeskModel", name := "factOf", desc := "(I)Ljava/lang/String;" } : Jvm.MethodName) prog_12_method_27_code (1 : Nat) (Option.some (Jvm.ClassFile.FieldType.object "java/lang/String"))) ∈ lw_all := lw_g (lw_at lw_m8 84 rfl) rfl
theorem q1853 : (Jvm.Cond.stringRef "PetitionDeskModel" (130 : Nat) "day") ∈ lw_tbl := lw_at lw_m8 85 rfl
theorem q1854 : (Jvm.Cond.stringRef "PetitionDeskModel" (132 : Nat) "street") ∈ lw_tbl := lw_at lw_m8 86 rfl
theorem q1855 : (Jvm.Cond.stringRef "PetitionDeskModel" (134 : Nat) "line") ∈ lw_tbl := lw_at lw_m8 87 rfl
theorem q1856 : (Jvm.Cond.stringRef "PetitionDeskModel" (138 : Nat) "since") ∈ lw_tbl := lw_at lw_m8 88 rfl
theorem q1857 : (Jvm.Cond.stringRef "PetitionDeskModel" (140 : Nat) "ahead") ∈ lw_tbl := lw_at lw_m8 89 rfl
theorem q1858 : (Jvm.Cond.methodLink "PetitionDeskModel" (167 : Nat) ({ cls := "PetitionDeskModel", name := "must", desc := "(I)V" } : Jvm.MethodName)) ∈ lw_all := lw_g (lw_at lw_m8 90 rfl) rfl
theorem q1859 : (Jvm.Cond.privateMethod ({ cls := "PetitionDeskModel", name := "must", desc := "(I)V" } : Jvm.MethodName)) ∈ lw_tbl := lw_at lw_m8 91 rfl
theorem q1860 : (Jvm.Cond.instanceMethod ({ cls := "PetitionDeskModel", name := "must", desc := "(I)V" } : Jvm.MethodName)) ∈ lw_all := lw_g (lw_at lw_m8 92 rfl) rfl
theorem q1861 : (Jvm.Cond.code ({ cls := "PetitionDeskModel", name := "must", desc := "(I)V" } : Jvm.MethodName) prog_12_method_20_code (2 : Nat) (Option.none : Option Jvm.ClassFile.FieldType)) ∈ lw_all := lw_g (lw_at lw_m8 93 rfl) rfl
theorem q1862 : (Jvm.Cond.stringRef "PetitionDeskModel" (170 : Nat) "and") ∈ lw_tbl := lw_at lw_m8 94 rfl
theorem q1863 : (Jvm.Cond.stringRef "PetitionDeskModel" (175 : Nat) "or") ∈ lw_tbl := lw_at lw_m8 95 rfl
theorem q1864 : (Jvm.Cond.methodLink "PetitionDeskModel" (211 : Nat) ({ cls := "PetitionDeskModel", name := "remembers", desc := "()V" } : Jvm.MethodName)) ∈ lw_all := lw_g (lw_at lw_m8 96 rfl) rfl
theorem q1865 : (Jvm.Cond.privateMethod ({ cls := "PetitionDeskModel", name := "remembers", desc := "()V" } : Jvm.MethodName)) ∈ lw_tbl := lw_at lw_m8 97 rfl
theorem q1866 : (Jvm.Cond.instanceMethod ({ cls := "PetitionDeskModel", name := "remembers", desc := "()V" } : Jvm.MethodName)) ∈ lw_all := lw_g (lw_at lw_m8 98 rfl) rfl
theorem q1867 : (Jvm.Cond.code ({ cls := "PetitionDeskModel", name := "remembers", desc := "()V" } : Jvm.MethodName) prog_12_method_42_code (2 : Nat) (Option.none : Option Jvm.ClassFile.FieldType)) ∈ lw_all := lw_g (lw_at lw_m8 99 rfl) rfl
theorem q1868 : (Jvm.Cond.methodLink "PetitionDeskModel" (214 : Nat) ({ cls := "PetitionDeskModel", name := "copies", desc := "([I[I)V" } : Jvm.MethodName)) ∈ lw_all := lw_g (lw_at lw_m8 100 rfl) rfl
theorem q1869 : (Jvm.Cond.static ({ cls := "PetitionDeskModel", name := "copies", desc := "([I[I)V" } : Jvm.MethodName)) ∈ lw_all := lw_g (lw_at lw_m8 101 rfl) rfl
theorem q1870 : (Jvm.Cond.code ({ cls := "PetitionDeskModel", name := "copies", desc := "([I[I)V" } : Jvm.MethodName) prog_12_method_8_code (3 : Nat) (Option.none : Option Jvm.ClassFile.FieldType)) ∈ lw_all := lw_g (lw_at lw_m8 102 rfl) rfl
theorem q1871 : (Jvm.Cond.methodLink "PetitionDeskModel" (218 : Nat) ({ cls := "PetitionDeskModel", name := "lines", desc := "()I" } : Jvm.MethodName)) ∈ lw_all := lw_g (lw_at lw_m8 103 rfl) rfl
theorem q1872 : (Jvm.Cond.privateMethod ({ cls := "PetitionDeskModel", name := "lines", desc := "()I" } : Jvm.MethodName)) ∈ lw_tbl := lw_at lw_m8 104 rfl
theorem q1873 : (Jvm.Cond.instanceMethod ({ cls := "PetitionDeskModel", name := "lines", desc := "()I" } : Jvm.MethodName)) ∈ lw_all := lw_g (lw_at lw_m8 105 rfl) rfl
theorem q1874 : (Jvm.Cond.code ({ cls := "PetitionDeskModel", name := "lines", desc := "()I" } : Jvm.MethodName) prog_12_method_11_code (1 : Nat) (Option.some Jvm.ClassFile.FieldType.int)) ∈ lw_all := lw_g (lw_at lw_m8 106 rfl) rfl
theorem q1876 : (Jvm.Cond.instanceMethod ({ cls := "PetitionDeskModel", name := "fault", desc := "()I" } : Jvm.MethodName)) ∈ lw_all := lw_g (lw_at lw_m8 108 rfl) rfl
theorem q1877 : (Jvm.Cond.selects "PetitionDeskModel" ({ cls := "PetitionDeskModel", name := "fault", desc := "()I" } : Jvm.MethodName) ({ cls := "PetitionDeskModel", name := "fault", desc := "()I" } : Jvm.MethodName)) ∈ lw_all := lw_g (lw_at lw_m8 109 rfl) rfl
theorem q1878 : (Jvm.Cond.code ({ cls := "PetitionDeskModel", name := "fault", desc := "()I" } : Jvm.MethodName) prog_12_method_35_code (1 : Nat) (Option.some Jvm.ClassFile.FieldType.int)) ∈ lw_all := lw_g (lw_at lw_m8 110 rfl) rfl
theorem q1880 : (Jvm.Cond.instanceMethod ({ cls := "PetitionDeskModel", name := "undo", desc := "()I" } : Jvm.MethodName)) ∈ lw_all := lw_g (lw_at lw_m8 112 rfl) rfl
theorem q1881 : (Jvm.Cond.selects "PetitionDeskModel" ({ cls := "PetitionDeskModel", name := "undo", desc := "()I" } : Jvm.MethodName) ({ cls := "PetitionDeskModel", name := "undo", desc := "()I" } : Jvm.MethodName)) ∈ lw_all := lw_g (lw_at lw_m8 113 rfl) rfl
theorem q1882 : (Jvm.Cond.code ({ cls := "PetitionDeskModel", name := "undo", desc := "()I" } : Jvm.MethodName) prog_12_method_43_code (1 : Nat) (Option.some Jvm.ClassFile.FieldType.int)) ∈ lw_all := lw_g (lw_at lw_m8 114 rfl) rfl
theorem q1884 : (Jvm.Cond.instanceMethod ({ cls := "PetitionDeskModel", name := "sample", desc := "(III)I" } : Jvm.MethodName)) ∈ lw_all := lw_g (lw_at lw_m8 116 rfl) rfl
theorem q1885 : (Jvm.Cond.selects "PetitionDeskModel" ({ cls := "PetitionDeskModel", name := "sample", desc := "(III)I" } : Jvm.MethodName) ({ cls := "PetitionDeskModel", name := "sample", desc := "(III)I" } : Jvm.MethodName)) ∈ lw_all := lw_g (lw_at lw_m8 117 rfl) rfl
theorem q1886 : (Jvm.Cond.code ({ cls := "PetitionDeskModel", name := "sample", desc := "(III)I" } : Jvm.MethodName) prog_12_method_53_code (8 : Nat) (Option.some Jvm.ClassFile.FieldType.int)) ∈ lw_all := lw_g (lw_at lw_m8 118 rfl) rfl
theorem q1887 : (Jvm.Cond.methodLink "PetitionDeskModel" (251 : Nat) ({ cls := "PetitionDeskModel", name := "isSample", desc := "(I)Z" } : Jvm.MethodName)) ∈ lw_all := lw_g (lw_at lw_m8 119 rfl) rfl
theorem q1888 : (Jvm.Cond.static ({ cls := "PetitionDeskModel", name := "isSample", desc := "(I)Z" } : Jvm.MethodName)) ∈ lw_all := lw_g (lw_at lw_m8 120 rfl) rfl
theorem q1889 : (Jvm.Cond.code ({ cls := "PetitionDeskModel", name := "isSample", desc := "(I)Z" } : Jvm.MethodName) prog_12_method_51_code (1 : Nat) (Option.some Jvm.ClassFile.FieldType.boolean)) ∈ lw_all := lw_g (lw_at lw_m8 121 rfl) rfl
theorem q1890 : (Jvm.Cond.constant "PetitionDeskModel" (254 : Nat) (1103515245 : Int32)) ∈ lw_all := lw_g (lw_at lw_m8 122 rfl) rfl
theorem q1891 : (Jvm.Cond.methodLink "PetitionDeskModel" (244 : Nat) ({ cls := "PetitionDeskModel", name := "isIn", desc := "(II)Z" } : Jvm.MethodName)) ∈ lw_all := lw_g (lw_at lw_m8 123 rfl) rfl
theorem q1892 : (Jvm.Cond.privateMethod ({ cls := "PetitionDeskModel", name := "isIn", desc := "(II)Z" } : Jvm.MethodName)) ∈ lw_tbl := lw_at lw_m8 124 rfl
theorem q1893 : (Jvm.Cond.instanceMethod ({ cls := "PetitionDeskModel", name := "isIn", desc := "(II)Z" } : Jvm.MethodName)) ∈ lw_all := lw_g (lw_at lw_m8 125 rfl) rfl
theorem q1894 : (Jvm.Cond.code ({ cls := "PetitionDeskModel", name := "isIn", desc := "(II)Z" } : Jvm.MethodName) prog_12_method_49_code (3 : Nat) (Option.some Jvm.ClassFile.FieldType.boolean)) ∈ lw_all := lw_g (lw_at lw_m8 126 rfl) rfl
theorem q1895 : (Jvm.Cond.methodLink "PetitionDeskModel" (255 : Nat) ({ cls := "PetitionDeskModel", name := "judges", desc := "([II)V" } : Jvm.MethodName)) ∈ lw_all := lw_g (lw_at lw_m8 127 rfl) rfl
theorem q1896 : (Jvm.Cond.privateMethod ({ cls := "PetitionDeskModel", name := "judges", desc := "([II)V" } : Jvm.MethodName)) ∈ lw_tbl := lw_at lw_m8 128 rfl
theorem q1897 : (Jvm.Cond.instanceMethod ({ cls := "PetitionDeskModel", name := "judges", desc := "([II)V" } : Jvm.MethodName)) ∈ lw_all := lw_g (lw_at lw_m8 129 rfl) rfl
theorem q1898 : (Jvm.Cond.code ({ cls := "PetitionDeskModel", name := "judges", desc := "([II)V" } : Jvm.MethodName) prog_12_method_39_code (7 : Nat) (Option.none : Option Jvm.ClassFile.FieldType)) ∈ lw_all := lw_g (lw_at lw_m8 130 rfl) rfl
theorem q1899 : (Jvm.Cond.methodLink "PetitionDeskModel" (231 : Nat) ({ cls := "PetitionDeskModel", name := "isGood", desc := "([II)Z" } : Jvm.MethodName)) ∈ lw_all := lw_g (lw_at lw_m8 131 rfl) rfl
theorem q1900 : (Jvm.Cond.privateMethod ({ cls := "PetitionDeskModel", name := "isGood", desc := "([II)Z" } : Jvm.MethodName)) ∈ lw_tbl := lw_at lw_m8 132 rfl
theorem q1901 : (Jvm.Cond.instanceMethod ({ cls := "PetitionDeskModel", name := "isGood", desc := "([II)Z" } : Jvm.MethodName)) ∈ lw_all := lw_g (lw_at lw_m8 133 rfl) rfl
theorem q1902 : (Jvm.Cond.code ({ cls := "PetitionDeskModel", name := "isGood", desc := "([II)Z" } : Jvm.MethodName) prog_12_method_38_code (8 : Nat) (Option.some Jvm.ClassFile.FieldType.boolean)) ∈ lw_all := lw_g (lw_at lw_m8 134 rfl) rfl
theorem q1903 : (Jvm.Cond.methodLink "PetitionDeskModel" (225 : Nat) ({ cls := "PetitionDeskModel", name := "fact", desc := "([III)I" } : Jvm.MethodName)) ∈ lw_all := lw_g (lw_at lw_m8 135 rfl) rfl
theorem q1904 : (Jvm.Cond.privateMethod ({ cls := "PetitionDeskModel", name := "fact", desc := "([III)I" } : Jvm.MethodName)) ∈ lw_tbl := lw_at lw_m8 136 rfl
theorem q1905 : (Jvm.Cond.instanceMethod ({ cls := "PetitionDeskModel", name := "fact", desc := "([III)I" } : Jvm.MethodName)) ∈ lw_all := lw_g (lw_at lw_m8 137 rfl) rfl
theorem q1906 : (Jvm.Cond.code ({ cls := "PetitionDeskModel", name := "fact", desc := "([III)I" } : Jvm.MethodName) prog_12_method_37_code (6 : Nat) (Option.some Jvm.ClassFile.FieldType.int)) ∈ lw_all := lw_g (lw_at lw_m8 138 rfl) rfl
theorem q1907 : (Jvm.Cond.methodLink "PetitionDeskModel" (221 : Nat) ({ cls := "PetitionDeskModel", name := "numberOf", desc := "([II)I" } : Jvm.MethodName)) ∈ lw_all := lw_g (lw_at lw_m8 139 rfl) rfl
theorem q1908 : (Jvm.Cond.static ({ cls := "PetitionDeskModel", name := "numberOf", desc := "([II)I" } : Jvm.MethodName)) ∈ lw_all := lw_g (lw_at lw_m8 140 rfl) rfl
theorem q1909 : (Jvm.Cond.code ({ cls := "PetitionDeskModel", name := "numberOf", desc := "([II)I" } : Jvm.MethodName) prog_12_method_36_code (4 : Nat) (Option.some Jvm.ClassFile.FieldType.int)) ∈ lw_all := lw_g (lw_at lw_m8 141 rfl) rfl
theorem q1910 : (Jvm.Cond.methodLink "PetitionDeskModel" (259 : Nat) ({ cls := "PetitionDeskModel", name := "goodIn", desc := "(I)I" } : Jvm.MethodName)) ∈ lw_all := lw_g (lw_at lw_m8 142 rfl) rfl
theorem q1911 : (Jvm.Cond.privateMethod ({ cls := "PetitionDeskModel", name := "goodIn", desc := "(I)I" } : Jvm.MethodName)) ∈ lw_tbl := lw_at lw_m8 143 rfl
theorem q1912 : (Jvm.Cond.instanceMethod ({ cls := "PetitionDeskModel", name := "goodIn", desc := "(I)I" } : Jvm.MethodName)) ∈ lw_all := lw_g (lw_at lw_m8 144 rfl) rfl
theorem q1913 : (Jvm.Cond.code ({ cls := "PetitionDeskModel", name := "goodIn", desc := "(I)I" } : Jvm.MethodName) prog_12_method_52_code (4 : Nat) (Option.some Jvm.ClassFile.FieldType.int)) ∈ lw_all := lw_g (lw_at lw_m8 145 rfl) rfl
theorem q1914 : (Jvm.Cond.methodLink "PetitionDeskModel" (248 : Nat) ({ cls := "PetitionDeskModel", name := "isClean", desc := "(I)Z" } : Jvm.MethodName)) ∈ lw_all := lw_g (lw_at lw_m8 146 rfl) rfl
theorem q1915 : (Jvm.Cond.privateMethod ({ cls := "PetitionDeskModel", name := "isClean", desc := "(I)Z" } : Jvm.MethodName)) ∈ lw_tbl := lw_at lw_m8 147 rfl
theorem q1916 : (Jvm.Cond.instanceMethod ({ cls := "PetitionDeskModel", name := "isClean", desc := "(I)Z" } : Jvm.MethodName)) ∈ lw_all := lw_g (lw_at lw_m8 148 rfl) rfl
theorem q1917 : (Jvm.Cond.code ({ cls := "PetitionDeskModel", name := "isClean", desc := "(I)Z" } : Jvm.MethodName) prog_12_method_40_code (2 : Nat) (Option.some Jvm.ClassFile.FieldType.boolean)) ∈ lw_all := lw_g (lw_at lw_m8 149 rfl) rfl
theorem q1919 : (Jvm.Cond.instanceMethod ({ cls := "PetitionDeskModel", name := "strike", desc := "(IZ)I" } : Jvm.MethodName)) ∈ lw_all := lw_g (lw_at lw_m8 151 rfl) rfl
theorem q1920 : (Jvm.Cond.selects "PetitionDeskModel" ({ cls := "PetitionDeskModel", name := "strike", desc := "(IZ)I" } : Jvm.MethodName) ({ cls := "PetitionDeskModel", name := "strike", desc := "(IZ)I" } : Jvm.MethodName)) ∈ lw_all := lw_g (lw_at lw_m8 152 rfl) rfl
theorem q1921 : (Jvm.Cond.code ({ cls := "PetitionDeskModel", name := "strike", desc := "(IZ)I" } : Jvm.MethodName) prog_12_method_54_code (4 : Nat) (Option.some Jvm.ClassFile.FieldType.int)) ∈ lw_all := lw_g (lw_at lw_m8 153 rfl) rfl
theorem q1922 : (Jvm.Cond.methodLink "PetitionDeskModel" (238 : Nat) ({ cls := "PetitionDeskModel", name := "isSheet", desc := "(I)Z" } : Jvm.MethodName)) ∈ lw_all := lw_g (lw_at lw_m8 154 rfl) rfl
theorem q1923 : (Jvm.Cond.privateMethod ({ cls := "PetitionDeskModel", name := "isSheet", desc := "(I)Z" } : Jvm.MethodName)) ∈ lw_tbl := lw_at lw_m8 155 rfl
theorem q1924 : (Jvm.Cond.instanceMethod ({ cls := "PetitionDeskModel", name := "isSheet", desc := "(I)Z" } : Jvm.MethodName)) ∈ lw_all := lw_g (lw_at lw_m8 156 rfl) rfl
theorem q1925 : (Jvm.Cond.code ({ cls := "PetitionDeskModel", name := "isSheet", desc := "(I)Z" } : Jvm.MethodName) prog_12_method_44_code (2 : Nat) (Option.some Jvm.ClassFile.FieldType.boolean)) ∈ lw_all := lw_g (lw_at lw_m8 157 rfl) rfl
theorem q1927 : (Jvm.Cond.instanceMethod ({ cls := "PetitionDeskModel", name := "sign", desc := "(III)I" } : Jvm.MethodName)) ∈ lw_all := lw_g (lw_at lw_m8 159 rfl) rfl
theorem q1928 : (Jvm.Cond.selects "PetitionDeskModel" ({ cls := "PetitionDeskModel", name := "sign", desc := "(III)I" } : Jvm.MethodName) ({ cls := "PetitionDeskModel", name := "sign", desc := "(III)I" } : Jvm.MethodName)) ∈ lw_all := lw_g (lw_at lw_m8 160 rfl) rfl
theorem q1929 : (Jvm.Cond.code ({ cls := "PetitionDeskModel", name := "sign", desc := "(III)I" } : Jvm.MethodName) prog_12_method_56_code (7 : Nat) (Option.some Jvm.ClassFile.FieldType.int)) ∈ lw_all := lw_g (lw_at lw_m8 161 rfl) rfl
theorem q1930 : (Jvm.Cond.methodLink "PetitionDeskModel" (262 : Nat) ({ cls := "PetitionDeskModel", name := "isVoter", desc := "(I)Z" } : Jvm.MethodName)) ∈ lw_all := lw_g (lw_at lw_m8 162 rfl) rfl
theorem q1931 : (Jvm.Cond.privateMethod ({ cls := "PetitionDeskModel", name := "isVoter", desc := "(I)Z" } : Jvm.MethodName)) ∈ lw_tbl := lw_at lw_m8 163 rfl
theorem q1932 : (Jvm.Cond.instanceMethod ({ cls := "PetitionDeskModel", name := "isVoter", desc := "(I)Z" } : Jvm.MethodName)) ∈ lw_all := lw_g (lw_at lw_m8 164 rfl) rfl
theorem q1933 : (Jvm.Cond.code ({ cls := "PetitionDeskModel", name := "isVoter", desc := "(I)Z" } : Jvm.MethodName) prog_12_method_45_code (2 : Nat) (Option.some Jvm.ClassFile.FieldType.boolean)) ∈ lw_all := lw_g (lw_at lw_m8 165 rfl) rfl
theorem q1934 : (Jvm.Cond.constantLong "PetitionDeskModel" (265 : Nat) (999 : Int64)) ∈ lw_all := lw_g (lw_at lw_m8 166 rfl) rfl
theorem q1935 : (Jvm.Cond.methodLink "PetitionDeskModel" (241 : Nat) ({ cls := "PetitionDeskModel", name := "linesOf", desc := "(I)I" } : Jvm.MethodName)) ∈ lw_all := lw_g (lw_at lw_m8 167 rfl) rfl
theorem q1936 : (Jvm.Cond.privateMethod ({ cls := "PetitionDeskModel", name := "linesOf", desc := "(I)I" } : Jvm.MethodName)) ∈ lw_tbl := lw_at lw_m8 168 rfl
theorem q1937 : (Jvm.Cond.instanceMethod ({ cls := "PetitionDeskModel", name := "linesOf", desc := "(I)I" } : Jvm.MethodName)) ∈ lw_all := lw_g (lw_at lw_m8 169 rfl) rfl
theorem q1938 : (Jvm.Cond.code ({ cls := "PetitionDeskModel", name := "linesOf", desc := "(I)I" } : Jvm.MethodName) prog_12_method_46_code (4 : Nat) (Option.some Jvm.ClassFile.FieldType.int)) ∈ lw_all := lw_g (lw_at lw_m8 170 rfl) rfl
theorem q1939 : (Jvm.Cond.methodLink "PetitionDeskModel" (267 : Nat) ({ cls := "PetitionDeskModel", name := "spotOf", desc := "(II)I" } : Jvm.MethodName)) ∈ lw_all := lw_g (lw_at lw_m8 171 rfl) rfl
theorem q1940 : (Jvm.Cond.privateMethod ({ cls := "PetitionDeskModel", name := "spotOf", desc := "(II)I" } : Jvm.MethodName)) ∈ lw_tbl := lw_at lw_m8 172 rfl
theorem q1941 : (Jvm.Cond.instanceMethod ({ cls := "PetitionDeskModel", name := "spotOf", desc := "(II)I" } : Jvm.MethodName)) ∈ lw_all := lw_g (lw_at lw_m8 173 rfl) rfl
theorem q1942 : (Jvm.Cond.code ({ cls := "PetitionDeskModel", name := "spotOf", desc := "(II)I" } : Jvm.MethodName) prog_12_method_47_code (5 : Nat) (Option.some Jvm.ClassFile.FieldType.int)) ∈ lw_all := lw_g (lw_at lw_m8 174 rfl) rfl
theorem q1943 : (Jvm.Cond.methodLink "PetitionDeskModel" (270 : Nat) ({ cls := "PetitionDeskModel", name := "moves", desc := "(II)V" } : Jvm.MethodName)) ∈ lw_all := lw_g (lw_at lw_m8 175 rfl) rfl
theorem q1944 : (Jvm.Cond.privateMethod ({ cls := "PetitionDeskModel", name := "moves", desc := "(II)V" } : Jvm.MethodName)) ∈ lw_tbl := lw_at lw_m8 176 rfl
theorem q1945 : (Jvm.Cond.instanceMethod ({ cls := "PetitionDeskModel", name := "moves", desc := "(II)V" } : Jvm.MethodName)) ∈ lw_all := lw_g (lw_at lw_m8 177 rfl) rfl
theorem q1946 : (Jvm.Cond.code ({ cls := "PetitionDeskModel", name := "moves", desc := "(II)V" } : Jvm.MethodName) prog_12_method_55_code (4 : Nat) (Option.none : Option Jvm.ClassFile.FieldType)) ∈ lw_all := lw_g (lw_at lw_m8 178 rfl) rfl
theorem q1947 : (Jvm.Cond.methodLink "PetitionDeskModel" (273 : Nat) ({ cls := "PetitionDeskModel", name := "emptiesSamples", desc := "()V" } : Jvm.MethodName)) ∈ lw_all := lw_g (lw_at lw_m8 179 rfl) rfl
theorem q1948 : (Jvm.Cond.privateMethod ({ cls := "PetitionDeskModel", name := "emptiesSamples", desc := "()V" } : Jvm.MethodName)) ∈ lw_tbl := lw_at lw_m8 180 rfl
theorem q1949 : (Jvm.Cond.instanceMethod ({ cls := "PetitionDeskModel", name := "emptiesSamples", desc := "()V" } : Jvm.MethodName)) ∈ lw_all := lw_g (lw_at lw_m8 181 rfl) rfl
theorem q1950 : (Jvm.Cond.code ({ cls := "PetitionDeskModel", name := "emptiesSamples", desc := "()V" } : Jvm.MethodName) prog_12_method_50_code (2 : Nat) (Option.none : Option Jvm.ClassFile.FieldType)) ∈ lw_all := lw_g (lw_at lw_m8 182 rfl) rfl
theorem q1952 : (Jvm.Cond.instanceMethod ({ cls := "PetitionDeskModel", name := "erase", desc := "(II)I" } : Jvm.MethodName)) ∈ lw_all := lw_g (lw_at lw_m8 184 rfl) rfl
theorem q1953 : (Jvm.Cond.selects "PetitionDeskModel" ({ cls := "PetitionDeskModel", name := "erase", desc := "(II)I" } : Jvm.MethodName) ({ cls := "PetitionDeskModel", name := "erase", desc := "(II)I" } : Jvm.MethodName)) ∈ lw_all := lw_g (lw_at lw_m8 185 rfl) rfl
theorem q1954 : (Jvm.Cond.code ({ cls := "PetitionDeskModel", name := "erase", desc := "(II)I" } : Jvm.MethodName) prog_12_method_57_code (6 : Nat) (Option.some Jvm.ClassFile.FieldType.int)) ∈ lw_all := lw_g (lw_at lw_m8 186 rfl) rfl
theorem q1955 : (Jvm.Cond.methodLink "PetitionDeskModel" (276 : Nat) ({ cls := "PetitionDeskModel", name := "isLine", desc := "(II)Z" } : Jvm.MethodName)) ∈ lw_all := lw_g (lw_at lw_m8 187 rfl) rfl
theorem q1956 : (Jvm.Cond.privateMethod ({ cls := "PetitionDeskModel", name := "isLine", desc := "(II)Z" } : Jvm.MethodName)) ∈ lw_tbl := lw_at lw_m8 188 rfl
theorem q1957 : (Jvm.Cond.instanceMethod ({ cls := "PetitionDeskModel", name := "isLine", desc := "(II)Z" } : Jvm.MethodName)) ∈ lw_all := lw_g (lw_at lw_m8 189 rfl) rfl
theorem q1958 : (Jvm.Cond.code ({ cls := "PetitionDeskModel", name := "isLine", desc := "(II)Z" } : Jvm.MethodName) prog_12_method_48_code (3 : Nat) (Option.some Jvm.ClassFile.FieldType.boolean)) ∈ lw_all := lw_g (lw_at lw_m8 190 rfl) rfl
theorem q1960 : (Jvm.Cond.instanceMethod ({ cls := "PetitionDeskModel", name := "told", desc := "(I)I" } : Jvm.MethodName)) ∈ lw_all := lw_g (lw_at lw_m8 192 rfl) rfl
theorem q1961 : (Jvm.Cond.selects "PetitionDeskModel" ({ cls := "PetitionDeskModel", name := "told", desc := "(I)I" } : Jvm.MethodName) ({ cls := "PetitionDeskModel", name := "told", desc := "(I)I" } : Jvm.MethodName)) ∈ lw_all := lw_g (lw_at lw_m8 193 rfl) rfl
theorem q1962 : (Jvm.Cond.code ({ cls := "PetitionDeskModel", name := "told", desc := "(I)I" } : Jvm.MethodName) prog_12_method_58_code (2 : Nat) (Option.some Jvm.ClassFile.FieldType.int)) ∈ lw_all := lw_g (lw_at lw_m8 194 rfl) rfl
theorem q1963 : (Jvm.Cond.constantLong "PetitionDeskModel" (279 : Nat) (10 : Int64)) ∈ lw_all := lw_g (lw_at lw_m8 195 rfl) rfl
theorem q1965 : (Jvm.Cond.instanceMethod ({ cls := "PetitionDeskModel", name := "voter", desc := "(II)I" } : Jvm.MethodName)) ∈ lw_all := lw_g (lw_at lw_m8 197 rfl) rfl
theorem q1966 : (Jvm.Cond.selects "PetitionDeskModel" ({ cls := "PetitionDeskModel", name := "voter", desc := "(II)I" } : Jvm.MethodName) ({ cls := "PetitionDeskModel", name := "voter", desc := "(II)I" } : Jvm.MethodName)) ∈ lw_all := lw_g (lw_at lw_m8 198 rfl) rfl
theorem q1967 : (Jvm.Cond.code ({ cls := "PetitionDeskModel", name := "voter", desc := "(II)I" } : Jvm.MethodName) prog_12_method_59_code (5 : Nat) (Option.some Jvm.ClassFile.FieldType.int)) ∈ lw_all := lw_g (lw_at lw_m8 199 rfl) rfl
theorem q1968 : (Jvm.Cond.constantLong "PetitionDeskModel" (281 : Nat) (3 : Int64)) ∈ lw_all := lw_g (lw_at lw_m8 200 rfl) rfl
theorem q1970 : (Jvm.Cond.instanceMethod ({ cls := "PetitionDeskModel", name := "letter", desc := "(II)I" } : Jvm.MethodName)) ∈ lw_all := lw_g (lw_at lw_m8 202 rfl) rfl
theorem q1971 : (Jvm.Cond.selects "PetitionDeskModel" ({ cls := "PetitionDeskModel", name := "letter", desc := "(II)I" } : Jvm.MethodName) ({ cls := "PetitionDeskModel", name := "letter", desc := "(II)I" } : Jvm.MethodName)) ∈ lw_all := lw_g (lw_at lw_m8 203 rfl) rfl
theorem q1972 : (Jvm.Cond.code ({ cls := "PetitionDeskModel", name := "letter", desc := "(II)I" } : Jvm.MethodName) prog_12_method_60_code (6 : Nat) (Option.some Jvm.ClassFile.FieldType.int)) ∈ lw_all := lw_g (lw_at lw_m8 204 rfl) rfl
theorem q1974 : (Jvm.Cond.instanceMethod ({ cls := "PetitionDeskModel", name := "sheet", desc := "(II)I" } : Jvm.MethodName)) ∈ lw_all := lw_g (lw_at lw_m8 206 rfl) rfl
theorem q1975 : (Jvm.Cond.selects "PetitionDeskModel" ({ cls := "PetitionDeskModel", name := "sheet", desc := "(II)I" } : Jvm.MethodName) ({ cls := "PetitionDeskModel", name := "sheet", desc := "(II)I" } : Jvm.MethodName)) ∈ lw_all := lw_g (lw_at lw_m8 207 rfl) rfl
theorem q1976 : (Jvm.Cond.code ({ cls := "PetitionDeskModel", name := "sheet", desc := "(II)I" } : Jvm.MethodName) prog_12_method_61_code (5 : Nat) (Option.some Jvm.ClassFile.FieldType.int)) ∈ lw_all := lw_g (lw_at lw_m8 208 rfl) rfl
theorem q1977 : (Jvm.Cond.constantLong "PetitionDeskModel" (283 : Nat) (8 : Int64)) ∈ lw_all := lw_g (lw_at lw_m8 209 rfl) rfl
theorem q1979 : (Jvm.Cond.instanceMethod ({ cls := "PetitionDeskModel", name := "line", desc := "(III)I" } : Jvm.MethodName)) ∈ lw_all := lw_g (lw_at lw_m8 211 rfl) rfl
theorem q1980 : (Jvm.Cond.selects "PetitionDeskModel" ({ cls := "PetitionDeskModel", name := "line", desc := "(III)I" } : Jvm.MethodName) ({ cls := "PetitionDeskModel", name := "line", desc := "(III)I" } : Jvm.MethodName)) ∈ lw_all := lw_g (lw_at lw_m8 212 rfl) rfl
theorem q1981 : (Jvm.Cond.code ({ cls := "PetitionDeskModel", name := "line", desc := "(III)I" } : Jvm.MethodName) prog_12_method_62_code (5 : Nat) (Option.some Jvm.ClassFile.FieldType.int)) ∈ lw_all := lw_g (lw_at lw_m8 213 rfl) rfl
theorem q1982 : (Jvm.Cond.constantLong "PetitionDeskModel" (285 : Nat) (5 : Int64)) ∈ lw_all := lw_g (lw_at lw_m8 214 rfl) rfl
theorem q1984 : (Jvm.Cond.instanceMethod ({ cls := "PetitionDeskModel", name := "judged", desc := "(I)I" } : Jvm.MethodName)) ∈ lw_all := lw_g (lw_at lw_m8 216 rfl) rfl
theorem q1985 : (Jvm.Cond.selects "PetitionDeskModel" ({ cls := "PetitionDeskModel", name := "judged", desc := "(I)I" } : Jvm.MethodName) ({ cls := "PetitionDeskModel", name := "judged", desc := "(I)I" } : Jvm.MethodName)) ∈ lw_all := lw_g (lw_at lw_m8 217 rfl) rfl
theorem q1986 : (Jvm.Cond.code ({ cls := "PetitionDeskModel", name := "judged", desc := "(I)I" } : Jvm.MethodName) prog_12_method_63_code (2 : Nat) (Option.some Jvm.ClassFile.FieldType.int)) ∈ lw_all := lw_g (lw_at lw_m8 218 rfl) rfl
theorem q1987 : (Jvm.Cond.methodLink "PetitionDeskModel" (287 : Nat) ({ cls := "PetitionDeskModel", name := "count", desc := "(I)I" } : Jvm.MethodName)) ∈ lw_all := lw_g (lw_at lw_m8 219 rfl) rfl
theorem q1988 : (Jvm.Cond.privateMethod ({ cls := "PetitionDeskModel", name := "count", desc := "(I)I" } : Jvm.MethodName)) ∈ lw_tbl := lw_at lw_m8 220 rfl
theorem q1989 : (Jvm.Cond.instanceMethod ({ cls := "PetitionDeskModel", name := "count", desc := "(I)I" } : Jvm.MethodName)) ∈ lw_all := lw_g (lw_at lw_m8 221 rfl) rfl
theorem q1990 : (Jvm.Cond.code ({ cls := "PetitionDeskModel", name := "count", desc := "(I)I" } : Jvm.MethodName) prog_12_method_41_code (4 : Nat) (Option.some Jvm.ClassFile.FieldType.int)) ∈ lw_all := lw_g (lw_at lw_m8 222 rfl) rfl
theorem q1992 : (Jvm.Cond.instanceMethod ({ cls := "PetitionDeskModel", name := "passes", desc := "()I" } : Jvm.MethodName)) ∈ lw_all := lw_g (lw_at lw_m8 224 rfl) rfl
theorem q1993 : (Jvm.Cond.selects "PetitionDeskModel" ({ cls := "PetitionDeskModel", name := "passes", desc := "()I" } : Jvm.MethodName) ({ cls := "PetitionDeskModel", name := "passes", desc := "()I" } : Jvm.MethodName)) ∈ lw_all := lw_g (lw_at lw_m8 225 rfl) rfl
theorem q1994 : (Jvm.Cond.code ({ cls := "PetitionDeskModel", name := "passes", desc := "()I" } : Jvm.MethodName) prog_12_method_64_code (1 : Nat) (Option.some Jvm.ClassFile.FieldType.int)) ∈ lw_all := lw_g (lw_at lw_m8 226 rfl) rfl
theorem q1996 : (Jvm.Cond.instanceMethod ({ cls := "PetitionDeskModel", name := "drawn", desc := "(II)I" } : Jvm.MethodName)) ∈ lw_all := lw_g (lw_at lw_m8 228 rfl) rfl
theorem q1997 : (Jvm.Cond.selects "PetitionDeskModel" ({ cls := "PetitionDeskModel", name := "drawn", desc := "(II)I" } : Jvm.MethodName) ({ cls := "PetitionDeskModel", name := "drawn", desc := "(II)I" } : Jvm.MethodName)) ∈ lw_all := lw_g (lw_at lw_m8 229 rfl) rfl
theorem q1998 : (Jvm.Cond.code ({ cls := "PetitionDeskModel", name := "drawn", desc := "(II)I" } : Jvm.MethodName) prog_12_method_72_code (7 : Nat) (Option.some Jvm.ClassFile.FieldType.int)) ∈ lw_all := lw_g (lw_at lw_m8 230 rfl) rfl
theorem q1999 : (Jvm.Cond.methodLink "PetitionDeskModel" (304 : Nat) ({ cls := "PetitionDeskModel", name := "sizeOf", desc := "(I)I" } : Jvm.MethodName)) ∈ lw_all := lw_g (lw_at lw_m8 231 rfl) rfl
theorem q2000 : (Jvm.Cond.privateMethod ({ cls := "PetitionDeskModel", name := "sizeOf", desc := "(I)I" } : Jvm.MethodName)) ∈ lw_tbl := lw_at lw_m8 232 rfl
theorem q2001 : (Jvm.Cond.instanceMethod ({ cls := "PetitionDeskModel", name := "sizeOf", desc := "(I)I" } : Jvm.MethodName)) ∈ lw_all := lw_g (lw_at lw_m8 233 rfl) rfl
theorem q2002 : (Jvm.Cond.code ({ cls := "PetitionDeskModel", name := "sizeOf", desc := "(I)I" } : Jvm.MethodName) prog_12_method_70_code (4 : Nat) (Option.some Jvm.ClassFile.FieldType.int)) ∈ lw_all := lw_g (lw_at lw_m8 234 rfl) rfl
theorem q2003 : (Jvm.Cond.methodLink "PetitionDeskModel" (307 : Nat) ({ cls := "PetitionDeskModel", name := "pairsIn", desc := "(I)I" } : Jvm.MethodName)) ∈ lw_all := lw_g (lw_at lw_m8 235 rfl) rfl
theorem q2004 : (Jvm.Cond.privateMethod ({ cls := "PetitionDeskModel", name := "pairsIn", desc := "(I)I" } : Jvm.MethodName)) ∈ lw_tbl := lw_at lw_m8 236 rfl
theorem q2005 : (Jvm.Cond.instanceMethod ({ cls := "PetitionDeskModel", name := "pairsIn", desc := "(I)I" } : Jvm.MethodName)) ∈ lw_all := lw_g (lw_at lw_m8 237 rfl) rfl
theorem q2006 : (Jvm.Cond.code ({ cls := "PetitionDeskModel", name := "pairsIn", desc := "(I)I" } : Jvm.MethodName) prog_12_method_71_code (5 : Nat) (Option.some Jvm.ClassFile.FieldType.int)) ∈ lw_all := lw_g (lw_at lw_m8 238 rfl) rfl
theorem q2007 : (Jvm.Cond.methodLink "PetitionDeskModel" (310 : Nat) ({ cls := "PetitionDeskModel", name := "lowOf", desc := "(II)I" } : Jvm.MethodName)) ∈ lw_all := lw_g (lw_at lw_m8 239 rfl) rfl
theorem q2008 : (Jvm.Cond.privateMethod ({ cls := "PetitionDeskModel", name := "lowOf", desc := "(II)I" } : Jvm.MethodName)) ∈ lw_tbl := lw_at lw_m9 0 rfl
theorem q2009 : (Jvm.Cond.instanceMethod ({ cls := "PetitionDeskModel", name := "lowOf", desc := "(II)I" } : Jvm.MethodName)) ∈ lw_all := lw_g (lw_at lw_m9 1 rfl) rfl
theorem q2010 : (Jvm.Cond.code ({ cls := "PetitionDeskModel", name := "lowOf", desc := "(II)I" } : Jvm.MethodName) prog_12_method_68_code (4 : Nat) (Option.some Jvm.ClassFile.FieldType.int)) ∈ lw_all := lw_g (lw_at lw_m9 2 rfl) rfl
theorem q2011 : (Jvm.Cond.methodLink "PetitionDeskModel" (296 : Nat) ({ cls := "PetitionDeskModel", name := "waysBy", desc := "(IIII)J" } : Jvm.MethodName)) ∈ lw_all := lw_g (lw_at lw_m9 3 rfl) rfl
theorem q2012 : (Jvm.Cond.privateMethod ({ cls := "PetitionDeskModel", name := "waysBy", desc := "(IIII)J" } : Jvm.MethodName)) ∈ lw_tbl := lw_at lw_m9 4 rfl
theorem q2013 : (Jvm.Cond.instanceMethod ({ cls := "PetitionDeskModel", name := "waysBy", desc := "(IIII)J" } : Jvm.MethodName)) ∈ lw_all := lw_g (lw_at lw_m9 5 rfl) rfl
theorem q2014 : (Jvm.Cond.code ({ cls := "PetitionDeskModel", name := "waysBy", desc := "(IIII)J" } : Jvm.MethodName) prog_12_method_66_code (8 : Nat) (Option.some Jvm.ClassFile.FieldType.long)) ∈ lw_all := lw_g (lw_at lw_m9 6 rfl) rfl
theorem q2015 : (Jvm.Cond.methodLink "PetitionDeskModel" (290 : Nat) ({ cls := "PetitionDeskModel", name := "ways", desc := "(II)J" } : Jvm.MethodName)) ∈ lw_all := lw_g (lw_at lw_m9 7 rfl) rfl
theorem q2016 : (Jvm.Cond.static ({ cls := "PetitionDeskModel", name := "ways", desc := "(II)J" } : Jvm.MethodName)) ∈ lw_all := lw_g (lw_at lw_m9 8 rfl) rfl
theorem q2017 : (Jvm.Cond.code ({ cls := "PetitionDeskModel", name := "ways", desc := "(II)J" } : Jvm.MethodName) prog_12_method_65_code (5 : Nat) (Option.some Jvm.ClassFile.FieldType.long)) ∈ lw_all := lw_g (lw_at lw_m9 9 rfl) rfl
theorem q2018 : (Jvm.Cond.methodLink "PetitionDeskModel" (300 : Nat) ({ cls := "PetitionDeskModel", name := "isMuch", desc := "(JI)Z" } : Jvm.MethodName)) ∈ lw_all := lw_g (lw_at lw_m9 10 rfl) rfl
theorem q2019 : (Jvm.Cond.privateMethod ({ cls := "PetitionDeskModel", name := "isMuch", desc := "(JI)Z" } : Jvm.MethodName)) ∈ lw_tbl := lw_at lw_m9 11 rfl
theorem q2020 : (Jvm.Cond.instanceMethod ({ cls := "PetitionDeskModel", name := "isMuch", desc := "(JI)Z" } : Jvm.MethodName)) ∈ lw_all := lw_g (lw_at lw_m9 12 rfl) rfl
theorem q2021 : (Jvm.Cond.code ({ cls := "PetitionDeskModel", name := "isMuch", desc := "(JI)Z" } : Jvm.MethodName) prog_12_method_67_code (4 : Nat) (Option.some Jvm.ClassFile.FieldType.boolean)) ∈ lw_all := lw_g (lw_at lw_m9 13 rfl) rfl
theorem q2022 : (Jvm.Cond.constantLong "PetitionDeskModel" (294 : Nat) (1000 : Int64)) ∈ lw_all := lw_g (lw_at lw_m9 14 rfl) rfl
theorem q2023 : (Jvm.Cond.methodLink "PetitionDeskModel" (313 : Nat) ({ cls := "PetitionDeskModel", name := "highOf", desc := "(II)I" } : Jvm.MethodName)) ∈ lw_all := lw_g (lw_at lw_m9 15 rfl) rfl
theorem q2024 : (Jvm.Cond.privateMethod ({ cls := "PetitionDeskModel", name := "highOf", desc := "(II)I" } : Jvm.MethodName)) ∈ lw_tbl := lw_at lw_m9 16 rfl
theorem q2025 : (Jvm.Cond.instanceMethod ({ cls := "PetitionDeskModel", name := "highOf", desc := "(II)I" } : Jvm.MethodName)) ∈ lw_all := lw_g (lw_at lw_m9 17 rfl) rfl
theorem q2026 : (Jvm.Cond.code ({ cls := "PetitionDeskModel", name := "highOf", desc := "(II)I" } : Jvm.MethodName) prog_12_method_69_code (4 : Nat) (Option.some Jvm.ClassFile.FieldType.int)) ∈ lw_all := lw_g (lw_at lw_m9 18 rfl) rfl
theorem q2028 : (Jvm.Cond.instanceMethod ({ cls := "PetitionDeskModel", name := "estimate", desc := "(II)J" } : Jvm.MethodName)) ∈ lw_all := lw_g (lw_at lw_m9 20 rfl) rfl
theorem q2029 : (Jvm.Cond.selects "PetitionDeskModel" ({ cls := "PetitionDeskModel", name := "estimate", desc := "(II)J" } : Jvm.MethodName) ({ cls := "PetitionDeskModel", name := "estimate", desc := "(II)J" } : Jvm.MethodName)) ∈ lw_all := lw_g (lw_at lw_m9 21 rfl) rfl
theorem q2030 : (Jvm.Cond.code ({ cls := "PetitionDeskModel", name := "estimate", desc := "(II)J" } : Jvm.MethodName) prog_12_method_74_code (7 : Nat) (Option.some Jvm.ClassFile.FieldType.long)) ∈ lw_all := lw_g (lw_at lw_m9 22 rfl) rfl
theorem q2031 : (Jvm.Cond.methodLink "PetitionDeskModel" (316 : Nat) ({ cls := "PetitionDeskModel", name := "terms", desc := "(JJI)J" } : Jvm.MethodName)) ∈ lw_all := lw_g (lw_at lw_m9 23 rfl) rfl
theorem q2032 : (Jvm.Cond.static ({ cls := "PetitionDeskModel", name := "terms", desc := "(JJI)J" } : Jvm.MethodName)) ∈ lw_all := lw_g (lw_at lw_m9 24 rfl) rfl
theorem q2033 : (Jvm.Cond.code ({ cls := "PetitionDeskModel", name := "terms", desc := "(JJI)J" } : Jvm.MethodName) prog_12_method_73_code (11 : Nat) (Option.some Jvm.ClassFile.FieldType.long)) ∈ lw_all := lw_g (lw_at lw_m9 25 rfl) rfl
theorem q2035 : (Jvm.Cond.instanceMethod ({ cls := "PetitionDeskModel", name := "unlike", desc := "(I)I" } : Jvm.MethodName)) ∈ lw_all := lw_g (lw_at lw_m9 27 rfl) rfl
theorem q2036 : (Jvm.Cond.selects "PetitionDeskModel" ({ cls := "PetitionDeskModel", name := "unlike", desc := "(I)I" } : Jvm.MethodName) ({ cls := "PetitionDeskModel", name := "unlike", desc := "(I)I" } : Jvm.MethodName)) ∈ lw_all := lw_g (lw_at lw_m9 28 rfl) rfl
theorem q2037 : (Jvm.Cond.code ({ cls := "PetitionDeskModel", name := "unlike", desc := "(I)I" } : Jvm.MethodName) prog_12_method_77_code (4 : Nat) (Option.some Jvm.ClassFile.FieldType.int)) ∈ lw_all := lw_g (lw_at lw_m9 29 rfl) rfl
theorem q2038 : (Jvm.Cond.methodLink "PetitionDeskModel" (320 : Nat) ({ cls := "PetitionDeskModel", name := "votersIn", desc := "(I)I" } : Jvm.MethodName)) ∈ lw_all := lw_g (lw_at lw_m9 30 rfl) rfl
theorem q2039 : (Jvm.Cond.privateMethod ({ cls := "PetitionDeskModel", name := "votersIn", desc := "(I)I" } : Jvm.MethodName)) ∈ lw_tbl := lw_at lw_m9 31 rfl
theorem q2040 : (Jvm.Cond.instanceMethod ({ cls := "PetitionDeskModel", name := "votersIn", desc := "(I)I" } : Jvm.MethodName)) ∈ lw_all := lw_g (lw_at lw_m9 32 rfl) rfl
theorem q2041 : (Jvm.Cond.code ({ cls := "PetitionDeskModel", name := "votersIn", desc := "(I)I" } : Jvm.MethodName) prog_12_method_75_code (4 : Nat) (Option.some Jvm.ClassFile.FieldType.int)) ∈ lw_all := lw_g (lw_at lw_m9 33 rfl) rfl
theorem q2042 : (Jvm.Cond.methodLink "PetitionDeskModel" (323 : Nat) ({ cls := "PetitionDeskModel", name := "ones", desc := "(I)I" } : Jvm.MethodName)) ∈ lw_all := lw_g (lw_at lw_m9 34 rfl) rfl
theorem q2043 : (Jvm.Cond.static ({ cls := "PetitionDeskModel", name := "ones", desc := "(I)I" } : Jvm.MethodName)) ∈ lw_all := lw_g (lw_at lw_m9 35 rfl) rfl
theorem q2044 : (Jvm.Cond.code ({ cls := "PetitionDeskModel", name := "ones", desc := "(I)I" } : Jvm.MethodName) prog_12_method_76_code (3 : Nat) (Option.some Jvm.ClassFile.FieldType.int)) ∈ lw_all := lw_g (lw_at lw_m9 36 rfl) rfl
theorem q2046 : (Jvm.Cond.instanceMethod ({ cls := "PetitionDeskModel", name := "unseen", desc := "(II)J" } : Jvm.MethodName)) ∈ lw_all := lw_g (lw_at lw_m9 38 rfl) rfl
theorem q2047 : (Jvm.Cond.selects "PetitionDeskModel" ({ cls := "PetitionDeskModel", name := "unseen", desc := "(II)J" } : Jvm.MethodName) ({ cls := "PetitionDeskModel", name := "unseen", desc := "(II)J" } : Jvm.MethodName)) ∈ lw_all := lw_g (lw_at lw_m9 39 rfl) rfl
theorem q2048 : (Jvm.Cond.code ({ cls := "PetitionDeskModel", name := "unseen", desc := "(II)J" } : Jvm.MethodName) prog_12_method_79_code (6 : Nat) (Option.some Jvm.ClassFile.FieldType.long)) ∈ lw_all := lw_g (lw_at lw_m9 40 rfl) rfl
theorem q2049 : (Jvm.Cond.methodLink "PetitionDeskModel" (326 : Nat) ({ cls := "PetitionDeskModel", name := "adds", desc := "(II)V" } : Jvm.MethodName)) ∈ lw_all := lw_g (lw_at lw_m9 41 rfl) rfl
theorem q2050 : (Jvm.Cond.privateMethod ({ cls := "PetitionDeskModel", name := "adds", desc := "(II)V" } : Jvm.MethodName)) ∈ lw_tbl := lw_at lw_m9 42 rfl
theorem q2051 : (Jvm.Cond.instanceMethod ({ cls := "PetitionDeskModel", name := "adds", desc := "(II)V" } : Jvm.MethodName)) ∈ lw_all := lw_g (lw_at lw_m9 43 rfl) rfl
theorem q2052 : (Jvm.Cond.code ({ cls := "PetitionDeskModel", name := "adds", desc := "(II)V" } : Jvm.MethodName) prog_12_method_78_code (4 : Nat) (Option.none : Option Jvm.ClassFile.FieldType)) ∈ lw_all := lw_g (lw_at lw_m9 44 rfl) rfl
theorem q2054 : (Jvm.Cond.instanceMethod ({ cls := "PetitionDeskModel", name := "fewest", desc := "()I" } : Jvm.MethodName)) ∈ lw_all := lw_g (lw_at lw_m9 46 rfl) rfl
theorem q2055 : (Jvm.Cond.selects "PetitionDeskModel" ({ cls := "PetitionDeskModel", name := "fewest", desc := "()I" } : Jvm.MethodName) ({ cls := "PetitionDeskModel", name := "fewest", desc := "()I" } : Jvm.MethodName)) ∈ lw_all := lw_g (lw_at lw_m9 47 rfl) rfl
theorem q2056 : (Jvm.Cond.code ({ cls := "PetitionDeskModel", name := "fewest", desc := "()I" } : Jvm.MethodName) prog_12_method_80_code (2 : Nat) (Option.some Jvm.ClassFile.FieldType.int)) ∈ lw_all := lw_g (lw_at lw_m9 48 rfl) rfl
theorem q2058 : (Jvm.Cond.instanceMethod ({ cls := "PetitionDeskModel", name := "worst", desc := "(II)I" } : Jvm.MethodName)) ∈ lw_all := lw_g (lw_at lw_m9 50 rfl) rfl
theorem q2059 : (Jvm.Cond.selects "PetitionDeskModel" ({ cls := "PetitionDeskModel", name := "worst", desc := "(II)I" } : Jvm.MethodName) ({ cls := "PetitionDeskModel", name := "worst", desc := "(II)I" } : Jvm.MethodName)) ∈ lw_all := lw_g (lw_at lw_m9 51 rfl) rfl
theorem q2060 : (Jvm.Cond.code ({ cls := "PetitionDeskModel", name := "worst", desc := "(II)I" } : Jvm.MethodName) prog_12_method_81_code (8 : Nat) (Option.some Jvm.ClassFile.FieldType.int)) ∈ lw_all := lw_g (lw_at lw_m9 52 rfl) rfl
theorem q2062 : (Jvm.Cond.instanceMethod ({ cls := "PetitionDeskModel", name := "cost", desc := "(I)I" } : Jvm.MethodName)) ∈ lw_all := lw_g (lw_at lw_m9 54 rfl) rfl
theorem q2063 : (Jvm.Cond.selects "PetitionDeskModel" ({ cls := "PetitionDeskModel", name := "cost", desc := "(I)I" } : Jvm.MethodName) ({ cls := "PetitionDeskModel", name := "cost", desc := "(I)I" } : Jvm.MethodName)) ∈ lw_all := lw_g (lw_at lw_m9 55 rfl) rfl
theorem q2064 : (Jvm.Cond.code ({ cls := "PetitionDeskModel", name := "cost", desc := "(I)I" } : Jvm.MethodName) prog_12_method_82_code (2 : Nat) (Option.some Jvm.ClassFile.FieldType.int)) ∈ lw_all := lw_g (lw_at lw_m9 56 rfl) rfl
theorem q2065 : (Jvm.Cond.constantLong "PetitionDeskModel" (331 : Nat) (2147483647 : Int64)) ∈ lw_all := lw_g (lw_at lw_m9 57 rfl) rfl
theorem q2067 : (Jvm.Cond.instanceMethod ({ cls := "PetitionDeskModel", name := "print", desc := "()J" } : Jvm.MethodName)) ∈ lw_all := lw_g (lw_at lw_m9 59 rfl) rfl
theorem q2068 : (Jvm.Cond.selects "PetitionDeskModel" ({ cls := "PetitionDeskModel", name := "print", desc := "()J" } : Jvm.MethodName) ({ cls := "PetitionDeskModel", name := "print", desc := "()J" } : Jvm.MethodName)) ∈ lw_all := lw_g (lw_at lw_m9 60 rfl) rfl
theorem q2069 : (Jvm.Cond.code ({ cls := "PetitionDeskModel", name := "print", desc := "()J" } : Jvm.MethodName) prog_12_method_83_code (4 : Nat) (Option.some Jvm.ClassFile.FieldType.long)) ∈ lw_all := lw_g (lw_at lw_m9 61 rfl) rfl
theorem q2070 : (Jvm.Cond.constantLong "PetitionDeskModel" (333 : Nat) (31 : Int64)) ∈ lw_all := lw_g (lw_at lw_m9 62 rfl) rfl
theorem q2072 : (Jvm.Cond.instanceMethod ({ cls := "PetitionDeskModel", name := "status", desc := "(I)I" } : Jvm.MethodName)) ∈ lw_all := lw_g (lw_at lw_m9 64 rfl) rfl
theorem q2073 : (Jvm.Cond.selects "PetitionDeskModel" ({ cls := "PetitionDeskModel", name := "status", desc := "(I)I" } : Jvm.MethodName) ({ cls := "PetitionDeskModel", name := "status", desc := "(I)I" } : Jvm.MethodName)) ∈ lw_all := lw_g (lw_at lw_m9 65 rfl) rfl
theorem q2074 : (Jvm.Cond.code ({ cls := "PetitionDeskModel", name := "status", desc := "(I)I" } : Jvm.MethodName) prog_12_method_84_code (2 : Nat) (Option.some Jvm.ClassFile.FieldType.int)) ∈ lw_all := lw_g (lw_at lw_m9 66 rfl) rfl
theorem q2075 : (Jvm.Cond.constantLong "PetitionDeskModel" (335 : Nat) (2 : Int64)) ∈ lw_all := lw_g (lw_at lw_m9 67 rfl) rfl
theorem q2095 : (Jvm.Cond.castable "PetitionDeskModel" "java/lang/Object") ∈ lw_tbl := lw_at lw_m9 87 rfl
theorem in_X4 : ∀ w ∈ wsX40, w ∈ lw_all := lw_in wsX40 [1690, 1692, 1694, 1696, 1698, 1700, 1702, 1704, 1706, 1708, 1710, 1712, 1714, 1716, 1718, 1720, 1722, 1724, 1726, 1728, 1730] (by decide +kernel) (by decide +kernel)
