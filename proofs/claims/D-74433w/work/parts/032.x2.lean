/-! PetitionDesk$Petition -/
set_option maxRecDepth 100000
def RX2 : String := "PetitionDesk$Petition"
def TX2 : u_T := fun k => match k with
  | 0 => ("PetitionDesk$Petition", "roll", "Ljava/util/List;", true)
  | 1 => ("PetitionDesk$Petition", "sheets", "Ljava/util/List;", true)
  | 2 => ("PetitionDesk$Petition", "samples", "[J", true)
  | 3 => ("PetitionDesk$Petition", "need", "I", false)
  | 4 => ("PetitionDesk$Petition", "first", "I", false)
  | 5 => ("PetitionDesk$Petition", "last", "I", false)
  | 6 => ("PetitionDesk$Petition", "spoilt", "I", false)
  | 7 => ("PetitionDesk$Petition", "alpha", "I", false)
  | _ => ("PetitionDesk$Petition", "good", "LPetitionDesk$Rule;", false)
def tyX2 : Nat → FieldType := fun k => match k with
  | 0 => .object "java/util/List"
  | 1 => .object "java/util/List"
  | 2 => .array .long
  | 3 => .int
  | 4 => .int
  | 5 => .int
  | 6 => .int
  | 7 => .int
  | _ => .object "PetitionDesk$Rule"
abbrev wsX20 : List Cond := u_ws RX2 TX2 9
theorem nmX2 : ∀ a, a < 9 → ∀ b, b < 9 → a ≠ b → (TX2 a).2.1 ≠ (TX2 b).2.1 := by decide +kernel
theorem tyX2_ok : ∀ k, k < 9 → parseFieldDescriptor (TX2 k).2.2.1 = some (tyX2 k) := by decide +kernel
abbrev cX2_init : ByteArray := prog_3_method_1_code
def yX2_init : MethodName := ⟨RX2, "<init>", "()V"⟩
def dkwX2_init_0 : List UInt8 := [42, 187, 0, 3, 89, 183, 0, 5, 183, 0, 9, 177]
abbrev dktX2_init_0 : List UInt8 := dkwX2_init_0 ++ []
theorem dksX2_init_0 : cX2_init.data.toList.drop 0 = dktX2_init_0 := by decide +kernel
theorem dX2_init_0 : decode cX2_init 0 = .ok (.aload_n 0, 1) := dk_42 (dk_at dksX2_init_0 0 rfl rfl)
theorem dX2_init_1 : decode cX2_init 1 = .ok (.new 3, 3) := dk_187 0 3 (dk_at dksX2_init_0 1 rfl rfl)
theorem dX2_init_4 : decode cX2_init 4 = .ok (.dup, 1) := dk_89 (dk_at dksX2_init_0 4 rfl rfl)
theorem dX2_init_5 : decode cX2_init 5 = .ok (.invokespecial 5, 3) := dk_183 0 5 (dk_at dksX2_init_0 5 rfl rfl)
theorem dX2_init_8 : decode cX2_init 8 = .ok (.invokespecial 9, 3) := dk_183 0 9 (dk_at dksX2_init_0 8 rfl rfl)
theorem dX2_init_11 : decode cX2_init 11 = .ok (.return_, 1) := dk_177 (dk_at dksX2_init_0 11 rfl rfl)
abbrev cX2_init_2 : ByteArray := prog_3_method_2_code
def yX2_init_2 : MethodName := ⟨RX2, "<init>", "(Ljava/util/List;)V"⟩
def dkwX2_init_2_2 : List UInt8 := [43, 181, 0, 41, 177]
abbrev dktX2_init_2_2 : List UInt8 := dkwX2_init_2_2 ++ []
def dkwX2_init_2_1 : List UInt8 := [181, 0, 25, 42, 2, 181, 0, 29, 42, 2, 181, 0, 32, 42, 2, 181, 0, 35, 42, 2, 181, 0, 38, 42]
abbrev dktX2_init_2_1 : List UInt8 := dkwX2_init_2_1 ++ dktX2_init_2_2
def dkwX2_init_2_0 : List UInt8 := [42, 183, 0, 14, 42, 187, 0, 3, 89, 183, 0, 5, 181, 0, 17, 42, 5, 188, 11, 181, 0, 21, 42, 2]
abbrev dktX2_init_2_0 : List UInt8 := dkwX2_init_2_0 ++ dktX2_init_2_1
theorem dksX2_init_2_0 : cX2_init_2.data.toList.drop 0 = dktX2_init_2_0 := by decide +kernel
theorem dksX2_init_2_1 : cX2_init_2.data.toList.drop 24 = dktX2_init_2_1 := dk_seg dksX2_init_2_0 24 rfl rfl
theorem dksX2_init_2_2 : cX2_init_2.data.toList.drop 48 = dktX2_init_2_2 := dk_seg dksX2_init_2_1 24 rfl rfl
theorem dX2_init_2_0 : decode cX2_init_2 0 = .ok (.aload_n 0, 1) := dk_42 (dk_at dksX2_init_2_0 0 rfl rfl)
theorem dX2_init_2_1 : decode cX2_init_2 1 = .ok (.invokespecial 14, 3) := dk_183 0 14 (dk_at dksX2_init_2_0 1 rfl rfl)
theorem dX2_init_2_4 : decode cX2_init_2 4 = .ok (.aload_n 0, 1) := dk_42 (dk_at dksX2_init_2_0 4 rfl rfl)
theorem dX2_init_2_5 : decode cX2_init_2 5 = .ok (.new 3, 3) := dk_187 0 3 (dk_at dksX2_init_2_0 5 rfl rfl)
theorem dX2_init_2_8 : decode cX2_init_2 8 = .ok (.dup, 1) := dk_89 (dk_at dksX2_init_2_0 8 rfl rfl)
theorem dX2_init_2_9 : decode cX2_init_2 9 = .ok (.invokespecial 5, 3) := dk_183 0 5 (dk_at dksX2_init_2_0 9 rfl rfl)
theorem dX2_init_2_12 : decode cX2_init_2 12 = .ok (.putfield 17, 3) := dk_181 0 17 (dk_at dksX2_init_2_0 12 rfl rfl)
theorem dX2_init_2_15 : decode cX2_init_2 15 = .ok (.aload_n 0, 1) := dk_42 (dk_at dksX2_init_2_0 15 rfl rfl)
theorem dX2_init_2_16 : decode cX2_init_2 16 = .ok (.iconst 2, 1) := dk_5 (dk_at dksX2_init_2_0 16 rfl rfl)
theorem dX2_init_2_17 : decode cX2_init_2 17 = .ok (.newarray .long, 2) := dk_188_11 (dk_at dksX2_init_2_0 17 rfl rfl)
theorem dX2_init_2_19 : decode cX2_init_2 19 = .ok (.putfield 21, 3) := dk_181 0 21 (dk_at dksX2_init_2_0 19 rfl rfl)
theorem dX2_init_2_22 : decode cX2_init_2 22 = .ok (.aload_n 0, 1) := dk_42 (dk_at dksX2_init_2_0 22 rfl rfl)
theorem dX2_init_2_23 : decode cX2_init_2 23 = .ok (.iconst (-1), 1) := dk_2 (dk_at dksX2_init_2_0 23 rfl rfl)
theorem dX2_init_2_24 : decode cX2_init_2 24 = .ok (.putfield 25, 3) := dk_181 0 25 (dk_at dksX2_init_2_1 0 rfl rfl)
theorem dX2_init_2_27 : decode cX2_init_2 27 = .ok (.aload_n 0, 1) := dk_42 (dk_at dksX2_init_2_1 3 rfl rfl)
theorem dX2_init_2_28 : decode cX2_init_2 28 = .ok (.iconst (-1), 1) := dk_2 (dk_at dksX2_init_2_1 4 rfl rfl)
theorem dX2_init_2_29 : decode cX2_init_2 29 = .ok (.putfield 29, 3) := dk_181 0 29 (dk_at dksX2_init_2_1 5 rfl rfl)
theorem dX2_init_2_32 : decode cX2_init_2 32 = .ok (.aload_n 0, 1) := dk_42 (dk_at dksX2_init_2_1 8 rfl rfl)
theorem dX2_init_2_33 : decode cX2_init_2 33 = .ok (.iconst (-1), 1) := dk_2 (dk_at dksX2_init_2_1 9 rfl rfl)
theorem dX2_init_2_34 : decode cX2_init_2 34 = .ok (.putfield 32, 3) := dk_181 0 32 (dk_at dksX2_init_2_1 10 rfl rfl)
theorem dX2_init_2_37 : decode cX2_init_2 37 = .ok (.aload_n 0, 1) := dk_42 (dk_at dksX2_init_2_1 13 rfl rfl)
theorem dX2_init_2_38 : decode cX2_init_2 38 = .ok (.iconst (-1), 1) := dk_2 (dk_at dksX2_init_2_1 14 rfl rfl)
theorem dX2_init_2_39 : decode cX2_init_2 39 = .ok (.putfield 35, 3) := dk_181 0 35 (dk_at dksX2_init_2_1 15 rfl rfl)
theorem dX2_init_2_42 : decode cX2_init_2 42 = .ok (.aload_n 0, 1) := dk_42 (dk_at dksX2_init_2_1 18 rfl rfl)
theorem dX2_init_2_43 : decode cX2_init_2 43 = .ok (.iconst (-1), 1) := dk_2 (dk_at dksX2_init_2_1 19 rfl rfl)
theorem dX2_init_2_44 : decode cX2_init_2 44 = .ok (.putfield 38, 3) := dk_181 0 38 (dk_at dksX2_init_2_1 20 rfl rfl)
theorem dX2_init_2_47 : decode cX2_init_2 47 = .ok (.aload_n 0, 1) := dk_42 (dk_at dksX2_init_2_1 23 rfl rfl)
theorem dX2_init_2_48 : decode cX2_init_2 48 = .ok (.aload_n 1, 1) := dk_43 (dk_at dksX2_init_2_2 0 rfl rfl)
theorem dX2_init_2_49 : decode cX2_init_2 49 = .ok (.putfield 41, 3) := dk_181 0 41 (dk_at dksX2_init_2_2 1 rfl rfl)
theorem dX2_init_2_52 : decode cX2_init_2 52 = .ok (.return_, 1) := dk_177 (dk_at dksX2_init_2_2 4 rfl rfl)
abbrev cX2_ends : ByteArray := prog_3_method_4_code
def yX2_ends : MethodName := ⟨RX2, "ends", "()LPetitionDesk$Petition;"⟩
def dkwX2_ends_4 : List UInt8 := [16, 50, 167, 0, 7, 42, 180, 0, 38, 181, 0, 38, 42, 182, 0, 74, 176]
abbrev dktX2_ends_4 : List UInt8 := dkwX2_ends_4 ++ []
def dkwX2_ends_3 : List UInt8 := [160, 0, 8, 16, 100, 167, 0, 7, 42, 180, 0, 35, 181, 0, 35, 42, 42, 180, 0, 38, 2, 160, 0, 8]
abbrev dktX2_ends_3 : List UInt8 := dkwX2_ends_3 ++ dktX2_ends_4
def dkwX2_ends_2 : List UInt8 := [160, 0, 9, 17, 3, 231, 167, 0, 7, 42, 180, 0, 32, 181, 0, 32, 42, 42, 180, 0, 35, 2]
abbrev dktX2_ends_2 : List UInt8 := dkwX2_ends_2 ++ dktX2_ends_3
def dkwX2_ends_1 : List UInt8 := [180, 0, 29, 2, 160, 0, 7, 3, 167, 0, 7, 42, 180, 0, 29, 181, 0, 29, 42, 42, 180, 0, 32, 2]
abbrev dktX2_ends_1 : List UInt8 := dkwX2_ends_1 ++ dktX2_ends_2
def dkwX2_ends_0 : List UInt8 := [42, 42, 180, 0, 25, 2, 160, 0, 7, 4, 167, 0, 7, 42, 180, 0, 25, 181, 0, 25, 42, 42]
abbrev dktX2_ends_0 : List UInt8 := dkwX2_ends_0 ++ dktX2_ends_1
theorem dksX2_ends_0 : cX2_ends.data.toList.drop 0 = dktX2_ends_0 := by decide +kernel
theorem dksX2_ends_1 : cX2_ends.data.toList.drop 22 = dktX2_ends_1 := dk_seg dksX2_ends_0 22 rfl rfl
theorem dksX2_ends_2 : cX2_ends.data.toList.drop 46 = dktX2_ends_2 := dk_seg dksX2_ends_1 24 rfl rfl
theorem dksX2_ends_3 : cX2_ends.data.toList.drop 68 = dktX2_ends_3 := dk_seg dksX2_ends_2 22 rfl rfl
theorem dksX2_ends_4 : cX2_ends.data.toList.drop 92 = dktX2_ends_4 := dk_seg dksX2_ends_3 24 rfl rfl
theorem dX2_ends_0 : decode cX2_ends 0 = .ok (.aload_n 0, 1) := dk_42 (dk_at dksX2_ends_0 0 rfl rfl)
theorem dX2_ends_1 : decode cX2_ends 1 = .ok (.aload_n 0, 1) := dk_42 (dk_at dksX2_ends_0 1 rfl rfl)
theorem dX2_ends_2 : decode cX2_ends 2 = .ok (.getfield 25, 3) := dk_180 0 25 (dk_at dksX2_ends_0 2 rfl rfl)
theorem dX2_ends_5 : decode cX2_ends 5 = .ok (.iconst (-1), 1) := dk_2 (dk_at dksX2_ends_0 5 rfl rfl)
theorem dX2_ends_6 : decode cX2_ends 6 = .ok (.if_icmp .ne 7, 3) := dk_160 0 7 (dk_at dksX2_ends_0 6 rfl rfl)
theorem dX2_ends_9 : decode cX2_ends 9 = .ok (.iconst 1, 1) := dk_4 (dk_at dksX2_ends_0 9 rfl rfl)
theorem dX2_ends_10 : decode cX2_ends 10 = .ok (.goto 7, 3) := dk_167 0 7 (dk_at dksX2_ends_0 10 rfl rfl)
theorem dX2_ends_13 : decode cX2_ends 13 = .ok (.aload_n 0, 1) := dk_42 (dk_at dksX2_ends_0 13 rfl rfl)
theorem dX2_ends_14 : decode cX2_ends 14 = .ok (.getfield 25, 3) := dk_180 0 25 (dk_at dksX2_ends_0 14 rfl rfl)
theorem dX2_ends_17 : decode cX2_ends 17 = .ok (.putfield 25, 3) := dk_181 0 25 (dk_at dksX2_ends_0 17 rfl rfl)
theorem dX2_ends_20 : decode cX2_ends 20 = .ok (.aload_n 0, 1) := dk_42 (dk_at dksX2_ends_0 20 rfl rfl)
theorem dX2_ends_21 : decode cX2_ends 21 = .ok (.aload_n 0, 1) := dk_42 (dk_at dksX2_ends_0 21 rfl rfl)
theorem dX2_ends_22 : decode cX2_ends 22 = .ok (.getfield 29, 3) := dk_180 0 29 (dk_at dksX2_ends_1 0 rfl rfl)
theorem dX2_ends_25 : decode cX2_ends 25 = .ok (.iconst (-1), 1) := dk_2 (dk_at dksX2_ends_1 3 rfl rfl)
theorem dX2_ends_26 : decode cX2_ends 26 = .ok (.if_icmp .ne 7, 3) := dk_160 0 7 (dk_at dksX2_ends_1 4 rfl rfl)
theorem dX2_ends_29 : decode cX2_ends 29 = .ok (.iconst 0, 1) := dk_3 (dk_at dksX2_ends_1 7 rfl rfl)
theorem dX2_ends_30 : decode cX2_ends 30 = .ok (.goto 7, 3) := dk_167 0 7 (dk_at dksX2_ends_1 8 rfl rfl)
theorem dX2_ends_33 : decode cX2_ends 33 = .ok (.aload_n 0, 1) := dk_42 (dk_at dksX2_ends_1 11 rfl rfl)
theorem dX2_ends_34 : decode cX2_ends 34 = .ok (.getfield 29, 3) := dk_180 0 29 (dk_at dksX2_ends_1 12 rfl rfl)
theorem dX2_ends_37 : decode cX2_ends 37 = .ok (.putfield 29, 3) := dk_181 0 29 (dk_at dksX2_ends_1 15 rfl rfl)
theorem dX2_ends_40 : decode cX2_ends 40 = .ok (.aload_n 0, 1) := dk_42 (dk_at dksX2_ends_1 18 rfl rfl)
theorem dX2_ends_41 : decode cX2_ends 41 = .ok (.aload_n 0, 1) := dk_42 (dk_at dksX2_ends_1 19 rfl rfl)
theorem dX2_ends_42 : decode cX2_ends 42 = .ok (.getfield 32, 3) := dk_180 0 32 (dk_at dksX2_ends_1 20 rfl rfl)
theorem dX2_ends_45 : decode cX2_ends 45 = .ok (.iconst (-1), 1) := dk_2 (dk_at dksX2_ends_1 23 rfl rfl)
theorem dX2_ends_46 : decode cX2_ends 46 = .ok (.if_icmp .ne 9, 3) := dk_160 0 9 (dk_at dksX2_ends_2 0 rfl rfl)
theorem dX2_ends_49 : decode cX2_ends 49 = .ok (.sipush 999, 3) := dk_17 3 231 (dk_at dksX2_ends_2 3 rfl rfl)
theorem dX2_ends_52 : decode cX2_ends 52 = .ok (.goto 7, 3) := dk_167 0 7 (dk_at dksX2_ends_2 6 rfl rfl)
theorem dX2_ends_55 : decode cX2_ends 55 = .ok (.aload_n 0, 1) := dk_42 (dk_at dksX2_ends_2 9 rfl rfl)
theorem dX2_ends_56 : decode cX2_ends 56 = .ok (.getfield 32, 3) := dk_180 0 32 (dk_at dksX2_ends_2 10 rfl rfl)
theorem dX2_ends_59 : decode cX2_ends 59 = .ok (.putfield 32, 3) := dk_181 0 32 (dk_at dksX2_ends_2 13 rfl rfl)
theorem dX2_ends_62 : decode cX2_ends 62 = .ok (.aload_n 0, 1) := dk_42 (dk_at dksX2_ends_2 16 rfl rfl)
theorem dX2_ends_63 : decode cX2_ends 63 = .ok (.aload_n 0, 1) := dk_42 (dk_at dksX2_ends_2 17 rfl rfl)
theorem dX2_ends_64 : decode cX2_ends 64 = .ok (.getfield 35, 3) := dk_180 0 35 (dk_at dksX2_ends_2 18 rfl rfl)
theorem dX2_ends_67 : decode cX2_ends 67 = .ok (.iconst (-1), 1) := dk_2 (dk_at dksX2_ends_2 21 rfl rfl)
theorem dX2_ends_68 : decode cX2_ends 68 = .ok (.if_icmp .ne 8, 3) := dk_160 0 8 (dk_at dksX2_ends_3 0 rfl rfl)
theorem dX2_ends_71 : decode cX2_ends 71 = .ok (.bipush 100, 2) := dk_16 100 (dk_at dksX2_ends_3 3 rfl rfl)
theorem dX2_ends_73 : decode cX2_ends 73 = .ok (.goto 7, 3) := dk_167 0 7 (dk_at dksX2_ends_3 5 rfl rfl)
theorem dX2_ends_76 : decode cX2_ends 76 = .ok (.aload_n 0, 1) := dk_42 (dk_at dksX2_ends_3 8 rfl rfl)
theorem dX2_ends_77 : decode cX2_ends 77 = .ok (.getfield 35, 3) := dk_180 0 35 (dk_at dksX2_ends_3 9 rfl rfl)
theorem dX2_ends_80 : decode cX2_ends 80 = .ok (.putfield 35, 3) := dk_181 0 35 (dk_at dksX2_ends_3 12 rfl rfl)
theorem dX2_ends_83 : decode cX2_ends 83 = .ok (.aload_n 0, 1) := dk_42 (dk_at dksX2_ends_3 15 rfl rfl)
theorem dX2_ends_84 : decode cX2_ends 84 = .ok (.aload_n 0, 1) := dk_42 (dk_at dksX2_ends_3 16 rfl rfl)
theorem dX2_ends_85 : decode cX2_ends 85 = .ok (.getfield 38, 3) := dk_180 0 38 (dk_at dksX2_ends_3 17 rfl rfl)
theorem dX2_ends_88 : decode cX2_ends 88 = .ok (.iconst (-1), 1) := dk_2 (dk_at dksX2_ends_3 20 rfl rfl)
theorem dX2_ends_89 : decode cX2_ends 89 = .ok (.if_icmp .ne 8, 3) := dk_160 0 8 (dk_at dksX2_ends_3 21 rfl rfl)
theorem dX2_ends_92 : decode cX2_ends 92 = .ok (.bipush 50, 2) := dk_16 50 (dk_at dksX2_ends_4 0 rfl rfl)
theorem dX2_ends_94 : decode cX2_ends 94 = .ok (.goto 7, 3) := dk_167 0 7 (dk_at dksX2_ends_4 2 rfl rfl)
theorem dX2_ends_97 : decode cX2_ends 97 = .ok (.aload_n 0, 1) := dk_42 (dk_at dksX2_ends_4 5 rfl rfl)
theorem dX2_ends_98 : decode cX2_ends 98 = .ok (.getfield 38, 3) := dk_180 0 38 (dk_at dksX2_ends_4 6 rfl rfl)
theorem dX2_ends_101 : decode cX2_ends 101 = .ok (.putfield 38, 3) := dk_181 0 38 (dk_at dksX2_ends_4 9 rfl rfl)
theorem dX2_ends_104 : decode cX2_ends 104 = .ok (.aload_n 0, 1) := dk_42 (dk_at dksX2_ends_4 12 rfl rfl)
theorem dX2_ends_105 : decode cX2_ends 105 = .ok (.invokevirtual 74, 3) := dk_182 0 74 (dk_at dksX2_ends_4 13 rfl rfl)
theorem dX2_ends_108 : decode cX2_ends 108 = .ok (.areturn, 1) := dk_176 (dk_at dksX2_ends_4 16 rfl rfl)
abbrev cX2_judges : ByteArray := prog_3_method_8_code
def yX2_judges : MethodName := ⟨RX2, "judges", "()LPetitionDesk$Petition;"⟩
def dkwX2_judges_6 : List UInt8 := [167, 255, 123, 42, 182, 0, 121, 42, 182, 0, 124, 42, 176]
abbrev dktX2_judges_6 : List UInt8 := dkwX2_judges_6 ++ []
def dkwX2_judges_5 : List UInt8 := [185, 0, 96, 2, 0, 192, 0, 100, 182, 0, 115, 181, 0, 118, 132, 3, 1, 167, 255, 161, 132, 1, 1]
abbrev dktX2_judges_5 : List UInt8 := dkwX2_judges_5 ++ dktX2_judges_6
def dkwX2_judges_4 : List UInt8 := [192, 0, 100, 182, 0, 108, 181, 0, 112, 44, 29, 185, 0, 96, 2, 0, 192, 0, 100, 42, 44, 29]
abbrev dktX2_judges_4 : List UInt8 := dkwX2_judges_4 ++ dktX2_judges_5
def dkwX2_judges_3 : List UInt8 := [29, 181, 0, 105, 44, 29, 185, 0, 96, 2, 0, 192, 0, 100, 42, 44, 29, 185, 0, 96, 2, 0]
abbrev dktX2_judges_3 : List UInt8 := dkwX2_judges_3 ++ dktX2_judges_4
def dkwX2_judges_2 : List UInt8 := [44, 29, 185, 0, 96, 2, 0, 192, 0, 100, 27, 181, 0, 102, 44, 29, 185, 0, 96, 2, 0, 192, 0, 100]
abbrev dktX2_judges_2 : List UInt8 := dkwX2_judges_2 ++ dktX2_judges_3
def dkwX2_judges_1 : List UInt8 := [185, 0, 96, 2, 0, 192, 0, 60, 180, 0, 89, 77, 3, 62, 29, 44, 185, 0, 92, 1, 0, 162, 0, 91]
abbrev dktX2_judges_1 : List UInt8 := dkwX2_judges_1 ++ dktX2_judges_2
def dkwX2_judges_0 : List UInt8 := [3, 60, 27, 42, 180, 0, 17, 185, 0, 92, 1, 0, 162, 0, 126, 42, 180, 0, 17, 27]
abbrev dktX2_judges_0 : List UInt8 := dkwX2_judges_0 ++ dktX2_judges_1
theorem dksX2_judges_0 : cX2_judges.data.toList.drop 0 = dktX2_judges_0 := by decide +kernel
theorem dksX2_judges_1 : cX2_judges.data.toList.drop 20 = dktX2_judges_1 := dk_seg dksX2_judges_0 20 rfl rfl
theorem dksX2_judges_2 : cX2_judges.data.toList.drop 44 = dktX2_judges_2 := dk_seg dksX2_judges_1 24 rfl rfl
theorem dksX2_judges_3 : cX2_judges.data.toList.drop 68 = dktX2_judges_3 := dk_seg dksX2_judges_2 24 rfl rfl
theorem dksX2_judges_4 : cX2_judges.data.toList.drop 90 = dktX2_judges_4 := dk_seg dksX2_judges_3 22 rfl rfl
theorem dksX2_judges_5 : cX2_judges.data.toList.drop 112 = dktX2_judges_5 := dk_seg dksX2_judges_4 22 rfl rfl
theorem dksX2_judges_6 : cX2_judges.data.toList.drop 135 = dktX2_judges_6 := dk_seg dksX2_judges_5 23 rfl rfl
theorem dX2_judges_0 : decode cX2_judges 0 = .ok (.iconst 0, 1) := dk_3 (dk_at dksX2_judges_0 0 rfl rfl)
theorem dX2_judges_1 : decode cX2_judges 1 = .ok (.istore_n 1, 1) := dk_60 (dk_at dksX2_judges_0 1 rfl rfl)
theorem dX2_judges_2 : decode cX2_judges 2 = .ok (.iload_n 1, 1) := dk_27 (dk_at dksX2_judges_0 2 rfl rfl)
theorem dX2_judges_3 : decode cX2_judges 3 = .ok (.aload_n 0, 1) := dk_42 (dk_at dksX2_judges_0 3 rfl rfl)
theorem dX2_judges_4 : decode cX2_judges 4 = .ok (.getfield 17, 3) := dk_180 0 17 (dk_at dksX2_judges_0 4 rfl rfl)
theorem dX2_judges_7 : decode cX2_judges 7 = .ok (.invokeinterface 92 1, 5) := by decide +kernel
theorem dX2_judges_12 : decode cX2_judges 12 = .ok (.if_icmp .ge 126, 3) := dk_162 0 126 (dk_at dksX2_judges_0 12 rfl rfl)
theorem dX2_judges_15 : decode cX2_judges 15 = .ok (.aload_n 0, 1) := dk_42 (dk_at dksX2_judges_0 15 rfl rfl)
theorem dX2_judges_16 : decode cX2_judges 16 = .ok (.getfield 17, 3) := dk_180 0 17 (dk_at dksX2_judges_0 16 rfl rfl)
theorem dX2_judges_19 : decode cX2_judges 19 = .ok (.iload_n 1, 1) := dk_27 (dk_at dksX2_judges_0 19 rfl rfl)
theorem dX2_judges_20 : decode cX2_judges 20 = .ok (.invokeinterface 96 2, 5) := by decide +kernel
theorem dX2_judges_25 : decode cX2_judges 25 = .ok (.checkcast 60, 3) := dk_192 0 60 (dk_at dksX2_judges_1 5 rfl rfl)
theorem dX2_judges_28 : decode cX2_judges 28 = .ok (.getfield 89, 3) := dk_180 0 89 (dk_at dksX2_judges_1 8 rfl rfl)
theorem dX2_judges_31 : decode cX2_judges 31 = .ok (.astore_n 2, 1) := dk_77 (dk_at dksX2_judges_1 11 rfl rfl)
theorem dX2_judges_32 : decode cX2_judges 32 = .ok (.iconst 0, 1) := dk_3 (dk_at dksX2_judges_1 12 rfl rfl)
theorem dX2_judges_33 : decode cX2_judges 33 = .ok (.istore_n 3, 1) := dk_62 (dk_at dksX2_judges_1 13 rfl rfl)
theorem dX2_judges_34 : decode cX2_judges 34 = .ok (.iload_n 3, 1) := dk_29 (dk_at dksX2_judges_1 14 rfl rfl)
theorem dX2_judges_35 : decode cX2_judges 35 = .ok (.aload_n 2, 1) := dk_44 (dk_at dksX2_judges_1 15 rfl rfl)
theorem dX2_judges_36 : decode cX2_judges 36 = .ok (.invokeinterface 92 1, 5) := by decide +kernel
theorem dX2_judges_41 : decode cX2_judges 41 = .ok (.if_icmp .ge 91, 3) := dk_162 0 91 (dk_at dksX2_judges_1 21 rfl rfl)
theorem dX2_judges_44 : decode cX2_judges 44 = .ok (.aload_n 2, 1) := dk_44 (dk_at dksX2_judges_2 0 rfl rfl)
theorem dX2_judges_45 : decode cX2_judges 45 = .ok (.iload_n 3, 1) := dk_29 (dk_at dksX2_judges_2 1 rfl rfl)
theorem dX2_judges_46 : decode cX2_judges 46 = .ok (.invokeinterface 96 2, 5) := by decide +kernel
theorem dX2_judges_51 : decode cX2_judges 51 = .ok (.checkcast 100, 3) := dk_192 0 100 (dk_at dksX2_judges_2 7 rfl rfl)
theorem dX2_judges_54 : decode cX2_judges 54 = .ok (.iload_n 1, 1) := dk_27 (dk_at dksX2_judges_2 10 rfl rfl)
theorem dX2_judges_55 : decode cX2_judges 55 = .ok (.putfield 102, 3) := dk_181 0 102 (dk_at dksX2_judges_2 11 rfl rfl)
theorem dX2_judges_58 : decode cX2_judges 58 = .ok (.aload_n 2, 1) := dk_44 (dk_at dksX2_judges_2 14 rfl rfl)
theorem dX2_judges_59 : decode cX2_judges 59 = .ok (.iload_n 3, 1) := dk_29 (dk_at dksX2_judges_2 15 rfl rfl)
theorem dX2_judges_60 : decode cX2_judges 60 = .ok (.invokeinterface 96 2, 5) := by decide +kernel
theorem dX2_judges_65 : decode cX2_judges 65 = .ok (.checkcast 100, 3) := dk_192 0 100 (dk_at dksX2_judges_2 21 rfl rfl)
theorem dX2_judges_68 : decode cX2_judges 68 = .ok (.iload_n 3, 1) := dk_29 (dk_at dksX2_judges_3 0 rfl rfl)
theorem dX2_judges_69 : decode cX2_judges 69 = .ok (.putfield 105, 3) := dk_181 0 105 (dk_at dksX2_judges_3 1 rfl rfl)
theorem dX2_judges_72 : decode cX2_judges 72 = .ok (.aload_n 2, 1) := dk_44 (dk_at dksX2_judges_3 4 rfl rfl)
theorem dX2_judges_73 : decode cX2_judges 73 = .ok (.iload_n 3, 1) := dk_29 (dk_at dksX2_judges_3 5 rfl rfl)
theorem dX2_judges_74 : decode cX2_judges 74 = .ok (.invokeinterface 96 2, 5) := by decide +kernel
theorem dX2_judges_79 : decode cX2_judges 79 = .ok (.checkcast 100, 3) := dk_192 0 100 (dk_at dksX2_judges_3 11 rfl rfl)
theorem dX2_judges_82 : decode cX2_judges 82 = .ok (.aload_n 0, 1) := dk_42 (dk_at dksX2_judges_3 14 rfl rfl)
theorem dX2_judges_83 : decode cX2_judges 83 = .ok (.aload_n 2, 1) := dk_44 (dk_at dksX2_judges_3 15 rfl rfl)
theorem dX2_judges_84 : decode cX2_judges 84 = .ok (.iload_n 3, 1) := dk_29 (dk_at dksX2_judges_3 16 rfl rfl)
theorem dX2_judges_85 : decode cX2_judges 85 = .ok (.invokeinterface 96 2, 5) := by decide +kernel
theorem dX2_judges_90 : decode cX2_judges 90 = .ok (.checkcast 100, 3) := dk_192 0 100 (dk_at dksX2_judges_4 0 rfl rfl)
theorem dX2_judges_93 : decode cX2_judges 93 = .ok (.invokevirtual 108, 3) := dk_182 0 108 (dk_at dksX2_judges_4 3 rfl rfl)
theorem dX2_judges_96 : decode cX2_judges 96 = .ok (.putfield 112, 3) := dk_181 0 112 (dk_at dksX2_judges_4 6 rfl rfl)
theorem dX2_judges_99 : decode cX2_judges 99 = .ok (.aload_n 2, 1) := dk_44 (dk_at dksX2_judges_4 9 rfl rfl)
theorem dX2_judges_100 : decode cX2_judges 100 = .ok (.iload_n 3, 1) := dk_29 (dk_at dksX2_judges_4 10 rfl rfl)
theorem dX2_judges_101 : decode cX2_judges 101 = .ok (.invokeinterface 96 2, 5) := by decide +kernel
theorem dX2_judges_106 : decode cX2_judges 106 = .ok (.checkcast 100, 3) := dk_192 0 100 (dk_at dksX2_judges_4 16 rfl rfl)
theorem dX2_judges_109 : decode cX2_judges 109 = .ok (.aload_n 0, 1) := dk_42 (dk_at dksX2_judges_4 19 rfl rfl)
theorem dX2_judges_110 : decode cX2_judges 110 = .ok (.aload_n 2, 1) := dk_44 (dk_at dksX2_judges_4 20 rfl rfl)
theorem dX2_judges_111 : decode cX2_judges 111 = .ok (.iload_n 3, 1) := dk_29 (dk_at dksX2_judges_4 21 rfl rfl)
theorem dX2_judges_112 : decode cX2_judges 112 = .ok (.invokeinterface 96 2, 5) := by decide +kernel
theorem dX2_judges_117 : decode cX2_judges 117 = .ok (.checkcast 100, 3) := dk_192 0 100 (dk_at dksX2_judges_5 5 rfl rfl)
theorem dX2_judges_120 : decode cX2_judges 120 = .ok (.invokevirtual 115, 3) := dk_182 0 115 (dk_at dksX2_judges_5 8 rfl rfl)
theorem dX2_judges_123 : decode cX2_judges 123 = .ok (.putfield 118, 3) := dk_181 0 118 (dk_at dksX2_judges_5 11 rfl rfl)
theorem dX2_judges_126 : decode cX2_judges 126 = .ok (.iinc 3 1, 3) := dk_132 3 1 (dk_at dksX2_judges_5 14 rfl rfl)
theorem dX2_judges_129 : decode cX2_judges 129 = .ok (.goto (-95), 3) := dk_167 255 161 (dk_at dksX2_judges_5 17 rfl rfl)
theorem dX2_judges_132 : decode cX2_judges 132 = .ok (.iinc 1 1, 3) := dk_132 1 1 (dk_at dksX2_judges_5 20 rfl rfl)
theorem dX2_judges_135 : decode cX2_judges 135 = .ok (.goto (-133), 3) := dk_167 255 123 (dk_at dksX2_judges_6 0 rfl rfl)
theorem dX2_judges_138 : decode cX2_judges 138 = .ok (.aload_n 0, 1) := dk_42 (dk_at dksX2_judges_6 3 rfl rfl)
theorem dX2_judges_139 : decode cX2_judges 139 = .ok (.invokevirtual 121, 3) := dk_182 0 121 (dk_at dksX2_judges_6 4 rfl rfl)
theorem dX2_judges_142 : decode cX2_judges 142 = .ok (.aload_n 0, 1) := dk_42 (dk_at dksX2_judges_6 7 rfl rfl)
theorem dX2_judges_143 : decode cX2_judges 143 = .ok (.invokevirtual 124, 3) := dk_182 0 124 (dk_at dksX2_judges_6 8 rfl rfl)
theorem dX2_judges_146 : decode cX2_judges 146 = .ok (.aload_n 0, 1) := dk_42 (dk_at dksX2_judges_6 11 rfl rfl)
theorem dX2_judges_147 : decode cX2_judges 147 = .ok (.areturn, 1) := dk_176 (dk_at dksX2_judges_6 12 rfl rfl)
abbrev cX2_aheadOf : ByteArray := prog_3_method_9_code
def yX2_aheadOf : MethodName := ⟨RX2, "aheadOf", "(LPetitionDesk$Line;)I"⟩
def dkwX2_aheadOf_2 : List UInt8 := [180, 0, 128, 43, 180, 0, 128, 166, 0, 7, 4, 167, 0, 4, 3, 96, 61, 167, 255, 200, 28, 172]
abbrev dktX2_aheadOf_2 : List UInt8 := dkwX2_aheadOf_2 ++ []
def dkwX2_aheadOf_1 : List UInt8 := [192, 0, 100, 58, 4, 25, 4, 43, 166, 0, 5, 28, 172, 28, 25, 4, 180, 0, 128, 198, 0, 19, 25, 4]
abbrev dktX2_aheadOf_1 : List UInt8 := dkwX2_aheadOf_1 ++ dktX2_aheadOf_2
def dkwX2_aheadOf_0 : List UInt8 := [3, 61, 42, 182, 0, 127, 78, 45, 185, 0, 50, 1, 0, 153, 0, 53, 45, 185, 0, 56, 1, 0]
abbrev dktX2_aheadOf_0 : List UInt8 := dkwX2_aheadOf_0 ++ dktX2_aheadOf_1
theorem dksX2_aheadOf_0 : cX2_aheadOf.data.toList.drop 0 = dktX2_aheadOf_0 := by decide +kernel
theorem dksX2_aheadOf_1 : cX2_aheadOf.data.toList.drop 22 = dktX2_aheadOf_1 := dk_seg dksX2_aheadOf_0 22 rfl rfl
theorem dksX2_aheadOf_2 : cX2_aheadOf.data.toList.drop 46 = dktX2_aheadOf_2 := dk_seg dksX2_aheadOf_1 24 rfl rfl
theorem dX2_aheadOf_0 : decode cX2_aheadOf 0 = .ok (.iconst 0, 1) := dk_3 (dk_at dksX2_aheadOf_0 0 rfl rfl)
theorem dX2_aheadOf_1 : decode cX2_aheadOf 1 = .ok (.istore_n 2, 1) := dk_61 (dk_at dksX2_aheadOf_0 1 rfl rfl)
theorem dX2_aheadOf_2 : decode cX2_aheadOf 2 = .ok (.aload_n 0, 1) := dk_42 (dk_at dksX2_aheadOf_0 2 rfl rfl)
theorem dX2_aheadOf_3 : decode cX2_aheadOf 3 = .ok (.invokevirtual 127, 3) := dk_182 0 127 (dk_at dksX2_aheadOf_0 3 rfl rfl)
theorem dX2_aheadOf_6 : decode cX2_aheadOf 6 = .ok (.astore_n 3, 1) := dk_78 (dk_at dksX2_aheadOf_0 6 rfl rfl)
theorem dX2_aheadOf_7 : decode cX2_aheadOf 7 = .ok (.aload_n 3, 1) := dk_45 (dk_at dksX2_aheadOf_0 7 rfl rfl)
theorem dX2_aheadOf_8 : decode cX2_aheadOf 8 = .ok (.invokeinterface 50 1, 5) := by decide +kernel
theorem dX2_aheadOf_13 : decode cX2_aheadOf 13 = .ok (.ifCond .eq 53, 3) := dk_153 0 53 (dk_at dksX2_aheadOf_0 13 rfl rfl)
theorem dX2_aheadOf_16 : decode cX2_aheadOf 16 = .ok (.aload_n 3, 1) := dk_45 (dk_at dksX2_aheadOf_0 16 rfl rfl)
theorem dX2_aheadOf_17 : decode cX2_aheadOf 17 = .ok (.invokeinterface 56 1, 5) := by decide +kernel
theorem dX2_aheadOf_22 : decode cX2_aheadOf 22 = .ok (.checkcast 100, 3) := dk_192 0 100 (dk_at dksX2_aheadOf_1 0 rfl rfl)
theorem dX2_aheadOf_25 : decode cX2_aheadOf 25 = .ok (.astore 4, 2) := dk_58 4 (dk_at dksX2_aheadOf_1 3 rfl rfl)
theorem dX2_aheadOf_27 : decode cX2_aheadOf 27 = .ok (.aload 4, 2) := dk_25 4 (dk_at dksX2_aheadOf_1 5 rfl rfl)
theorem dX2_aheadOf_29 : decode cX2_aheadOf 29 = .ok (.aload_n 1, 1) := dk_43 (dk_at dksX2_aheadOf_1 7 rfl rfl)
theorem dX2_aheadOf_30 : decode cX2_aheadOf 30 = .ok (.if_acmp .ne 5, 3) := dk_166 0 5 (dk_at dksX2_aheadOf_1 8 rfl rfl)
theorem dX2_aheadOf_33 : decode cX2_aheadOf 33 = .ok (.iload_n 2, 1) := dk_28 (dk_at dksX2_aheadOf_1 11 rfl rfl)
theorem dX2_aheadOf_34 : decode cX2_aheadOf 34 = .ok (.ireturn, 1) := dk_172 (dk_at dksX2_aheadOf_1 12 rfl rfl)
theorem dX2_aheadOf_35 : decode cX2_aheadOf 35 = .ok (.iload_n 2, 1) := dk_28 (dk_at dksX2_aheadOf_1 13 rfl rfl)
theorem dX2_aheadOf_36 : decode cX2_aheadOf 36 = .ok (.aload 4, 2) := dk_25 4 (dk_at dksX2_aheadOf_1 14 rfl rfl)
theorem dX2_aheadOf_38 : decode cX2_aheadOf 38 = .ok (.getfield 128, 3) := dk_180 0 128 (dk_at dksX2_aheadOf_1 16 rfl rfl)
theorem dX2_aheadOf_41 : decode cX2_aheadOf 41 = .ok (.ifnull 19, 3) := dk_198 0 19 (dk_at dksX2_aheadOf_1 19 rfl rfl)
theorem dX2_aheadOf_44 : decode cX2_aheadOf 44 = .ok (.aload 4, 2) := dk_25 4 (dk_at dksX2_aheadOf_1 22 rfl rfl)
theorem dX2_aheadOf_46 : decode cX2_aheadOf 46 = .ok (.getfield 128, 3) := dk_180 0 128 (dk_at dksX2_aheadOf_2 0 rfl rfl)
theorem dX2_aheadOf_49 : decode cX2_aheadOf 49 = .ok (.aload_n 1, 1) := dk_43 (dk_at dksX2_aheadOf_2 3 rfl rfl)
theorem dX2_aheadOf_50 : decode cX2_aheadOf 50 = .ok (.getfield 128, 3) := dk_180 0 128 (dk_at dksX2_aheadOf_2 4 rfl rfl)
theorem dX2_aheadOf_53 : decode cX2_aheadOf 53 = .ok (.if_acmp .ne 7, 3) := dk_166 0 7 (dk_at dksX2_aheadOf_2 7 rfl rfl)
theorem dX2_aheadOf_56 : decode cX2_aheadOf 56 = .ok (.iconst 1, 1) := dk_4 (dk_at dksX2_aheadOf_2 10 rfl rfl)
theorem dX2_aheadOf_57 : decode cX2_aheadOf 57 = .ok (.goto 4, 3) := dk_167 0 4 (dk_at dksX2_aheadOf_2 11 rfl rfl)
theorem dX2_aheadOf_60 : decode cX2_aheadOf 60 = .ok (.iconst 0, 1) := dk_3 (dk_at dksX2_aheadOf_2 14 rfl rfl)
theorem dX2_aheadOf_61 : decode cX2_aheadOf 61 = .ok (.iadd, 1) := dk_96 (dk_at dksX2_aheadOf_2 15 rfl rfl)
theorem dX2_aheadOf_62 : decode cX2_aheadOf 62 = .ok (.istore_n 2, 1) := dk_61 (dk_at dksX2_aheadOf_2 16 rfl rfl)
theorem dX2_aheadOf_63 : decode cX2_aheadOf 63 = .ok (.goto (-56), 3) := dk_167 255 200 (dk_at dksX2_aheadOf_2 17 rfl rfl)
theorem dX2_aheadOf_66 : decode cX2_aheadOf 66 = .ok (.iload_n 2, 1) := dk_28 (dk_at dksX2_aheadOf_2 20 rfl rfl)
theorem dX2_aheadOf_67 : decode cX2_aheadOf 67 = .ok (.ireturn, 1) := dk_172 (dk_at dksX2_aheadOf_2 21 rfl rfl)
abbrev cX2_iterator : ByteArray := prog_3_method_5_code
def yX2_iterator : MethodName := ⟨RX2, "iterator", "()Ljava/util/Iterator;"⟩
def dkwX2_iterator_0 : List UInt8 := [187, 0, 78, 89, 42, 183, 0, 80, 176]
abbrev dktX2_iterator_0 : List UInt8 := dkwX2_iterator_0 ++ []
theorem dksX2_iterator_0 : cX2_iterator.data.toList.drop 0 = dktX2_iterator_0 := by decide +kernel
theorem dX2_iterator_0 : decode cX2_iterator 0 = .ok (.new 78, 3) := dk_187 0 78 (dk_at dksX2_iterator_0 0 rfl rfl)
theorem dX2_iterator_3 : decode cX2_iterator 3 = .ok (.dup, 1) := dk_89 (dk_at dksX2_iterator_0 3 rfl rfl)
theorem dX2_iterator_4 : decode cX2_iterator 4 = .ok (.aload_n 0, 1) := dk_42 (dk_at dksX2_iterator_0 4 rfl rfl)
theorem dX2_iterator_5 : decode cX2_iterator 5 = .ok (.invokespecial 80, 3) := dk_183 0 80 (dk_at dksX2_iterator_0 5 rfl rfl)
theorem dX2_iterator_8 : decode cX2_iterator 8 = .ok (.areturn, 1) := dk_176 (dk_at dksX2_iterator_0 8 rfl rfl)
abbrev cX2_firstOf : ByteArray := prog_3_method_10_code
def yX2_firstOf : MethodName := ⟨RX2, "firstOf", "(LPetitionDesk$Line;)I"⟩
def dkwX2_firstOf_3 : List UInt8 := [172]
abbrev dktX2_firstOf_3 : List UInt8 := dkwX2_firstOf_3 ++ []
def dkwX2_firstOf_2 : List UInt8 := [180, 0, 70, 198, 0, 20, 42, 180, 0, 70, 43, 185, 0, 142, 2, 0, 154, 0, 7, 6, 167, 0, 4, 3]
abbrev dktX2_firstOf_2 : List UInt8 := dkwX2_firstOf_2 ++ dktX2_firstOf_3
def dkwX2_firstOf_1 : List UInt8 := [184, 0, 135, 153, 0, 17, 43, 180, 0, 128, 180, 0, 139, 43, 180, 0, 132, 164, 0, 5, 5, 172, 42]
abbrev dktX2_firstOf_1 : List UInt8 := dkwX2_firstOf_1 ++ dktX2_firstOf_2
def dkwX2_firstOf_0 : List UInt8 := [43, 180, 0, 128, 199, 0, 5, 4, 172, 43, 180, 0, 132, 133, 42, 180, 0, 29, 133, 42, 180, 0, 32, 133]
abbrev dktX2_firstOf_0 : List UInt8 := dkwX2_firstOf_0 ++ dktX2_firstOf_1
theorem dksX2_firstOf_0 : cX2_firstOf.data.toList.drop 0 = dktX2_firstOf_0 := by decide +kernel
theorem dksX2_firstOf_1 : cX2_firstOf.data.toList.drop 24 = dktX2_firstOf_1 := dk_seg dksX2_firstOf_0 24 rfl rfl
theorem dksX2_firstOf_2 : cX2_firstOf.data.toList.drop 47 = dktX2_firstOf_2 := dk_seg dksX2_firstOf_1 23 rfl rfl
theorem dksX2_firstOf_3 : cX2_firstOf.data.toList.drop 71 = dktX2_firstOf_3 := dk_seg dksX2_firstOf_2 24 rfl rfl
theorem dX2_firstOf_0 : decode cX2_firstOf 0 = .ok (.aload_n 1, 1) := dk_43 (dk_at dksX2_firstOf_0 0 rfl rfl)
theorem dX2_firstOf_1 : decode cX2_firstOf 1 = .ok (.getfield 128, 3) := dk_180 0 128 (dk_at dksX2_firstOf_0 1 rfl rfl)
theorem dX2_firstOf_4 : decode cX2_firstOf 4 = .ok (.ifnonnull 5, 3) := dk_199 0 5 (dk_at dksX2_firstOf_0 4 rfl rfl)
theorem dX2_firstOf_7 : decode cX2_firstOf 7 = .ok (.iconst 1, 1) := dk_4 (dk_at dksX2_firstOf_0 7 rfl rfl)
theorem dX2_firstOf_8 : decode cX2_firstOf 8 = .ok (.ireturn, 1) := dk_172 (dk_at dksX2_firstOf_0 8 rfl rfl)
theorem dX2_firstOf_9 : decode cX2_firstOf 9 = .ok (.aload_n 1, 1) := dk_43 (dk_at dksX2_firstOf_0 9 rfl rfl)
theorem dX2_firstOf_10 : decode cX2_firstOf 10 = .ok (.getfield 132, 3) := dk_180 0 132 (dk_at dksX2_firstOf_0 10 rfl rfl)
theorem dX2_firstOf_13 : decode cX2_firstOf 13 = .ok (.i2l, 1) := dk_133 (dk_at dksX2_firstOf_0 13 rfl rfl)
theorem dX2_firstOf_14 : decode cX2_firstOf 14 = .ok (.aload_n 0, 1) := dk_42 (dk_at dksX2_firstOf_0 14 rfl rfl)
theorem dX2_firstOf_15 : decode cX2_firstOf 15 = .ok (.getfield 29, 3) := dk_180 0 29 (dk_at dksX2_firstOf_0 15 rfl rfl)
theorem dX2_firstOf_18 : decode cX2_firstOf 18 = .ok (.i2l, 1) := dk_133 (dk_at dksX2_firstOf_0 18 rfl rfl)
theorem dX2_firstOf_19 : decode cX2_firstOf 19 = .ok (.aload_n 0, 1) := dk_42 (dk_at dksX2_firstOf_0 19 rfl rfl)
theorem dX2_firstOf_20 : decode cX2_firstOf 20 = .ok (.getfield 32, 3) := dk_180 0 32 (dk_at dksX2_firstOf_0 20 rfl rfl)
theorem dX2_firstOf_23 : decode cX2_firstOf 23 = .ok (.i2l, 1) := dk_133 (dk_at dksX2_firstOf_0 23 rfl rfl)
theorem dX2_firstOf_24 : decode cX2_firstOf 24 = .ok (.invokestatic 135, 3) := dk_184 0 135 (dk_at dksX2_firstOf_1 0 rfl rfl)
theorem dX2_firstOf_27 : decode cX2_firstOf 27 = .ok (.ifCond .eq 17, 3) := dk_153 0 17 (dk_at dksX2_firstOf_1 3 rfl rfl)
theorem dX2_firstOf_30 : decode cX2_firstOf 30 = .ok (.aload_n 1, 1) := dk_43 (dk_at dksX2_firstOf_1 6 rfl rfl)
theorem dX2_firstOf_31 : decode cX2_firstOf 31 = .ok (.getfield 128, 3) := dk_180 0 128 (dk_at dksX2_firstOf_1 7 rfl rfl)
theorem dX2_firstOf_34 : decode cX2_firstOf 34 = .ok (.getfield 139, 3) := dk_180 0 139 (dk_at dksX2_firstOf_1 10 rfl rfl)
theorem dX2_firstOf_37 : decode cX2_firstOf 37 = .ok (.aload_n 1, 1) := dk_43 (dk_at dksX2_firstOf_1 13 rfl rfl)
theorem dX2_firstOf_38 : decode cX2_firstOf 38 = .ok (.getfield 132, 3) := dk_180 0 132 (dk_at dksX2_firstOf_1 14 rfl rfl)
theorem dX2_firstOf_41 : decode cX2_firstOf 41 = .ok (.if_icmp .le 5, 3) := dk_164 0 5 (dk_at dksX2_firstOf_1 17 rfl rfl)
theorem dX2_firstOf_44 : decode cX2_firstOf 44 = .ok (.iconst 2, 1) := dk_5 (dk_at dksX2_firstOf_1 20 rfl rfl)
theorem dX2_firstOf_45 : decode cX2_firstOf 45 = .ok (.ireturn, 1) := dk_172 (dk_at dksX2_firstOf_1 21 rfl rfl)
theorem dX2_firstOf_46 : decode cX2_firstOf 46 = .ok (.aload_n 0, 1) := dk_42 (dk_at dksX2_firstOf_1 22 rfl rfl)
theorem dX2_firstOf_47 : decode cX2_firstOf 47 = .ok (.getfield 70, 3) := dk_180 0 70 (dk_at dksX2_firstOf_2 0 rfl rfl)
theorem dX2_firstOf_50 : decode cX2_firstOf 50 = .ok (.ifnull 20, 3) := dk_198 0 20 (dk_at dksX2_firstOf_2 3 rfl rfl)
theorem dX2_firstOf_53 : decode cX2_firstOf 53 = .ok (.aload_n 0, 1) := dk_42 (dk_at dksX2_firstOf_2 6 rfl rfl)
theorem dX2_firstOf_54 : decode cX2_firstOf 54 = .ok (.getfield 70, 3) := dk_180 0 70 (dk_at dksX2_firstOf_2 7 rfl rfl)
theorem dX2_firstOf_57 : decode cX2_firstOf 57 = .ok (.aload_n 1, 1) := dk_43 (dk_at dksX2_firstOf_2 10 rfl rfl)
theorem dX2_firstOf_58 : decode cX2_firstOf 58 = .ok (.invokeinterface 142 2, 5) := by decide +kernel
theorem dX2_firstOf_63 : decode cX2_firstOf 63 = .ok (.ifCond .ne 7, 3) := dk_154 0 7 (dk_at dksX2_firstOf_2 16 rfl rfl)
theorem dX2_firstOf_66 : decode cX2_firstOf 66 = .ok (.iconst 3, 1) := dk_6 (dk_at dksX2_firstOf_2 19 rfl rfl)
theorem dX2_firstOf_67 : decode cX2_firstOf 67 = .ok (.goto 4, 3) := dk_167 0 4 (dk_at dksX2_firstOf_2 20 rfl rfl)
theorem dX2_firstOf_70 : decode cX2_firstOf 70 = .ok (.iconst 0, 1) := dk_3 (dk_at dksX2_firstOf_2 23 rfl rfl)
theorem dX2_firstOf_71 : decode cX2_firstOf 71 = .ok (.ireturn, 1) := dk_172 (dk_at dksX2_firstOf_3 0 rfl rfl)
abbrev cX2_strikes : ByteArray := prog_3_method_11_code
def yX2_strikes : MethodName := ⟨RX2, "strikes", "()V"⟩
def dkwX2_strikes_6 : List UInt8 := [25, 4, 180, 0, 118, 181, 0, 118, 167, 255, 207, 167, 255, 123, 177]
abbrev dktX2_strikes_6 : List UInt8 := dkwX2_strikes_6 ++ []
def dkwX2_strikes_5 : List UInt8 := [58, 4, 25, 4, 44, 180, 0, 157, 153, 0, 15, 25, 4, 180, 0, 118, 154, 0, 7, 7, 167, 0, 8]
abbrev dktX2_strikes_5 : List UInt8 := dkwX2_strikes_5 ++ dktX2_strikes_6
def dkwX2_strikes_4 : List UInt8 := [185, 0, 44, 1, 0, 78, 45, 185, 0, 50, 1, 0, 153, 0, 46, 45, 185, 0, 56, 1, 0, 192, 0, 100]
abbrev dktX2_strikes_4 : List UInt8 := dkwX2_strikes_4 ++ dktX2_strikes_5
def dkwX2_strikes_3 : List UInt8 := [185, 0, 92, 1, 0, 104, 164, 0, 7, 4, 167, 0, 4, 3, 181, 0, 157, 44, 180, 0, 89]
abbrev dktX2_strikes_3 : List UInt8 := dkwX2_strikes_3 ++ dktX2_strikes_4
def dkwX2_strikes_2 : List UInt8 := [185, 0, 152, 1, 0, 154, 0, 31, 16, 100, 44, 182, 0, 155, 104, 42, 180, 0, 35, 44, 180, 0, 89]
abbrev dktX2_strikes_2 : List UInt8 := dkwX2_strikes_2 ++ dktX2_strikes_3
def dkwX2_strikes_1 : List UInt8 := [185, 0, 56, 1, 0, 192, 0, 60, 77, 44, 44, 180, 0, 148, 154, 0, 39, 44, 180, 0, 89]
abbrev dktX2_strikes_1 : List UInt8 := dkwX2_strikes_1 ++ dktX2_strikes_2
def dkwX2_strikes_0 : List UInt8 := [42, 180, 0, 17, 185, 0, 44, 1, 0, 76, 43, 185, 0, 50, 1, 0, 153, 0, 130, 43]
abbrev dktX2_strikes_0 : List UInt8 := dkwX2_strikes_0 ++ dktX2_strikes_1
theorem dksX2_strikes_0 : cX2_strikes.data.toList.drop 0 = dktX2_strikes_0 := by decide +kernel
theorem dksX2_strikes_1 : cX2_strikes.data.toList.drop 20 = dktX2_strikes_1 := dk_seg dksX2_strikes_0 20 rfl rfl
theorem dksX2_strikes_2 : cX2_strikes.data.toList.drop 41 = dktX2_strikes_2 := dk_seg dksX2_strikes_1 21 rfl rfl
theorem dksX2_strikes_3 : cX2_strikes.data.toList.drop 64 = dktX2_strikes_3 := dk_seg dksX2_strikes_2 23 rfl rfl
theorem dksX2_strikes_4 : cX2_strikes.data.toList.drop 85 = dktX2_strikes_4 := dk_seg dksX2_strikes_3 21 rfl rfl
theorem dksX2_strikes_5 : cX2_strikes.data.toList.drop 109 = dktX2_strikes_5 := dk_seg dksX2_strikes_4 24 rfl rfl
theorem dksX2_strikes_6 : cX2_strikes.data.toList.drop 132 = dktX2_strikes_6 := dk_seg dksX2_strikes_5 23 rfl rfl
theorem dX2_strikes_0 : decode cX2_strikes 0 = .ok (.aload_n 0, 1) := dk_42 (dk_at dksX2_strikes_0 0 rfl rfl)
theorem dX2_strikes_1 : decode cX2_strikes 1 = .ok (.getfield 17, 3) := dk_180 0 17 (dk_at dksX2_strikes_0 1 rfl rfl)
theorem dX2_strikes_4 : decode cX2_strikes 4 = .ok (.invokeinterface 44 1, 5) := by decide +kernel
theorem dX2_strikes_9 : decode cX2_strikes 9 = .ok (.astore_n 1, 1) := dk_76 (dk_at dksX2_strikes_0 9 rfl rfl)
theorem dX2_strikes_10 : decode cX2_strikes 10 = .ok (.aload_n 1, 1) := dk_43 (dk_at dksX2_strikes_0 10 rfl rfl)
theorem dX2_strikes_11 : decode cX2_strikes 11 = .ok (.invokeinterface 50 1, 5) := by decide +kernel
theorem dX2_strikes_16 : decode cX2_strikes 16 = .ok (.ifCond .eq 130, 3) := dk_153 0 130 (dk_at dksX2_strikes_0 16 rfl rfl)
theorem dX2_strikes_19 : decode cX2_strikes 19 = .ok (.aload_n 1, 1) := dk_43 (dk_at dksX2_strikes_0 19 rfl rfl)
theorem dX2_strikes_20 : decode cX2_strikes 20 = .ok (.invokeinterface 56 1, 5) := by decide +kernel
theorem dX2_strikes_25 : decode cX2_strikes 25 = .ok (.checkcast 60, 3) := dk_192 0 60 (dk_at dksX2_strikes_1 5 rfl rfl)
theorem dX2_strikes_28 : decode cX2_strikes 28 = .ok (.astore_n 2, 1) := dk_77 (dk_at dksX2_strikes_1 8 rfl rfl)
theorem dX2_strikes_29 : decode cX2_strikes 29 = .ok (.aload_n 2, 1) := dk_44 (dk_at dksX2_strikes_1 9 rfl rfl)
theorem dX2_strikes_30 : decode cX2_strikes 30 = .ok (.aload_n 2, 1) := dk_44 (dk_at dksX2_strikes_1 10 rfl rfl)
theorem dX2_strikes_31 : decode cX2_strikes 31 = .ok (.getfield 148, 3) := dk_180 0 148 (dk_at dksX2_strikes_1 11 rfl rfl)
theorem dX2_strikes_34 : decode cX2_strikes 34 = .ok (.ifCond .ne 39, 3) := dk_154 0 39 (dk_at dksX2_strikes_1 14 rfl rfl)
theorem dX2_strikes_37 : decode cX2_strikes 37 = .ok (.aload_n 2, 1) := dk_44 (dk_at dksX2_strikes_1 17 rfl rfl)
theorem dX2_strikes_38 : decode cX2_strikes 38 = .ok (.getfield 89, 3) := dk_180 0 89 (dk_at dksX2_strikes_1 18 rfl rfl)
theorem dX2_strikes_41 : decode cX2_strikes 41 = .ok (.invokeinterface 152 1, 5) := by decide +kernel
theorem dX2_strikes_46 : decode cX2_strikes 46 = .ok (.ifCond .ne 31, 3) := dk_154 0 31 (dk_at dksX2_strikes_2 5 rfl rfl)
theorem dX2_strikes_49 : decode cX2_strikes 49 = .ok (.bipush 100, 2) := dk_16 100 (dk_at dksX2_strikes_2 8 rfl rfl)
theorem dX2_strikes_51 : decode cX2_strikes 51 = .ok (.aload_n 2, 1) := dk_44 (dk_at dksX2_strikes_2 10 rfl rfl)
theorem dX2_strikes_52 : decode cX2_strikes 52 = .ok (.invokevirtual 155, 3) := dk_182 0 155 (dk_at dksX2_strikes_2 11 rfl rfl)
theorem dX2_strikes_55 : decode cX2_strikes 55 = .ok (.imul, 1) := dk_104 (dk_at dksX2_strikes_2 14 rfl rfl)
theorem dX2_strikes_56 : decode cX2_strikes 56 = .ok (.aload_n 0, 1) := dk_42 (dk_at dksX2_strikes_2 15 rfl rfl)
theorem dX2_strikes_57 : decode cX2_strikes 57 = .ok (.getfield 35, 3) := dk_180 0 35 (dk_at dksX2_strikes_2 16 rfl rfl)
theorem dX2_strikes_60 : decode cX2_strikes 60 = .ok (.aload_n 2, 1) := dk_44 (dk_at dksX2_strikes_2 19 rfl rfl)
theorem dX2_strikes_61 : decode cX2_strikes 61 = .ok (.getfield 89, 3) := dk_180 0 89 (dk_at dksX2_strikes_2 20 rfl rfl)
theorem dX2_strikes_64 : decode cX2_strikes 64 = .ok (.invokeinterface 92 1, 5) := by decide +kernel
theorem dX2_strikes_69 : decode cX2_strikes 69 = .ok (.imul, 1) := dk_104 (dk_at dksX2_strikes_3 5 rfl rfl)
theorem dX2_strikes_70 : decode cX2_strikes 70 = .ok (.if_icmp .le 7, 3) := dk_164 0 7 (dk_at dksX2_strikes_3 6 rfl rfl)
theorem dX2_strikes_73 : decode cX2_strikes 73 = .ok (.iconst 1, 1) := dk_4 (dk_at dksX2_strikes_3 9 rfl rfl)
theorem dX2_strikes_74 : decode cX2_strikes 74 = .ok (.goto 4, 3) := dk_167 0 4 (dk_at dksX2_strikes_3 10 rfl rfl)
theorem dX2_strikes_77 : decode cX2_strikes 77 = .ok (.iconst 0, 1) := dk_3 (dk_at dksX2_strikes_3 13 rfl rfl)
theorem dX2_strikes_78 : decode cX2_strikes 78 = .ok (.putfield 157, 3) := dk_181 0 157 (dk_at dksX2_strikes_3 14 rfl rfl)
theorem dX2_strikes_81 : decode cX2_strikes 81 = .ok (.aload_n 2, 1) := dk_44 (dk_at dksX2_strikes_3 17 rfl rfl)
theorem dX2_strikes_82 : decode cX2_strikes 82 = .ok (.getfield 89, 3) := dk_180 0 89 (dk_at dksX2_strikes_3 18 rfl rfl)
theorem dX2_strikes_85 : decode cX2_strikes 85 = .ok (.invokeinterface 44 1, 5) := by decide +kernel
theorem dX2_strikes_90 : decode cX2_strikes 90 = .ok (.astore_n 3, 1) := dk_78 (dk_at dksX2_strikes_4 5 rfl rfl)
theorem dX2_strikes_91 : decode cX2_strikes 91 = .ok (.aload_n 3, 1) := dk_45 (dk_at dksX2_strikes_4 6 rfl rfl)
theorem dX2_strikes_92 : decode cX2_strikes 92 = .ok (.invokeinterface 50 1, 5) := by decide +kernel
theorem dX2_strikes_97 : decode cX2_strikes 97 = .ok (.ifCond .eq 46, 3) := dk_153 0 46 (dk_at dksX2_strikes_4 12 rfl rfl)
theorem dX2_strikes_100 : decode cX2_strikes 100 = .ok (.aload_n 3, 1) := dk_45 (dk_at dksX2_strikes_4 15 rfl rfl)
theorem dX2_strikes_101 : decode cX2_strikes 101 = .ok (.invokeinterface 56 1, 5) := by decide +kernel
theorem dX2_strikes_106 : decode cX2_strikes 106 = .ok (.checkcast 100, 3) := dk_192 0 100 (dk_at dksX2_strikes_4 21 rfl rfl)
theorem dX2_strikes_109 : decode cX2_strikes 109 = .ok (.astore 4, 2) := dk_58 4 (dk_at dksX2_strikes_5 0 rfl rfl)
theorem dX2_strikes_111 : decode cX2_strikes 111 = .ok (.aload 4, 2) := dk_25 4 (dk_at dksX2_strikes_5 2 rfl rfl)
theorem dX2_strikes_113 : decode cX2_strikes 113 = .ok (.aload_n 2, 1) := dk_44 (dk_at dksX2_strikes_5 4 rfl rfl)
theorem dX2_strikes_114 : decode cX2_strikes 114 = .ok (.getfield 157, 3) := dk_180 0 157 (dk_at dksX2_strikes_5 5 rfl rfl)
theorem dX2_strikes_117 : decode cX2_strikes 117 = .ok (.ifCond .eq 15, 3) := dk_153 0 15 (dk_at dksX2_strikes_5 8 rfl rfl)
theorem dX2_strikes_120 : decode cX2_strikes 120 = .ok (.aload 4, 2) := dk_25 4 (dk_at dksX2_strikes_5 11 rfl rfl)
theorem dX2_strikes_122 : decode cX2_strikes 122 = .ok (.getfield 118, 3) := dk_180 0 118 (dk_at dksX2_strikes_5 13 rfl rfl)
theorem dX2_strikes_125 : decode cX2_strikes 125 = .ok (.ifCond .ne 7, 3) := dk_154 0 7 (dk_at dksX2_strikes_5 16 rfl rfl)
theorem dX2_strikes_128 : decode cX2_strikes 128 = .ok (.iconst 4, 1) := dk_7 (dk_at dksX2_strikes_5 19 rfl rfl)
theorem dX2_strikes_129 : decode cX2_strikes 129 = .ok (.goto 8, 3) := dk_167 0 8 (dk_at dksX2_strikes_5 20 rfl rfl)
theorem dX2_strikes_132 : decode cX2_strikes 132 = .ok (.aload 4, 2) := dk_25 4 (dk_at dksX2_strikes_6 0 rfl rfl)
theorem dX2_strikes_134 : decode cX2_strikes 134 = .ok (.getfield 118, 3) := dk_180 0 118 (dk_at dksX2_strikes_6 2 rfl rfl)
theorem dX2_strikes_137 : decode cX2_strikes 137 = .ok (.putfield 118, 3) := dk_181 0 118 (dk_at dksX2_strikes_6 5 rfl rfl)
theorem dX2_strikes_140 : decode cX2_strikes 140 = .ok (.goto (-49), 3) := dk_167 255 207 (dk_at dksX2_strikes_6 8 rfl rfl)
theorem dX2_strikes_143 : decode cX2_strikes 143 = .ok (.goto (-133), 3) := dk_167 255 123 (dk_at dksX2_strikes_6 11 rfl rfl)
theorem dX2_strikes_146 : decode cX2_strikes 146 = .ok (.return_, 1) := dk_177 (dk_at dksX2_strikes_6 14 rfl rfl)
abbrev cX2_doubles : ByteArray := prog_3_method_12_code
def yX2_doubles : MethodName := ⟨RX2, "doubles", "()V"⟩
def dkwX2_doubles_3 : List UInt8 := [60, 167, 255, 193, 177]
abbrev dktX2_doubles_3 : List UInt8 := dkwX2_doubles_3 ++ []
def dkwX2_doubles_2 : List UInt8 := [185, 0, 160, 2, 0, 120, 54, 4, 27, 21, 4, 126, 153, 0, 8, 45, 8, 181, 0, 118, 27, 21, 4, 128]
abbrev dktX2_doubles_2 : List UInt8 := dkwX2_doubles_2 ++ dktX2_doubles_3
def dkwX2_doubles_1 : List UInt8 := [192, 0, 100, 78, 45, 180, 0, 118, 153, 0, 6, 167, 255, 230, 4, 42, 180, 0, 41, 45, 180, 0, 128]
abbrev dktX2_doubles_1 : List UInt8 := dkwX2_doubles_1 ++ dktX2_doubles_2
def dkwX2_doubles_0 : List UInt8 := [3, 60, 42, 182, 0, 127, 77, 44, 185, 0, 50, 1, 0, 153, 0, 60, 44, 185, 0, 56, 1, 0]
abbrev dktX2_doubles_0 : List UInt8 := dkwX2_doubles_0 ++ dktX2_doubles_1
theorem dksX2_doubles_0 : cX2_doubles.data.toList.drop 0 = dktX2_doubles_0 := by decide +kernel
theorem dksX2_doubles_1 : cX2_doubles.data.toList.drop 22 = dktX2_doubles_1 := dk_seg dksX2_doubles_0 22 rfl rfl
theorem dksX2_doubles_2 : cX2_doubles.data.toList.drop 45 = dktX2_doubles_2 := dk_seg dksX2_doubles_1 23 rfl rfl
theorem dksX2_doubles_3 : cX2_doubles.data.toList.drop 69 = dktX2_doubles_3 := dk_seg dksX2_doubles_2 24 rfl rfl
theorem dX2_doubles_0 : decode cX2_doubles 0 = .ok (.iconst 0, 1) := dk_3 (dk_at dksX2_doubles_0 0 rfl rfl)
theorem dX2_doubles_1 : decode cX2_doubles 1 = .ok (.istore_n 1, 1) := dk_60 (dk_at dksX2_doubles_0 1 rfl rfl)
theorem dX2_doubles_2 : decode cX2_doubles 2 = .ok (.aload_n 0, 1) := dk_42 (dk_at dksX2_doubles_0 2 rfl rfl)
theorem dX2_doubles_3 : decode cX2_doubles 3 = .ok (.invokevirtual 127, 3) := dk_182 0 127 (dk_at dksX2_doubles_0 3 rfl rfl)
theorem dX2_doubles_6 : decode cX2_doubles 6 = .ok (.astore_n 2, 1) := dk_77 (dk_at dksX2_doubles_0 6 rfl rfl)
theorem dX2_doubles_7 : decode cX2_doubles 7 = .ok (.aload_n 2, 1) := dk_44 (dk_at dksX2_doubles_0 7 rfl rfl)
theorem dX2_doubles_8 : decode cX2_doubles 8 = .ok (.invokeinterface 50 1, 5) := by decide +kernel
theorem dX2_doubles_13 : decode cX2_doubles 13 = .ok (.ifCond .eq 60, 3) := dk_153 0 60 (dk_at dksX2_doubles_0 13 rfl rfl)
theorem dX2_doubles_16 : decode cX2_doubles 16 = .ok (.aload_n 2, 1) := dk_44 (dk_at dksX2_doubles_0 16 rfl rfl)
theorem dX2_doubles_17 : decode cX2_doubles 17 = .ok (.invokeinterface 56 1, 5) := by decide +kernel
theorem dX2_doubles_22 : decode cX2_doubles 22 = .ok (.checkcast 100, 3) := dk_192 0 100 (dk_at dksX2_doubles_1 0 rfl rfl)
theorem dX2_doubles_25 : decode cX2_doubles 25 = .ok (.astore_n 3, 1) := dk_78 (dk_at dksX2_doubles_1 3 rfl rfl)
theorem dX2_doubles_26 : decode cX2_doubles 26 = .ok (.aload_n 3, 1) := dk_45 (dk_at dksX2_doubles_1 4 rfl rfl)
theorem dX2_doubles_27 : decode cX2_doubles 27 = .ok (.getfield 118, 3) := dk_180 0 118 (dk_at dksX2_doubles_1 5 rfl rfl)
theorem dX2_doubles_30 : decode cX2_doubles 30 = .ok (.ifCond .eq 6, 3) := dk_153 0 6 (dk_at dksX2_doubles_1 8 rfl rfl)
theorem dX2_doubles_33 : decode cX2_doubles 33 = .ok (.goto (-26), 3) := dk_167 255 230 (dk_at dksX2_doubles_1 11 rfl rfl)
theorem dX2_doubles_36 : decode cX2_doubles 36 = .ok (.iconst 1, 1) := dk_4 (dk_at dksX2_doubles_1 14 rfl rfl)
theorem dX2_doubles_37 : decode cX2_doubles 37 = .ok (.aload_n 0, 1) := dk_42 (dk_at dksX2_doubles_1 15 rfl rfl)
theorem dX2_doubles_38 : decode cX2_doubles 38 = .ok (.getfield 41, 3) := dk_180 0 41 (dk_at dksX2_doubles_1 16 rfl rfl)
theorem dX2_doubles_41 : decode cX2_doubles 41 = .ok (.aload_n 3, 1) := dk_45 (dk_at dksX2_doubles_1 19 rfl rfl)
theorem dX2_doubles_42 : decode cX2_doubles 42 = .ok (.getfield 128, 3) := dk_180 0 128 (dk_at dksX2_doubles_1 20 rfl rfl)
theorem dX2_doubles_45 : decode cX2_doubles 45 = .ok (.invokeinterface 160 2, 5) := by decide +kernel
theorem dX2_doubles_50 : decode cX2_doubles 50 = .ok (.ishl, 1) := dk_120 (dk_at dksX2_doubles_2 5 rfl rfl)
theorem dX2_doubles_51 : decode cX2_doubles 51 = .ok (.istore 4, 2) := dk_54 4 (dk_at dksX2_doubles_2 6 rfl rfl)
theorem dX2_doubles_53 : decode cX2_doubles 53 = .ok (.iload_n 1, 1) := dk_27 (dk_at dksX2_doubles_2 8 rfl rfl)
theorem dX2_doubles_54 : decode cX2_doubles 54 = .ok (.iload 4, 2) := dk_21 4 (dk_at dksX2_doubles_2 9 rfl rfl)
theorem dX2_doubles_56 : decode cX2_doubles 56 = .ok (.iand, 1) := dk_126 (dk_at dksX2_doubles_2 11 rfl rfl)
theorem dX2_doubles_57 : decode cX2_doubles 57 = .ok (.ifCond .eq 8, 3) := dk_153 0 8 (dk_at dksX2_doubles_2 12 rfl rfl)
theorem dX2_doubles_60 : decode cX2_doubles 60 = .ok (.aload_n 3, 1) := dk_45 (dk_at dksX2_doubles_2 15 rfl rfl)
theorem dX2_doubles_61 : decode cX2_doubles 61 = .ok (.iconst 5, 1) := dk_8 (dk_at dksX2_doubles_2 16 rfl rfl)
theorem dX2_doubles_62 : decode cX2_doubles 62 = .ok (.putfield 118, 3) := dk_181 0 118 (dk_at dksX2_doubles_2 17 rfl rfl)
theorem dX2_doubles_65 : decode cX2_doubles 65 = .ok (.iload_n 1, 1) := dk_27 (dk_at dksX2_doubles_2 20 rfl rfl)
theorem dX2_doubles_66 : decode cX2_doubles 66 = .ok (.iload 4, 2) := dk_21 4 (dk_at dksX2_doubles_2 21 rfl rfl)
theorem dX2_doubles_68 : decode cX2_doubles 68 = .ok (.ior, 1) := dk_128 (dk_at dksX2_doubles_2 23 rfl rfl)
theorem dX2_doubles_69 : decode cX2_doubles 69 = .ok (.istore_n 1, 1) := dk_60 (dk_at dksX2_doubles_3 0 rfl rfl)
theorem dX2_doubles_70 : decode cX2_doubles 70 = .ok (.goto (-63), 3) := dk_167 255 193 (dk_at dksX2_doubles_3 1 rfl rfl)
theorem dX2_doubles_73 : decode cX2_doubles 73 = .ok (.return_, 1) := dk_177 (dk_at dksX2_doubles_3 4 rfl rfl)
abbrev cX2_judgedSo : ByteArray := prog_3_method_13_code
def yX2_judgedSo : MethodName := ⟨RX2, "judgedSo", "(I)I"⟩
def dkwX2_judgedSo_2 : List UInt8 := [167, 255, 219, 28, 172]
abbrev dktX2_judgedSo_2 : List UInt8 := dkwX2_judgedSo_2 ++ []
def dkwX2_judgedSo_1 : List UInt8 := [192, 0, 100, 58, 4, 28, 25, 4, 180, 0, 118, 27, 160, 0, 7, 4, 167, 0, 4, 3, 96, 61]
abbrev dktX2_judgedSo_1 : List UInt8 := dkwX2_judgedSo_1 ++ dktX2_judgedSo_2
def dkwX2_judgedSo_0 : List UInt8 := [3, 61, 42, 182, 0, 127, 78, 45, 185, 0, 50, 1, 0, 153, 0, 34, 45, 185, 0, 56, 1, 0]
abbrev dktX2_judgedSo_0 : List UInt8 := dkwX2_judgedSo_0 ++ dktX2_judgedSo_1
theorem dksX2_judgedSo_0 : cX2_judgedSo.data.toList.drop 0 = dktX2_judgedSo_0 := by decide +kernel
theorem dksX2_judgedSo_1 : cX2_judgedSo.data.toList.drop 22 = dktX2_judgedSo_1 := dk_seg dksX2_judgedSo_0 22 rfl rfl
theorem dksX2_judgedSo_2 : cX2_judgedSo.data.toList.drop 44 = dktX2_judgedSo_2 := dk_seg dksX2_judgedSo_1 22 rfl rfl
theorem dX2_judgedSo_0 : decode cX2_judgedSo 0 = .ok (.iconst 0, 1) := dk_3 (dk_at dksX2_judgedSo_0 0 rfl rfl)
theorem dX2_judgedSo_1 : decode cX2_judgedSo 1 = .ok (.istore_n 2, 1) := dk_61 (dk_at dksX2_judgedSo_0 1 rfl rfl)
theorem dX2_judgedSo_2 : decode cX2_judgedSo 2 = .ok (.aload_n 0, 1) := dk_42 (dk_at dksX2_judgedSo_0 2 rfl rfl)
theorem dX2_judgedSo_3 : decode cX2_judgedSo 3 = .ok (.invokevirtual 127, 3) := dk_182 0 127 (dk_at dksX2_judgedSo_0 3 rfl rfl)
theorem dX2_judgedSo_6 : decode cX2_judgedSo 6 = .ok (.astore_n 3, 1) := dk_78 (dk_at dksX2_judgedSo_0 6 rfl rfl)
theorem dX2_judgedSo_7 : decode cX2_judgedSo 7 = .ok (.aload_n 3, 1) := dk_45 (dk_at dksX2_judgedSo_0 7 rfl rfl)
theorem dX2_judgedSo_8 : decode cX2_judgedSo 8 = .ok (.invokeinterface 50 1, 5) := by decide +kernel
theorem dX2_judgedSo_13 : decode cX2_judgedSo 13 = .ok (.ifCond .eq 34, 3) := dk_153 0 34 (dk_at dksX2_judgedSo_0 13 rfl rfl)
theorem dX2_judgedSo_16 : decode cX2_judgedSo 16 = .ok (.aload_n 3, 1) := dk_45 (dk_at dksX2_judgedSo_0 16 rfl rfl)
theorem dX2_judgedSo_17 : decode cX2_judgedSo 17 = .ok (.invokeinterface 56 1, 5) := by decide +kernel
theorem dX2_judgedSo_22 : decode cX2_judgedSo 22 = .ok (.checkcast 100, 3) := dk_192 0 100 (dk_at dksX2_judgedSo_1 0 rfl rfl)
theorem dX2_judgedSo_25 : decode cX2_judgedSo 25 = .ok (.astore 4, 2) := dk_58 4 (dk_at dksX2_judgedSo_1 3 rfl rfl)
theorem dX2_judgedSo_27 : decode cX2_judgedSo 27 = .ok (.iload_n 2, 1) := dk_28 (dk_at dksX2_judgedSo_1 5 rfl rfl)
theorem dX2_judgedSo_28 : decode cX2_judgedSo 28 = .ok (.aload 4, 2) := dk_25 4 (dk_at dksX2_judgedSo_1 6 rfl rfl)
theorem dX2_judgedSo_30 : decode cX2_judgedSo 30 = .ok (.getfield 118, 3) := dk_180 0 118 (dk_at dksX2_judgedSo_1 8 rfl rfl)
theorem dX2_judgedSo_33 : decode cX2_judgedSo 33 = .ok (.iload_n 1, 1) := dk_27 (dk_at dksX2_judgedSo_1 11 rfl rfl)
theorem dX2_judgedSo_34 : decode cX2_judgedSo 34 = .ok (.if_icmp .ne 7, 3) := dk_160 0 7 (dk_at dksX2_judgedSo_1 12 rfl rfl)
theorem dX2_judgedSo_37 : decode cX2_judgedSo 37 = .ok (.iconst 1, 1) := dk_4 (dk_at dksX2_judgedSo_1 15 rfl rfl)
theorem dX2_judgedSo_38 : decode cX2_judgedSo 38 = .ok (.goto 4, 3) := dk_167 0 4 (dk_at dksX2_judgedSo_1 16 rfl rfl)
theorem dX2_judgedSo_41 : decode cX2_judgedSo 41 = .ok (.iconst 0, 1) := dk_3 (dk_at dksX2_judgedSo_1 19 rfl rfl)
theorem dX2_judgedSo_42 : decode cX2_judgedSo 42 = .ok (.iadd, 1) := dk_96 (dk_at dksX2_judgedSo_1 20 rfl rfl)
theorem dX2_judgedSo_43 : decode cX2_judgedSo 43 = .ok (.istore_n 2, 1) := dk_61 (dk_at dksX2_judgedSo_1 21 rfl rfl)
theorem dX2_judgedSo_44 : decode cX2_judgedSo 44 = .ok (.goto (-37), 3) := dk_167 255 219 (dk_at dksX2_judgedSo_2 0 rfl rfl)
theorem dX2_judgedSo_47 : decode cX2_judgedSo 47 = .ok (.iload_n 2, 1) := dk_28 (dk_at dksX2_judgedSo_2 3 rfl rfl)
theorem dX2_judgedSo_48 : decode cX2_judgedSo 48 = .ok (.ireturn, 1) := dk_172 (dk_at dksX2_judgedSo_2 4 rfl rfl)
abbrev cX2_lines : ByteArray := prog_3_method_7_code
def yX2_lines : MethodName := ⟨RX2, "lines", "()I"⟩
def dkwX2_lines_2 : List UInt8 := [27, 172]
abbrev dktX2_lines_2 : List UInt8 := dkwX2_lines_2 ++ []
def dkwX2_lines_1 : List UInt8 := [185, 0, 56, 1, 0, 192, 0, 60, 78, 27, 45, 180, 0, 89, 185, 0, 92, 1, 0, 96, 60, 167, 255, 225]
abbrev dktX2_lines_1 : List UInt8 := dkwX2_lines_1 ++ dktX2_lines_2
def dkwX2_lines_0 : List UInt8 := [3, 60, 42, 180, 0, 17, 185, 0, 44, 1, 0, 77, 44, 185, 0, 50, 1, 0, 153, 0, 28, 44]
abbrev dktX2_lines_0 : List UInt8 := dkwX2_lines_0 ++ dktX2_lines_1
theorem dksX2_lines_0 : cX2_lines.data.toList.drop 0 = dktX2_lines_0 := by decide +kernel
theorem dksX2_lines_1 : cX2_lines.data.toList.drop 22 = dktX2_lines_1 := dk_seg dksX2_lines_0 22 rfl rfl
theorem dksX2_lines_2 : cX2_lines.data.toList.drop 46 = dktX2_lines_2 := dk_seg dksX2_lines_1 24 rfl rfl
theorem dX2_lines_0 : decode cX2_lines 0 = .ok (.iconst 0, 1) := dk_3 (dk_at dksX2_lines_0 0 rfl rfl)
theorem dX2_lines_1 : decode cX2_lines 1 = .ok (.istore_n 1, 1) := dk_60 (dk_at dksX2_lines_0 1 rfl rfl)
theorem dX2_lines_2 : decode cX2_lines 2 = .ok (.aload_n 0, 1) := dk_42 (dk_at dksX2_lines_0 2 rfl rfl)
theorem dX2_lines_3 : decode cX2_lines 3 = .ok (.getfield 17, 3) := dk_180 0 17 (dk_at dksX2_lines_0 3 rfl rfl)
theorem dX2_lines_6 : decode cX2_lines 6 = .ok (.invokeinterface 44 1, 5) := by decide +kernel
theorem dX2_lines_11 : decode cX2_lines 11 = .ok (.astore_n 2, 1) := dk_77 (dk_at dksX2_lines_0 11 rfl rfl)
theorem dX2_lines_12 : decode cX2_lines 12 = .ok (.aload_n 2, 1) := dk_44 (dk_at dksX2_lines_0 12 rfl rfl)
theorem dX2_lines_13 : decode cX2_lines 13 = .ok (.invokeinterface 50 1, 5) := by decide +kernel
theorem dX2_lines_18 : decode cX2_lines 18 = .ok (.ifCond .eq 28, 3) := dk_153 0 28 (dk_at dksX2_lines_0 18 rfl rfl)
theorem dX2_lines_21 : decode cX2_lines 21 = .ok (.aload_n 2, 1) := dk_44 (dk_at dksX2_lines_0 21 rfl rfl)
theorem dX2_lines_22 : decode cX2_lines 22 = .ok (.invokeinterface 56 1, 5) := by decide +kernel
theorem dX2_lines_27 : decode cX2_lines 27 = .ok (.checkcast 60, 3) := dk_192 0 60 (dk_at dksX2_lines_1 5 rfl rfl)
theorem dX2_lines_30 : decode cX2_lines 30 = .ok (.astore_n 3, 1) := dk_78 (dk_at dksX2_lines_1 8 rfl rfl)
theorem dX2_lines_31 : decode cX2_lines 31 = .ok (.iload_n 1, 1) := dk_27 (dk_at dksX2_lines_1 9 rfl rfl)
theorem dX2_lines_32 : decode cX2_lines 32 = .ok (.aload_n 3, 1) := dk_45 (dk_at dksX2_lines_1 10 rfl rfl)
theorem dX2_lines_33 : decode cX2_lines 33 = .ok (.getfield 89, 3) := dk_180 0 89 (dk_at dksX2_lines_1 11 rfl rfl)
theorem dX2_lines_36 : decode cX2_lines 36 = .ok (.invokeinterface 92 1, 5) := by decide +kernel
theorem dX2_lines_41 : decode cX2_lines 41 = .ok (.iadd, 1) := dk_96 (dk_at dksX2_lines_1 19 rfl rfl)
theorem dX2_lines_42 : decode cX2_lines 42 = .ok (.istore_n 1, 1) := dk_60 (dk_at dksX2_lines_1 20 rfl rfl)
theorem dX2_lines_43 : decode cX2_lines 43 = .ok (.goto (-31), 3) := dk_167 255 225 (dk_at dksX2_lines_1 21 rfl rfl)
theorem dX2_lines_46 : decode cX2_lines 46 = .ok (.iload_n 1, 1) := dk_27 (dk_at dksX2_lines_2 0 rfl rfl)
theorem dX2_lines_47 : decode cX2_lines 47 = .ok (.ireturn, 1) := dk_172 (dk_at dksX2_lines_2 1 rfl rfl)
abbrev cX2_voterOf : ByteArray := prog_3_method_6_code
def yX2_voterOf : MethodName := ⟨RX2, "voterOf", "(Ljava/lang/String;I)LPetitionDesk$Voter;"⟩
def dkwX2_voterOf_2 : List UInt8 := [167, 255, 223, 1, 176]
abbrev dktX2_voterOf_2 : List UInt8 := dkwX2_voterOf_2 ++ []
def dkwX2_voterOf_1 : List UInt8 := [185, 0, 56, 1, 0, 192, 0, 83, 58, 4, 25, 4, 43, 28, 182, 0, 85, 153, 0, 6, 25, 4, 176]
abbrev dktX2_voterOf_1 : List UInt8 := dkwX2_voterOf_1 ++ dktX2_voterOf_2
def dkwX2_voterOf_0 : List UInt8 := [42, 180, 0, 41, 185, 0, 44, 1, 0, 78, 45, 185, 0, 50, 1, 0, 153, 0, 30, 45]
abbrev dktX2_voterOf_0 : List UInt8 := dkwX2_voterOf_0 ++ dktX2_voterOf_1
theorem dksX2_voterOf_0 : cX2_voterOf.data.toList.drop 0 = dktX2_voterOf_0 := by decide +kernel
theorem dksX2_voterOf_1 : cX2_voterOf.data.toList.drop 20 = dktX2_voterOf_1 := dk_seg dksX2_voterOf_0 20 rfl rfl
theorem dksX2_voterOf_2 : cX2_voterOf.data.toList.drop 43 = dktX2_voterOf_2 := dk_seg dksX2_voterOf_1 23 rfl rfl
theorem dX2_voterOf_0 : decode cX2_voterOf 0 = .ok (.aload_n 0, 1) := dk_42 (dk_at dksX2_voterOf_0 0 rfl rfl)
theorem dX2_voterOf_1 : decode cX2_voterOf 1 = .ok (.getfield 41, 3) := dk_180 0 41 (dk_at dksX2_voterOf_0 1 rfl rfl)
theorem dX2_voterOf_4 : decode cX2_voterOf 4 = .ok (.invokeinterface 44 1, 5) := by decide +kernel
theorem dX2_voterOf_9 : decode cX2_voterOf 9 = .ok (.astore_n 3, 1) := dk_78 (dk_at dksX2_voterOf_0 9 rfl rfl)
theorem dX2_voterOf_10 : decode cX2_voterOf 10 = .ok (.aload_n 3, 1) := dk_45 (dk_at dksX2_voterOf_0 10 rfl rfl)
theorem dX2_voterOf_11 : decode cX2_voterOf 11 = .ok (.invokeinterface 50 1, 5) := by decide +kernel
theorem dX2_voterOf_16 : decode cX2_voterOf 16 = .ok (.ifCond .eq 30, 3) := dk_153 0 30 (dk_at dksX2_voterOf_0 16 rfl rfl)
theorem dX2_voterOf_19 : decode cX2_voterOf 19 = .ok (.aload_n 3, 1) := dk_45 (dk_at dksX2_voterOf_0 19 rfl rfl)
theorem dX2_voterOf_20 : decode cX2_voterOf 20 = .ok (.invokeinterface 56 1, 5) := by decide +kernel
theorem dX2_voterOf_25 : decode cX2_voterOf 25 = .ok (.checkcast 83, 3) := dk_192 0 83 (dk_at dksX2_voterOf_1 5 rfl rfl)
theorem dX2_voterOf_28 : decode cX2_voterOf 28 = .ok (.astore 4, 2) := dk_58 4 (dk_at dksX2_voterOf_1 8 rfl rfl)
theorem dX2_voterOf_30 : decode cX2_voterOf 30 = .ok (.aload 4, 2) := dk_25 4 (dk_at dksX2_voterOf_1 10 rfl rfl)
theorem dX2_voterOf_32 : decode cX2_voterOf 32 = .ok (.aload_n 1, 1) := dk_43 (dk_at dksX2_voterOf_1 12 rfl rfl)
theorem dX2_voterOf_33 : decode cX2_voterOf 33 = .ok (.iload_n 2, 1) := dk_28 (dk_at dksX2_voterOf_1 13 rfl rfl)
theorem dX2_voterOf_34 : decode cX2_voterOf 34 = .ok (.invokevirtual 85, 3) := dk_182 0 85 (dk_at dksX2_voterOf_1 14 rfl rfl)
theorem dX2_voterOf_37 : decode cX2_voterOf 37 = .ok (.ifCond .eq 6, 3) := dk_153 0 6 (dk_at dksX2_voterOf_1 17 rfl rfl)
theorem dX2_voterOf_40 : decode cX2_voterOf 40 = .ok (.aload 4, 2) := dk_25 4 (dk_at dksX2_voterOf_1 20 rfl rfl)
theorem dX2_voterOf_42 : decode cX2_voterOf 42 = .ok (.areturn, 1) := dk_176 (dk_at dksX2_voterOf_1 22 rfl rfl)
theorem dX2_voterOf_43 : decode cX2_voterOf 43 = .ok (.goto (-33), 3) := dk_167 255 223 (dk_at dksX2_voterOf_2 0 rfl rfl)
theorem dX2_voterOf_46 : decode cX2_voterOf 46 = .ok (.aconst_null, 1) := dk_1 (dk_at dksX2_voterOf_2 3 rfl rfl)
theorem dX2_voterOf_47 : decode cX2_voterOf 47 = .ok (.areturn, 1) := dk_176 (dk_at dksX2_voterOf_2 4 rfl rfl)
abbrev cX2_copy : ByteArray := prog_3_method_3_code
def yX2_copy : MethodName := ⟨RX2, "copy", "()LPetitionDesk$Petition;"⟩
def dkwX2_copy_5 : List UInt8 := [180, 0, 38, 181, 0, 38, 43, 42, 180, 0, 70, 181, 0, 70, 43, 182, 0, 74, 176]
abbrev dktX2_copy_5 : List UInt8 := dkwX2_copy_5 ++ []
def dkwX2_copy_4 : List UInt8 := [180, 0, 29, 181, 0, 29, 43, 42, 180, 0, 32, 181, 0, 32, 43, 42, 180, 0, 35, 181, 0, 35, 43, 42]
abbrev dktX2_copy_4 : List UInt8 := dkwX2_copy_4 ++ dktX2_copy_5
def dkwX2_copy_3 : List UInt8 := [43, 180, 0, 21, 4, 42, 180, 0, 21, 4, 47, 80, 43, 42, 180, 0, 25, 181, 0, 25, 43, 42]
abbrev dktX2_copy_3 : List UInt8 := dkwX2_copy_3 ++ dktX2_copy_4
def dkwX2_copy_2 : List UInt8 := [182, 0, 62, 185, 0, 66, 2, 0, 87, 167, 255, 223, 43, 180, 0, 21, 3, 42, 180, 0, 21, 3, 47, 80]
abbrev dktX2_copy_2 : List UInt8 := dkwX2_copy_2 ++ dktX2_copy_3
def dkwX2_copy_1 : List UInt8 := [185, 0, 50, 1, 0, 153, 0, 30, 44, 185, 0, 56, 1, 0, 192, 0, 60, 78, 43, 180, 0, 17, 45]
abbrev dktX2_copy_1 : List UInt8 := dkwX2_copy_1 ++ dktX2_copy_2
def dkwX2_copy_0 : List UInt8 := [187, 0, 10, 89, 42, 180, 0, 41, 183, 0, 9, 76, 42, 180, 0, 17, 185, 0, 44, 1, 0, 77, 44]
abbrev dktX2_copy_0 : List UInt8 := dkwX2_copy_0 ++ dktX2_copy_1
theorem dksX2_copy_0 : cX2_copy.data.toList.drop 0 = dktX2_copy_0 := by decide +kernel
theorem dksX2_copy_1 : cX2_copy.data.toList.drop 23 = dktX2_copy_1 := dk_seg dksX2_copy_0 23 rfl rfl
theorem dksX2_copy_2 : cX2_copy.data.toList.drop 46 = dktX2_copy_2 := dk_seg dksX2_copy_1 23 rfl rfl
theorem dksX2_copy_3 : cX2_copy.data.toList.drop 70 = dktX2_copy_3 := dk_seg dksX2_copy_2 24 rfl rfl
theorem dksX2_copy_4 : cX2_copy.data.toList.drop 92 = dktX2_copy_4 := dk_seg dksX2_copy_3 22 rfl rfl
theorem dksX2_copy_5 : cX2_copy.data.toList.drop 116 = dktX2_copy_5 := dk_seg dksX2_copy_4 24 rfl rfl
theorem dX2_copy_0 : decode cX2_copy 0 = .ok (.new 10, 3) := dk_187 0 10 (dk_at dksX2_copy_0 0 rfl rfl)
theorem dX2_copy_3 : decode cX2_copy 3 = .ok (.dup, 1) := dk_89 (dk_at dksX2_copy_0 3 rfl rfl)
theorem dX2_copy_4 : decode cX2_copy 4 = .ok (.aload_n 0, 1) := dk_42 (dk_at dksX2_copy_0 4 rfl rfl)
theorem dX2_copy_5 : decode cX2_copy 5 = .ok (.getfield 41, 3) := dk_180 0 41 (dk_at dksX2_copy_0 5 rfl rfl)
theorem dX2_copy_8 : decode cX2_copy 8 = .ok (.invokespecial 9, 3) := dk_183 0 9 (dk_at dksX2_copy_0 8 rfl rfl)
theorem dX2_copy_11 : decode cX2_copy 11 = .ok (.astore_n 1, 1) := dk_76 (dk_at dksX2_copy_0 11 rfl rfl)
theorem dX2_copy_12 : decode cX2_copy 12 = .ok (.aload_n 0, 1) := dk_42 (dk_at dksX2_copy_0 12 rfl rfl)
theorem dX2_copy_13 : decode cX2_copy 13 = .ok (.getfield 17, 3) := dk_180 0 17 (dk_at dksX2_copy_0 13 rfl rfl)
theorem dX2_copy_16 : decode cX2_copy 16 = .ok (.invokeinterface 44 1, 5) := by decide +kernel
theorem dX2_copy_21 : decode cX2_copy 21 = .ok (.astore_n 2, 1) := dk_77 (dk_at dksX2_copy_0 21 rfl rfl)
theorem dX2_copy_22 : decode cX2_copy 22 = .ok (.aload_n 2, 1) := dk_44 (dk_at dksX2_copy_0 22 rfl rfl)
theorem dX2_copy_23 : decode cX2_copy 23 = .ok (.invokeinterface 50 1, 5) := by decide +kernel
theorem dX2_copy_28 : decode cX2_copy 28 = .ok (.ifCond .eq 30, 3) := dk_153 0 30 (dk_at dksX2_copy_1 5 rfl rfl)
theorem dX2_copy_31 : decode cX2_copy 31 = .ok (.aload_n 2, 1) := dk_44 (dk_at dksX2_copy_1 8 rfl rfl)
theorem dX2_copy_32 : decode cX2_copy 32 = .ok (.invokeinterface 56 1, 5) := by decide +kernel
theorem dX2_copy_37 : decode cX2_copy 37 = .ok (.checkcast 60, 3) := dk_192 0 60 (dk_at dksX2_copy_1 14 rfl rfl)
theorem dX2_copy_40 : decode cX2_copy 40 = .ok (.astore_n 3, 1) := dk_78 (dk_at dksX2_copy_1 17 rfl rfl)
theorem dX2_copy_41 : decode cX2_copy 41 = .ok (.aload_n 1, 1) := dk_43 (dk_at dksX2_copy_1 18 rfl rfl)
theorem dX2_copy_42 : decode cX2_copy 42 = .ok (.getfield 17, 3) := dk_180 0 17 (dk_at dksX2_copy_1 19 rfl rfl)
theorem dX2_copy_45 : decode cX2_copy 45 = .ok (.aload_n 3, 1) := dk_45 (dk_at dksX2_copy_1 22 rfl rfl)
theorem dX2_copy_46 : decode cX2_copy 46 = .ok (.invokevirtual 62, 3) := dk_182 0 62 (dk_at dksX2_copy_2 0 rfl rfl)
theorem dX2_copy_49 : decode cX2_copy 49 = .ok (.invokeinterface 66 2, 5) := by decide +kernel
theorem dX2_copy_54 : decode cX2_copy 54 = .ok (.pop, 1) := dk_87 (dk_at dksX2_copy_2 8 rfl rfl)
theorem dX2_copy_55 : decode cX2_copy 55 = .ok (.goto (-33), 3) := dk_167 255 223 (dk_at dksX2_copy_2 9 rfl rfl)
theorem dX2_copy_58 : decode cX2_copy 58 = .ok (.aload_n 1, 1) := dk_43 (dk_at dksX2_copy_2 12 rfl rfl)
theorem dX2_copy_59 : decode cX2_copy 59 = .ok (.getfield 21, 3) := dk_180 0 21 (dk_at dksX2_copy_2 13 rfl rfl)
theorem dX2_copy_62 : decode cX2_copy 62 = .ok (.iconst 0, 1) := dk_3 (dk_at dksX2_copy_2 16 rfl rfl)
theorem dX2_copy_63 : decode cX2_copy 63 = .ok (.aload_n 0, 1) := dk_42 (dk_at dksX2_copy_2 17 rfl rfl)
theorem dX2_copy_64 : decode cX2_copy 64 = .ok (.getfield 21, 3) := dk_180 0 21 (dk_at dksX2_copy_2 18 rfl rfl)
theorem dX2_copy_67 : decode cX2_copy 67 = .ok (.iconst 0, 1) := dk_3 (dk_at dksX2_copy_2 21 rfl rfl)
theorem dX2_copy_68 : decode cX2_copy 68 = .ok (.laload, 1) := dk_47 (dk_at dksX2_copy_2 22 rfl rfl)
theorem dX2_copy_69 : decode cX2_copy 69 = .ok (.lastore, 1) := dk_80 (dk_at dksX2_copy_2 23 rfl rfl)
theorem dX2_copy_70 : decode cX2_copy 70 = .ok (.aload_n 1, 1) := dk_43 (dk_at dksX2_copy_3 0 rfl rfl)
theorem dX2_copy_71 : decode cX2_copy 71 = .ok (.getfield 21, 3) := dk_180 0 21 (dk_at dksX2_copy_3 1 rfl rfl)
theorem dX2_copy_74 : decode cX2_copy 74 = .ok (.iconst 1, 1) := dk_4 (dk_at dksX2_copy_3 4 rfl rfl)
theorem dX2_copy_75 : decode cX2_copy 75 = .ok (.aload_n 0, 1) := dk_42 (dk_at dksX2_copy_3 5 rfl rfl)
theorem dX2_copy_76 : decode cX2_copy 76 = .ok (.getfield 21, 3) := dk_180 0 21 (dk_at dksX2_copy_3 6 rfl rfl)
theorem dX2_copy_79 : decode cX2_copy 79 = .ok (.iconst 1, 1) := dk_4 (dk_at dksX2_copy_3 9 rfl rfl)
theorem dX2_copy_80 : decode cX2_copy 80 = .ok (.laload, 1) := dk_47 (dk_at dksX2_copy_3 10 rfl rfl)
theorem dX2_copy_81 : decode cX2_copy 81 = .ok (.lastore, 1) := dk_80 (dk_at dksX2_copy_3 11 rfl rfl)
theorem dX2_copy_82 : decode cX2_copy 82 = .ok (.aload_n 1, 1) := dk_43 (dk_at dksX2_copy_3 12 rfl rfl)
theorem dX2_copy_83 : decode cX2_copy 83 = .ok (.aload_n 0, 1) := dk_42 (dk_at dksX2_copy_3 13 rfl rfl)
theorem dX2_copy_84 : decode cX2_copy 84 = .ok (.getfield 25, 3) := dk_180 0 25 (dk_at dksX2_copy_3 14 rfl rfl)
theorem dX2_copy_87 : decode cX2_copy 87 = .ok (.putfield 25, 3) := dk_181 0 25 (dk_at dksX2_copy_3 17 rfl rfl)
theorem dX2_copy_90 : decode cX2_copy 90 = .ok (.aload_n 1, 1) := dk_43 (dk_at dksX2_copy_3 20 rfl rfl)
theorem dX2_copy_91 : decode cX2_copy 91 = .ok (.aload_n 0, 1) := dk_42 (dk_at dksX2_copy_3 21 rfl rfl)
theorem dX2_copy_92 : decode cX2_copy 92 = .ok (.getfield 29, 3) := dk_180 0 29 (dk_at dksX2_copy_4 0 rfl rfl)
theorem dX2_copy_95 : decode cX2_copy 95 = .ok (.putfield 29, 3) := dk_181 0 29 (dk_at dksX2_copy_4 3 rfl rfl)
theorem dX2_copy_98 : decode cX2_copy 98 = .ok (.aload_n 1, 1) := dk_43 (dk_at dksX2_copy_4 6 rfl rfl)
theorem dX2_copy_99 : decode cX2_copy 99 = .ok (.aload_n 0, 1) := dk_42 (dk_at dksX2_copy_4 7 rfl rfl)
theorem dX2_copy_100 : decode cX2_copy 100 = .ok (.getfield 32, 3) := dk_180 0 32 (dk_at dksX2_copy_4 8 rfl rfl)
theorem dX2_copy_103 : decode cX2_copy 103 = .ok (.putfield 32, 3) := dk_181 0 32 (dk_at dksX2_copy_4 11 rfl rfl)
theorem dX2_copy_106 : decode cX2_copy 106 = .ok (.aload_n 1, 1) := dk_43 (dk_at dksX2_copy_4 14 rfl rfl)
theorem dX2_copy_107 : decode cX2_copy 107 = .ok (.aload_n 0, 1) := dk_42 (dk_at dksX2_copy_4 15 rfl rfl)
theorem dX2_copy_108 : decode cX2_copy 108 = .ok (.getfield 35, 3) := dk_180 0 35 (dk_at dksX2_copy_4 16 rfl rfl)
theorem dX2_copy_111 : decode cX2_copy 111 = .ok (.putfield 35, 3) := dk_181 0 35 (dk_at dksX2_copy_4 19 rfl rfl)
theorem dX2_copy_114 : decode cX2_copy 114 = .ok (.aload_n 1, 1) := dk_43 (dk_at dksX2_copy_4 22 rfl rfl)
theorem dX2_copy_115 : decode cX2_copy 115 = .ok (.aload_n 0, 1) := dk_42 (dk_at dksX2_copy_4 23 rfl rfl)
theorem dX2_copy_116 : decode cX2_copy 116 = .ok (.getfield 38, 3) := dk_180 0 38 (dk_at dksX2_copy_5 0 rfl rfl)
theorem dX2_copy_119 : decode cX2_copy 119 = .ok (.putfield 38, 3) := dk_181 0 38 (dk_at dksX2_copy_5 3 rfl rfl)
theorem dX2_copy_122 : decode cX2_copy 122 = .ok (.aload_n 1, 1) := dk_43 (dk_at dksX2_copy_5 6 rfl rfl)
theorem dX2_copy_123 : decode cX2_copy 123 = .ok (.aload_n 0, 1) := dk_42 (dk_at dksX2_copy_5 7 rfl rfl)
theorem dX2_copy_124 : decode cX2_copy 124 = .ok (.getfield 70, 3) := dk_180 0 70 (dk_at dksX2_copy_5 8 rfl rfl)
theorem dX2_copy_127 : decode cX2_copy 127 = .ok (.putfield 70, 3) := dk_181 0 70 (dk_at dksX2_copy_5 11 rfl rfl)
theorem dX2_copy_130 : decode cX2_copy 130 = .ok (.aload_n 1, 1) := dk_43 (dk_at dksX2_copy_5 14 rfl rfl)
theorem dX2_copy_131 : decode cX2_copy 131 = .ok (.invokevirtual 74, 3) := dk_182 0 74 (dk_at dksX2_copy_5 15 rfl rfl)
theorem dX2_copy_134 : decode cX2_copy 134 = .ok (.areturn, 1) := dk_176 (dk_at dksX2_copy_5 18 rfl rfl)
abbrev cX2_goodBy : ByteArray := prog_3_method_15_code
def yX2_goodBy : MethodName := ⟨RX2, "goodBy", "(J)[I"⟩
def dkwX2_goodBy_3 : List UInt8 := [96, 79, 132, 4, 1, 167, 255, 194, 45, 176]
abbrev dktX2_goodBy_3 : List UInt8 := dkwX2_goodBy_3 ++ []
def dkwX2_goodBy_2 : List UInt8 := [182, 0, 168, 153, 0, 23, 45, 42, 180, 0, 41, 25, 6, 180, 0, 128, 185, 0, 160, 2, 0, 92, 46, 4]
abbrev dktX2_goodBy_2 : List UInt8 := dkwX2_goodBy_2 ++ dktX2_goodBy_3
def dkwX2_goodBy_1 : List UInt8 := [25, 5, 185, 0, 56, 1, 0, 192, 0, 100, 58, 6, 31, 21, 4, 184, 0, 164, 153, 0, 31, 25, 6]
abbrev dktX2_goodBy_1 : List UInt8 := dkwX2_goodBy_1 ++ dktX2_goodBy_2
def dkwX2_goodBy_0 : List UInt8 := [16, 16, 188, 10, 78, 3, 54, 4, 42, 182, 0, 127, 58, 5, 25, 5, 185, 0, 50, 1, 0, 153, 0, 58]
abbrev dktX2_goodBy_0 : List UInt8 := dkwX2_goodBy_0 ++ dktX2_goodBy_1
theorem dksX2_goodBy_0 : cX2_goodBy.data.toList.drop 0 = dktX2_goodBy_0 := by decide +kernel
theorem dksX2_goodBy_1 : cX2_goodBy.data.toList.drop 24 = dktX2_goodBy_1 := dk_seg dksX2_goodBy_0 24 rfl rfl
theorem dksX2_goodBy_2 : cX2_goodBy.data.toList.drop 47 = dktX2_goodBy_2 := dk_seg dksX2_goodBy_1 23 rfl rfl
theorem dksX2_goodBy_3 : cX2_goodBy.data.toList.drop 71 = dktX2_goodBy_3 := dk_seg dksX2_goodBy_2 24 rfl rfl
theorem dX2_goodBy_0 : decode cX2_goodBy 0 = .ok (.bipush 16, 2) := dk_16 16 (dk_at dksX2_goodBy_0 0 rfl rfl)
theorem dX2_goodBy_2 : decode cX2_goodBy 2 = .ok (.newarray .int, 2) := dk_188_10 (dk_at dksX2_goodBy_0 2 rfl rfl)
theorem dX2_goodBy_4 : decode cX2_goodBy 4 = .ok (.astore_n 3, 1) := dk_78 (dk_at dksX2_goodBy_0 4 rfl rfl)
theorem dX2_goodBy_5 : decode cX2_goodBy 5 = .ok (.iconst 0, 1) := dk_3 (dk_at dksX2_goodBy_0 5 rfl rfl)
theorem dX2_goodBy_6 : decode cX2_goodBy 6 = .ok (.istore 4, 2) := dk_54 4 (dk_at dksX2_goodBy_0 6 rfl rfl)
theorem dX2_goodBy_8 : decode cX2_goodBy 8 = .ok (.aload_n 0, 1) := dk_42 (dk_at dksX2_goodBy_0 8 rfl rfl)
theorem dX2_goodBy_9 : decode cX2_goodBy 9 = .ok (.invokevirtual 127, 3) := dk_182 0 127 (dk_at dksX2_goodBy_0 9 rfl rfl)
theorem dX2_goodBy_12 : decode cX2_goodBy 12 = .ok (.astore 5, 2) := dk_58 5 (dk_at dksX2_goodBy_0 12 rfl rfl)
theorem dX2_goodBy_14 : decode cX2_goodBy 14 = .ok (.aload 5, 2) := dk_25 5 (dk_at dksX2_goodBy_0 14 rfl rfl)
theorem dX2_goodBy_16 : decode cX2_goodBy 16 = .ok (.invokeinterface 50 1, 5) := by decide +kernel
theorem dX2_goodBy_21 : decode cX2_goodBy 21 = .ok (.ifCond .eq 58, 3) := dk_153 0 58 (dk_at dksX2_goodBy_0 21 rfl rfl)
theorem dX2_goodBy_24 : decode cX2_goodBy 24 = .ok (.aload 5, 2) := dk_25 5 (dk_at dksX2_goodBy_1 0 rfl rfl)
theorem dX2_goodBy_26 : decode cX2_goodBy 26 = .ok (.invokeinterface 56 1, 5) := by decide +kernel
theorem dX2_goodBy_31 : decode cX2_goodBy 31 = .ok (.checkcast 100, 3) := dk_192 0 100 (dk_at dksX2_goodBy_1 7 rfl rfl)
theorem dX2_goodBy_34 : decode cX2_goodBy 34 = .ok (.astore 6, 2) := dk_58 6 (dk_at dksX2_goodBy_1 10 rfl rfl)
theorem dX2_goodBy_36 : decode cX2_goodBy 36 = .ok (.lload_n 1, 1) := dk_31 (dk_at dksX2_goodBy_1 12 rfl rfl)
theorem dX2_goodBy_37 : decode cX2_goodBy 37 = .ok (.iload 4, 2) := dk_21 4 (dk_at dksX2_goodBy_1 13 rfl rfl)
theorem dX2_goodBy_39 : decode cX2_goodBy 39 = .ok (.invokestatic 164, 3) := dk_184 0 164 (dk_at dksX2_goodBy_1 15 rfl rfl)
theorem dX2_goodBy_42 : decode cX2_goodBy 42 = .ok (.ifCond .eq 31, 3) := dk_153 0 31 (dk_at dksX2_goodBy_1 18 rfl rfl)
theorem dX2_goodBy_45 : decode cX2_goodBy 45 = .ok (.aload 6, 2) := dk_25 6 (dk_at dksX2_goodBy_1 21 rfl rfl)
theorem dX2_goodBy_47 : decode cX2_goodBy 47 = .ok (.invokevirtual 168, 3) := dk_182 0 168 (dk_at dksX2_goodBy_2 0 rfl rfl)
theorem dX2_goodBy_50 : decode cX2_goodBy 50 = .ok (.ifCond .eq 23, 3) := dk_153 0 23 (dk_at dksX2_goodBy_2 3 rfl rfl)
theorem dX2_goodBy_53 : decode cX2_goodBy 53 = .ok (.aload_n 3, 1) := dk_45 (dk_at dksX2_goodBy_2 6 rfl rfl)
theorem dX2_goodBy_54 : decode cX2_goodBy 54 = .ok (.aload_n 0, 1) := dk_42 (dk_at dksX2_goodBy_2 7 rfl rfl)
theorem dX2_goodBy_55 : decode cX2_goodBy 55 = .ok (.getfield 41, 3) := dk_180 0 41 (dk_at dksX2_goodBy_2 8 rfl rfl)
theorem dX2_goodBy_58 : decode cX2_goodBy 58 = .ok (.aload 6, 2) := dk_25 6 (dk_at dksX2_goodBy_2 11 rfl rfl)
theorem dX2_goodBy_60 : decode cX2_goodBy 60 = .ok (.getfield 128, 3) := dk_180 0 128 (dk_at dksX2_goodBy_2 13 rfl rfl)
theorem dX2_goodBy_63 : decode cX2_goodBy 63 = .ok (.invokeinterface 160 2, 5) := by decide +kernel
theorem dX2_goodBy_68 : decode cX2_goodBy 68 = .ok (.dup2, 1) := dk_92 (dk_at dksX2_goodBy_2 21 rfl rfl)
theorem dX2_goodBy_69 : decode cX2_goodBy 69 = .ok (.iaload, 1) := dk_46 (dk_at dksX2_goodBy_2 22 rfl rfl)
theorem dX2_goodBy_70 : decode cX2_goodBy 70 = .ok (.iconst 1, 1) := dk_4 (dk_at dksX2_goodBy_2 23 rfl rfl)
theorem dX2_goodBy_71 : decode cX2_goodBy 71 = .ok (.iadd, 1) := dk_96 (dk_at dksX2_goodBy_3 0 rfl rfl)
theorem dX2_goodBy_72 : decode cX2_goodBy 72 = .ok (.iastore, 1) := dk_79 (dk_at dksX2_goodBy_3 1 rfl rfl)
theorem dX2_goodBy_73 : decode cX2_goodBy 73 = .ok (.iinc 4 1, 3) := dk_132 4 1 (dk_at dksX2_goodBy_3 2 rfl rfl)
theorem dX2_goodBy_76 : decode cX2_goodBy 76 = .ok (.goto (-62), 3) := dk_167 255 194 (dk_at dksX2_goodBy_3 5 rfl rfl)
theorem dX2_goodBy_79 : decode cX2_goodBy 79 = .ok (.aload_n 3, 1) := dk_45 (dk_at dksX2_goodBy_3 8 rfl rfl)
theorem dX2_goodBy_80 : decode cX2_goodBy 80 = .ok (.areturn, 1) := dk_176 (dk_at dksX2_goodBy_3 9 rfl rfl)
abbrev cX2_struck : ByteArray := prog_3_method_14_code
def yX2_struck : MethodName := ⟨RX2, "struck", "()I"⟩
def dkwX2_struck_2 : List UInt8 := [132, 2, 1, 167, 255, 211, 27, 172]
abbrev dktX2_struck_2 : List UInt8 := dkwX2_struck_2 ++ []
def dkwX2_struck_1 : List UInt8 := [185, 0, 96, 2, 0, 192, 0, 60, 180, 0, 157, 153, 0, 9, 4, 28, 120, 167, 0, 4, 3, 128, 60]
abbrev dktX2_struck_1 : List UInt8 := dkwX2_struck_1 ++ dktX2_struck_2
def dkwX2_struck_0 : List UInt8 := [3, 60, 3, 61, 28, 42, 180, 0, 17, 185, 0, 92, 1, 0, 162, 0, 38, 27, 42, 180, 0, 17, 28]
abbrev dktX2_struck_0 : List UInt8 := dkwX2_struck_0 ++ dktX2_struck_1
theorem dksX2_struck_0 : cX2_struck.data.toList.drop 0 = dktX2_struck_0 := by decide +kernel
theorem dksX2_struck_1 : cX2_struck.data.toList.drop 23 = dktX2_struck_1 := dk_seg dksX2_struck_0 23 rfl rfl
theorem dksX2_struck_2 : cX2_struck.data.toList.drop 46 = dktX2_struck_2 := dk_seg dksX2_struck_1 23 rfl rfl
theorem dX2_struck_0 : decode cX2_struck 0 = .ok (.iconst 0, 1) := dk_3 (dk_at dksX2_struck_0 0 rfl rfl)
theorem dX2_struck_1 : decode cX2_struck 1 = .ok (.istore_n 1, 1) := dk_60 (dk_at dksX2_struck_0 1 rfl rfl)
theorem dX2_struck_2 : decode cX2_struck 2 = .ok (.iconst 0, 1) := dk_3 (dk_at dksX2_struck_0 2 rfl rfl)
theorem dX2_struck_3 : decode cX2_struck 3 = .ok (.istore_n 2, 1) := dk_61 (dk_at dksX2_struck_0 3 rfl rfl)
theorem dX2_struck_4 : decode cX2_struck 4 = .ok (.iload_n 2, 1) := dk_28 (dk_at dksX2_struck_0 4 rfl rfl)
theorem dX2_struck_5 : decode cX2_struck 5 = .ok (.aload_n 0, 1) := dk_42 (dk_at dksX2_struck_0 5 rfl rfl)
theorem dX2_struck_6 : decode cX2_struck 6 = .ok (.getfield 17, 3) := dk_180 0 17 (dk_at dksX2_struck_0 6 rfl rfl)
theorem dX2_struck_9 : decode cX2_struck 9 = .ok (.invokeinterface 92 1, 5) := by decide +kernel
theorem dX2_struck_14 : decode cX2_struck 14 = .ok (.if_icmp .ge 38, 3) := dk_162 0 38 (dk_at dksX2_struck_0 14 rfl rfl)
theorem dX2_struck_17 : decode cX2_struck 17 = .ok (.iload_n 1, 1) := dk_27 (dk_at dksX2_struck_0 17 rfl rfl)
theorem dX2_struck_18 : decode cX2_struck 18 = .ok (.aload_n 0, 1) := dk_42 (dk_at dksX2_struck_0 18 rfl rfl)
theorem dX2_struck_19 : decode cX2_struck 19 = .ok (.getfield 17, 3) := dk_180 0 17 (dk_at dksX2_struck_0 19 rfl rfl)
theorem dX2_struck_22 : decode cX2_struck 22 = .ok (.iload_n 2, 1) := dk_28 (dk_at dksX2_struck_0 22 rfl rfl)
theorem dX2_struck_23 : decode cX2_struck 23 = .ok (.invokeinterface 96 2, 5) := by decide +kernel
theorem dX2_struck_28 : decode cX2_struck 28 = .ok (.checkcast 60, 3) := dk_192 0 60 (dk_at dksX2_struck_1 5 rfl rfl)
theorem dX2_struck_31 : decode cX2_struck 31 = .ok (.getfield 157, 3) := dk_180 0 157 (dk_at dksX2_struck_1 8 rfl rfl)
theorem dX2_struck_34 : decode cX2_struck 34 = .ok (.ifCond .eq 9, 3) := dk_153 0 9 (dk_at dksX2_struck_1 11 rfl rfl)
theorem dX2_struck_37 : decode cX2_struck 37 = .ok (.iconst 1, 1) := dk_4 (dk_at dksX2_struck_1 14 rfl rfl)
theorem dX2_struck_38 : decode cX2_struck 38 = .ok (.iload_n 2, 1) := dk_28 (dk_at dksX2_struck_1 15 rfl rfl)
theorem dX2_struck_39 : decode cX2_struck 39 = .ok (.ishl, 1) := dk_120 (dk_at dksX2_struck_1 16 rfl rfl)
theorem dX2_struck_40 : decode cX2_struck 40 = .ok (.goto 4, 3) := dk_167 0 4 (dk_at dksX2_struck_1 17 rfl rfl)
theorem dX2_struck_43 : decode cX2_struck 43 = .ok (.iconst 0, 1) := dk_3 (dk_at dksX2_struck_1 20 rfl rfl)
theorem dX2_struck_44 : decode cX2_struck 44 = .ok (.ior, 1) := dk_128 (dk_at dksX2_struck_1 21 rfl rfl)
theorem dX2_struck_45 : decode cX2_struck 45 = .ok (.istore_n 1, 1) := dk_60 (dk_at dksX2_struck_1 22 rfl rfl)
theorem dX2_struck_46 : decode cX2_struck 46 = .ok (.iinc 2 1, 3) := dk_132 2 1 (dk_at dksX2_struck_2 0 rfl rfl)
theorem dX2_struck_49 : decode cX2_struck 49 = .ok (.goto (-45), 3) := dk_167 255 211 (dk_at dksX2_struck_2 3 rfl rfl)
theorem dX2_struck_52 : decode cX2_struck 52 = .ok (.iload_n 1, 1) := dk_27 (dk_at dksX2_struck_2 6 rfl rfl)
theorem dX2_struck_53 : decode cX2_struck 53 = .ok (.ireturn, 1) := dk_172 (dk_at dksX2_struck_2 7 rfl rfl)
theorem q93 : (Jvm.Cond.initialized "PetitionDesk$Petition") ∈ lw_all := lw_g (lw_at lw_m1 5 rfl) rfl
theorem q167 : (Jvm.Cond.instantiable "PetitionDesk$Petition" (9 : Nat)) ∈ lw_all := lw_g (lw_at lw_m1 79 rfl) rfl
theorem q169 : (Jvm.Cond.instanceMethod ({ cls := "PetitionDesk$Petition", name := "<init>", desc := "()V" } : Jvm.MethodName)) ∈ lw_all := lw_g (lw_at lw_m1 81 rfl) rfl
theorem q170 : (Jvm.Cond.code ({ cls := "PetitionDesk$Petition", name := "<init>", desc := "()V" } : Jvm.MethodName) prog_3_method_1_code (1 : Nat) (Option.none : Option Jvm.ClassFile.FieldType)) ∈ lw_all := lw_g (lw_at lw_m1 82 rfl) rfl
theorem q171 : (Jvm.Cond.classLink "PetitionDesk$Petition" (3 : Nat) "java/util/ArrayList") ∈ lw_all := lw_g (lw_at lw_m1 83 rfl) rfl
theorem q172 : (Jvm.Cond.methodLink "PetitionDesk$Petition" (5 : Nat) ({ cls := "java/util/ArrayList", name := "<init>", desc := "()V" } : Jvm.MethodName)) ∈ lw_all := lw_g (lw_at lw_m1 84 rfl) rfl
theorem q173 : (Jvm.Cond.methodLink "PetitionDesk$Petition" (9 : Nat) ({ cls := "PetitionDesk$Petition", name := "<init>", desc := "(Ljava/util/List;)V" } : Jvm.MethodName)) ∈ lw_all := lw_g (lw_at lw_m1 85 rfl) rfl
theorem q174 : (Jvm.Cond.instanceMethod ({ cls := "PetitionDesk$Petition", name := "<init>", desc := "(Ljava/util/List;)V" } : Jvm.MethodName)) ∈ lw_all := lw_g (lw_at lw_m1 86 rfl) rfl
theorem q175 : (Jvm.Cond.code ({ cls := "PetitionDesk$Petition", name := "<init>", desc := "(Ljava/util/List;)V" } : Jvm.MethodName) prog_3_method_2_code (2 : Nat) (Option.none : Option Jvm.ClassFile.FieldType)) ∈ lw_all := lw_g (lw_at lw_m1 87 rfl) rfl
theorem q176 : (Jvm.Cond.methodLink "PetitionDesk$Petition" (14 : Nat) ({ cls := "java/lang/Object", name := "<init>", desc := "()V" } : Jvm.MethodName)) ∈ lw_all := lw_g (lw_at lw_m1 88 rfl) rfl
theorem q177 : (Jvm.Cond.fieldLink "PetitionDesk$Petition" (41 : Nat) "PetitionDesk$Petition" "roll" "Ljava/util/List;") ∈ lw_all := lw_g (lw_at lw_m1 89 rfl) rfl
theorem q181 : (Jvm.Cond.fieldLink "PetitionDesk$Petition" (17 : Nat) "PetitionDesk$Petition" "sheets" "Ljava/util/List;") ∈ lw_all := lw_g (lw_at lw_m1 93 rfl) rfl
theorem q184 : (Jvm.Cond.fieldLink "PetitionDesk$Petition" (21 : Nat) "PetitionDesk$Petition" "samples" "[J") ∈ lw_all := lw_g (lw_at lw_m1 96 rfl) rfl
theorem q186 : (Jvm.Cond.fieldLink "PetitionDesk$Petition" (25 : Nat) "PetitionDesk$Petition" "need" "I") ∈ lw_all := lw_g (lw_at lw_m1 98 rfl) rfl
theorem q189 : (Jvm.Cond.fieldLink "PetitionDesk$Petition" (29 : Nat) "PetitionDesk$Petition" "first" "I") ∈ lw_all := lw_g (lw_at lw_m1 101 rfl) rfl
theorem q192 : (Jvm.Cond.fieldLink "PetitionDesk$Petition" (32 : Nat) "PetitionDesk$Petition" "last" "I") ∈ lw_all := lw_g (lw_at lw_m1 104 rfl) rfl
theorem q195 : (Jvm.Cond.fieldLink "PetitionDesk$Petition" (35 : Nat) "PetitionDesk$Petition" "spoilt" "I") ∈ lw_all := lw_g (lw_at lw_m1 107 rfl) rfl
theorem q198 : (Jvm.Cond.fieldLink "PetitionDesk$Petition" (38 : Nat) "PetitionDesk$Petition" "alpha" "I") ∈ lw_all := lw_g (lw_at lw_m1 110 rfl) rfl
theorem q201 : (Jvm.Cond.fieldLink "PetitionDesk$Petition" (70 : Nat) "PetitionDesk$Petition" "good" "LPetitionDesk$Rule;") ∈ lw_all := lw_g (lw_at lw_m1 113 rfl) rfl
theorem q203 : (Jvm.Cond.laysFinal "PetitionDesk$Petition" "PetitionDesk$Petition" "roll" "Ljava/util/List;") ∈ lw_all := lw_g (lw_at lw_m1 115 rfl) rfl
theorem q204 : (Jvm.Cond.soleField "PetitionDesk$Petition" "roll") ∈ lw_all := lw_g (lw_at lw_m1 116 rfl) rfl
theorem q205 : (Jvm.Cond.laysFinal "PetitionDesk$Petition" "PetitionDesk$Petition" "sheets" "Ljava/util/List;") ∈ lw_all := lw_g (lw_at lw_m1 117 rfl) rfl
theorem q206 : (Jvm.Cond.soleField "PetitionDesk$Petition" "sheets") ∈ lw_all := lw_g (lw_at lw_m1 118 rfl) rfl
theorem q207 : (Jvm.Cond.laysFinal "PetitionDesk$Petition" "PetitionDesk$Petition" "samples" "[J") ∈ lw_all := lw_g (lw_at lw_m1 119 rfl) rfl
theorem q208 : (Jvm.Cond.soleField "PetitionDesk$Petition" "samples") ∈ lw_all := lw_g (lw_at lw_m1 120 rfl) rfl
theorem q209 : (Jvm.Cond.lays "PetitionDesk$Petition" "PetitionDesk$Petition" "need" "I") ∈ lw_all := lw_g (lw_at lw_m1 121 rfl) rfl
theorem q210 : (Jvm.Cond.soleField "PetitionDesk$Petition" "need") ∈ lw_all := lw_g (lw_at lw_m1 122 rfl) rfl
theorem q211 : (Jvm.Cond.lays "PetitionDesk$Petition" "PetitionDesk$Petition" "first" "I") ∈ lw_all := lw_g (lw_at lw_m1 123 rfl) rfl
theorem q212 : (Jvm.Cond.soleField "PetitionDesk$Petition" "first") ∈ lw_all := lw_g (lw_at lw_m1 124 rfl) rfl
theorem q213 : (Jvm.Cond.lays "PetitionDesk$Petition" "PetitionDesk$Petition" "last" "I") ∈ lw_all := lw_g (lw_at lw_m1 125 rfl) rfl
theorem q214 : (Jvm.Cond.soleField "PetitionDesk$Petition" "last") ∈ lw_all := lw_g (lw_at lw_m1 126 rfl) rfl
theorem q215 : (Jvm.Cond.lays "PetitionDesk$Petition" "PetitionDesk$Petition" "spoilt" "I") ∈ lw_all := lw_g (lw_at lw_m1 127 rfl) rfl
theorem q216 : (Jvm.Cond.soleField "PetitionDesk$Petition" "spoilt") ∈ lw_all := lw_g (lw_at lw_m1 128 rfl) rfl
theorem q217 : (Jvm.Cond.lays "PetitionDesk$Petition" "PetitionDesk$Petition" "alpha" "I") ∈ lw_all := lw_g (lw_at lw_m1 129 rfl) rfl
theorem q218 : (Jvm.Cond.soleField "PetitionDesk$Petition" "alpha") ∈ lw_all := lw_g (lw_at lw_m1 130 rfl) rfl
theorem q219 : (Jvm.Cond.lays "PetitionDesk$Petition" "PetitionDesk$Petition" "good" "LPetitionDesk$Rule;") ∈ lw_all := lw_g (lw_at lw_m1 131 rfl) rfl
theorem q220 : (Jvm.Cond.soleField "PetitionDesk$Petition" "good") ∈ lw_all := lw_g (lw_at lw_m1 132 rfl) rfl
theorem q221 : (Jvm.Cond.superclass "PetitionDesk$Petition" "java/lang/Object") ∈ lw_all := lw_g (lw_at lw_m1 133 rfl) rfl
theorem q223 : (Jvm.Cond.instanceMethod ({ cls := "PetitionDesk$Petition", name := "ends", desc := "()LPetitionDesk$Petition;" } : Jvm.MethodName)) ∈ lw_all := lw_g (lw_at lw_m1 135 rfl) rfl
theorem q224 : (Jvm.Cond.selects "PetitionDesk$Petition" ({ cls := "PetitionDesk$Petition", name := "ends", desc := "()LPetitionDesk$Petition;" } : Jvm.MethodName) ({ cls := "PetitionDesk$Petition", name := "ends", desc := "()LPetitionDesk$Petition;" } : Jvm.MethodName)) ∈ lw_all := lw_g (lw_at lw_m1 136 rfl) rfl
theorem q225 : (Jvm.Cond.code ({ cls := "PetitionDesk$Petition", name := "ends", desc := "()LPetitionDesk$Petition;" } : Jvm.MethodName) prog_3_method_4_code (1 : Nat) (Option.some (Jvm.ClassFile.FieldType.object "PetitionDesk$Petition"))) ∈ lw_all := lw_g (lw_at lw_m1 137 rfl) rfl
theorem q226 : (Jvm.Cond.methodLink "PetitionDesk$Petition" (74 : Nat) ({ cls := "PetitionDesk$Petition", name := "judges", desc := "()LPetitionDesk$Petition;" } : Jvm.MethodName)) ∈ lw_all := lw_g (lw_at lw_m1 138 rfl) rfl
theorem q227 : (Jvm.Cond.instanceMethod ({ cls := "PetitionDesk$Petition", name := "judges", desc := "()LPetitionDesk$Petition;" } : Jvm.MethodName)) ∈ lw_all := lw_g (lw_at lw_m1 139 rfl) rfl
theorem q228 : (Jvm.Cond.selects "PetitionDesk$Petition" ({ cls := "PetitionDesk$Petition", name := "judges", desc := "()LPetitionDesk$Petition;" } : Jvm.MethodName) ({ cls := "PetitionDesk$Petition", name := "judges", desc := "()LPetitionDesk$Petition;" } : Jvm.MethodName)) ∈ lw_all := lw_g (lw_at lw_m1 140 rfl) rfl
theorem q229 : (Jvm.Cond.code ({ cls := "PetitionDesk$Petition", name := "judges", desc := "()LPetitionDesk$Petition;" } : Jvm.MethodName) prog_3_method_8_code (4 : Nat) (Option.some (Jvm.ClassFile.FieldType.object "PetitionDesk$Petition"))) ∈ lw_all := lw_g (lw_at lw_m1 141 rfl) rfl
theorem q230 : (Jvm.Cond.interfaceEntry "PetitionDesk$Petition" (92 : Nat)) ∈ lw_tbl := lw_at lw_m1 142 rfl
theorem q231 : (Jvm.Cond.methodLink "PetitionDesk$Petition" (92 : Nat) ({ cls := "java/util/List", name := "size", desc := "()I" } : Jvm.MethodName)) ∈ lw_all := lw_g (lw_at lw_m1 143 rfl) rfl
theorem q240 : (Jvm.Cond.interfaceEntry "PetitionDesk$Petition" (96 : Nat)) ∈ lw_tbl := lw_at lw_m1 152 rfl
theorem q241 : (Jvm.Cond.methodLink "PetitionDesk$Petition" (96 : Nat) ({ cls := "java/util/List", name := "get", desc := "(I)Ljava/lang/Object;" } : Jvm.MethodName)) ∈ lw_all := lw_g (lw_at lw_m1 153 rfl) rfl
theorem q259 : (Jvm.Cond.classLink "PetitionDesk$Petition" (60 : Nat) "PetitionDesk$Sheet") ∈ lw_all := lw_g (lw_at lw_m1 171 rfl) rfl
theorem q260 : (Jvm.Cond.classLink "PetitionDesk$Petition" (100 : Nat) "PetitionDesk$Line") ∈ lw_all := lw_g (lw_at lw_m1 172 rfl) rfl
theorem q261 : (Jvm.Cond.methodLink "PetitionDesk$Petition" (108 : Nat) ({ cls := "PetitionDesk$Petition", name := "aheadOf", desc := "(LPetitionDesk$Line;)I" } : Jvm.MethodName)) ∈ lw_all := lw_g (lw_at lw_m1 173 rfl) rfl
theorem q262 : (Jvm.Cond.privateMethod ({ cls := "PetitionDesk$Petition", name := "aheadOf", desc := "(LPetitionDesk$Line;)I" } : Jvm.MethodName)) ∈ lw_tbl := lw_at lw_m1 174 rfl
theorem q263 : (Jvm.Cond.instanceMethod ({ cls := "PetitionDesk$Petition", name := "aheadOf", desc := "(LPetitionDesk$Line;)I" } : Jvm.MethodName)) ∈ lw_all := lw_g (lw_at lw_m1 175 rfl) rfl
theorem q264 : (Jvm.Cond.code ({ cls := "PetitionDesk$Petition", name := "aheadOf", desc := "(LPetitionDesk$Line;)I" } : Jvm.MethodName) prog_3_method_9_code (5 : Nat) (Option.some Jvm.ClassFile.FieldType.int)) ∈ lw_all := lw_g (lw_at lw_m1 176 rfl) rfl
theorem q265 : (Jvm.Cond.methodLink "PetitionDesk$Petition" (127 : Nat) ({ cls := "PetitionDesk$Petition", name := "iterator", desc := "()Ljava/util/Iterator;" } : Jvm.MethodName)) ∈ lw_all := lw_g (lw_at lw_m1 177 rfl) rfl
theorem q266 : (Jvm.Cond.instanceMethod ({ cls := "PetitionDesk$Petition", name := "iterator", desc := "()Ljava/util/Iterator;" } : Jvm.MethodName)) ∈ lw_all := lw_g (lw_at lw_m1 178 rfl) rfl
theorem q267 : (Jvm.Cond.selects "PetitionDesk$Petition" ({ cls := "PetitionDesk$Petition", name := "iterator", desc := "()Ljava/util/Iterator;" } : Jvm.MethodName) ({ cls := "PetitionDesk$Petition", name := "iterator", desc := "()Ljava/util/Iterator;" } : Jvm.MethodName)) ∈ lw_all := lw_g (lw_at lw_m1 179 rfl) rfl
theorem q268 : (Jvm.Cond.code ({ cls := "PetitionDesk$Petition", name := "iterator", desc := "()Ljava/util/Iterator;" } : Jvm.MethodName) prog_3_method_5_code (1 : Nat) (Option.some (Jvm.ClassFile.FieldType.object "java/util/Iterator"))) ∈ lw_all := lw_g (lw_at lw_m1 180 rfl) rfl
theorem q269 : (Jvm.Cond.classLink "PetitionDesk$Petition" (78 : Nat) "PetitionDesk$Petition$1") ∈ lw_all := lw_g (lw_at lw_m1 181 rfl) rfl
theorem q271 : (Jvm.Cond.methodLink "PetitionDesk$Petition" (80 : Nat) ({ cls := "PetitionDesk$Petition$1", name := "<init>", desc := "(LPetitionDesk$Petition;)V" } : Jvm.MethodName)) ∈ lw_all := lw_g (lw_at lw_m1 183 rfl) rfl
theorem q285 : (Jvm.Cond.interfaceEntry "PetitionDesk$Petition" (50 : Nat)) ∈ lw_tbl := lw_at lw_m1 197 rfl
theorem q286 : (Jvm.Cond.methodLink "PetitionDesk$Petition" (50 : Nat) ({ cls := "java/util/Iterator", name := "hasNext", desc := "()Z" } : Jvm.MethodName)) ∈ lw_all := lw_g (lw_at lw_m1 198 rfl) rfl
theorem q306 : (Jvm.Cond.interfaceEntry "PetitionDesk$Petition" (56 : Nat)) ∈ lw_tbl := lw_at lw_m1 218 rfl
theorem q307 : (Jvm.Cond.methodLink "PetitionDesk$Petition" (56 : Nat) ({ cls := "java/util/Iterator", name := "next", desc := "()Ljava/lang/Object;" } : Jvm.MethodName)) ∈ lw_all := lw_g (lw_at lw_m1 219 rfl) rfl
theorem q398 : (Jvm.Cond.methodLink "PetitionDesk$Petition" (115 : Nat) ({ cls := "PetitionDesk$Petition", name := "firstOf", desc := "(LPetitionDesk$Line;)I" } : Jvm.MethodName)) ∈ lw_all := lw_g (lw_at lw_m2 70 rfl) rfl
theorem q399 : (Jvm.Cond.privateMethod ({ cls := "PetitionDesk$Petition", name := "firstOf", desc := "(LPetitionDesk$Line;)I" } : Jvm.MethodName)) ∈ lw_tbl := lw_at lw_m2 71 rfl
theorem q400 : (Jvm.Cond.instanceMethod ({ cls := "PetitionDesk$Petition", name := "firstOf", desc := "(LPetitionDesk$Line;)I" } : Jvm.MethodName)) ∈ lw_all := lw_g (lw_at lw_m2 72 rfl) rfl
theorem q401 : (Jvm.Cond.code ({ cls := "PetitionDesk$Petition", name := "firstOf", desc := "(LPetitionDesk$Line;)I" } : Jvm.MethodName) prog_3_method_10_code (2 : Nat) (Option.some Jvm.ClassFile.FieldType.int)) ∈ lw_all := lw_g (lw_at lw_m2 73 rfl) rfl
theorem q402 : (Jvm.Cond.methodLinkNest "PetitionDesk$Petition" (135 : Nat) ({ cls := "PetitionDesk", name := "isIn", desc := "(JJJ)Z" } : Jvm.MethodName) "PetitionDesk") ∈ lw_tbl := lw_at lw_m2 74 rfl
theorem q405 : (Jvm.Cond.interfaceEntry "PetitionDesk$Petition" (142 : Nat)) ∈ lw_tbl := lw_at lw_m2 77 rfl
theorem q406 : (Jvm.Cond.methodLink "PetitionDesk$Petition" (142 : Nat) ({ cls := "PetitionDesk$Rule", name := "is", desc := "(LPetitionDesk$Line;)Z" } : Jvm.MethodName)) ∈ lw_all := lw_g (lw_at lw_m2 78 rfl) rfl
theorem q409 : (Jvm.Cond.methodLink "PetitionDesk$Petition" (121 : Nat) ({ cls := "PetitionDesk$Petition", name := "strikes", desc := "()V" } : Jvm.MethodName)) ∈ lw_all := lw_g (lw_at lw_m2 81 rfl) rfl
theorem q410 : (Jvm.Cond.privateMethod ({ cls := "PetitionDesk$Petition", name := "strikes", desc := "()V" } : Jvm.MethodName)) ∈ lw_tbl := lw_at lw_m2 82 rfl
theorem q411 : (Jvm.Cond.instanceMethod ({ cls := "PetitionDesk$Petition", name := "strikes", desc := "()V" } : Jvm.MethodName)) ∈ lw_all := lw_g (lw_at lw_m2 83 rfl) rfl
theorem q412 : (Jvm.Cond.code ({ cls := "PetitionDesk$Petition", name := "strikes", desc := "()V" } : Jvm.MethodName) prog_3_method_11_code (5 : Nat) (Option.none : Option Jvm.ClassFile.FieldType)) ∈ lw_all := lw_g (lw_at lw_m2 84 rfl) rfl
theorem q413 : (Jvm.Cond.interfaceEntry "PetitionDesk$Petition" (44 : Nat)) ∈ lw_tbl := lw_at lw_m2 85 rfl
theorem q414 : (Jvm.Cond.methodLink "PetitionDesk$Petition" (44 : Nat) ({ cls := "java/util/List", name := "iterator", desc := "()Ljava/util/Iterator;" } : Jvm.MethodName)) ∈ lw_all := lw_g (lw_at lw_m2 86 rfl) rfl
theorem q441 : (Jvm.Cond.interfaceEntry "PetitionDesk$Petition" (152 : Nat)) ∈ lw_tbl := lw_at lw_m2 113 rfl
theorem q442 : (Jvm.Cond.methodLink "PetitionDesk$Petition" (152 : Nat) ({ cls := "java/util/List", name := "isEmpty", desc := "()Z" } : Jvm.MethodName)) ∈ lw_all := lw_g (lw_at lw_m2 114 rfl) rfl
theorem q450 : (Jvm.Cond.methodLink "PetitionDesk$Petition" (155 : Nat) ({ cls := "PetitionDesk$Sheet", name := "spoilt", desc := "()I" } : Jvm.MethodName)) ∈ lw_all := lw_g (lw_at lw_m2 122 rfl) rfl
theorem q465 : (Jvm.Cond.methodLink "PetitionDesk$Petition" (124 : Nat) ({ cls := "PetitionDesk$Petition", name := "doubles", desc := "()V" } : Jvm.MethodName)) ∈ lw_all := lw_g (lw_at lw_m2 137 rfl) rfl
theorem q466 : (Jvm.Cond.privateMethod ({ cls := "PetitionDesk$Petition", name := "doubles", desc := "()V" } : Jvm.MethodName)) ∈ lw_tbl := lw_at lw_m2 138 rfl
theorem q467 : (Jvm.Cond.instanceMethod ({ cls := "PetitionDesk$Petition", name := "doubles", desc := "()V" } : Jvm.MethodName)) ∈ lw_all := lw_g (lw_at lw_m2 139 rfl) rfl
theorem q468 : (Jvm.Cond.code ({ cls := "PetitionDesk$Petition", name := "doubles", desc := "()V" } : Jvm.MethodName) prog_3_method_12_code (5 : Nat) (Option.none : Option Jvm.ClassFile.FieldType)) ∈ lw_all := lw_g (lw_at lw_m2 140 rfl) rfl
theorem q469 : (Jvm.Cond.interfaceEntry "PetitionDesk$Petition" (160 : Nat)) ∈ lw_tbl := lw_at lw_m2 141 rfl
theorem q470 : (Jvm.Cond.methodLink "PetitionDesk$Petition" (160 : Nat) ({ cls := "java/util/List", name := "indexOf", desc := "(Ljava/lang/Object;)I" } : Jvm.MethodName)) ∈ lw_all := lw_g (lw_at lw_m2 142 rfl) rfl
theorem q488 : (Jvm.Cond.selects "PetitionDesk$Petition" ({ cls := "java/lang/Object", name := "equals", desc := "(Ljava/lang/Object;)Z" } : Jvm.MethodName) ({ cls := "java/lang/Object", name := "equals", desc := "(Ljava/lang/Object;)Z" } : Jvm.MethodName)) ∈ lw_all := lw_g (lw_at lw_m2 160 rfl) rfl
theorem q579 : (Jvm.Cond.instanceMethod ({ cls := "PetitionDesk$Petition", name := "judgedSo", desc := "(I)I" } : Jvm.MethodName)) ∈ lw_all := lw_g (lw_at lw_m3 11 rfl) rfl
theorem q580 : (Jvm.Cond.selects "PetitionDesk$Petition" ({ cls := "PetitionDesk$Petition", name := "judgedSo", desc := "(I)I" } : Jvm.MethodName) ({ cls := "PetitionDesk$Petition", name := "judgedSo", desc := "(I)I" } : Jvm.MethodName)) ∈ lw_all := lw_g (lw_at lw_m3 12 rfl) rfl
theorem q581 : (Jvm.Cond.code ({ cls := "PetitionDesk$Petition", name := "judgedSo", desc := "(I)I" } : Jvm.MethodName) prog_3_method_13_code (5 : Nat) (Option.some Jvm.ClassFile.FieldType.int)) ∈ lw_all := lw_g (lw_at lw_m3 13 rfl) rfl
theorem q587 : (Jvm.Cond.instanceMethod ({ cls := "PetitionDesk$Petition", name := "lines", desc := "()I" } : Jvm.MethodName)) ∈ lw_all := lw_g (lw_at lw_m3 19 rfl) rfl
theorem q588 : (Jvm.Cond.selects "PetitionDesk$Petition" ({ cls := "PetitionDesk$Petition", name := "lines", desc := "()I" } : Jvm.MethodName) ({ cls := "PetitionDesk$Petition", name := "lines", desc := "()I" } : Jvm.MethodName)) ∈ lw_all := lw_g (lw_at lw_m3 20 rfl) rfl
theorem q589 : (Jvm.Cond.code ({ cls := "PetitionDesk$Petition", name := "lines", desc := "()I" } : Jvm.MethodName) prog_3_method_7_code (4 : Nat) (Option.some Jvm.ClassFile.FieldType.int)) ∈ lw_all := lw_g (lw_at lw_m3 21 rfl) rfl
theorem q1094 : (Jvm.Cond.instanceMethod ({ cls := "PetitionDesk$Petition", name := "voterOf", desc := "(Ljava/lang/String;I)LPetitionDesk$Voter;" } : Jvm.MethodName)) ∈ lw_all := lw_g (lw_at lw_m5 46 rfl) rfl
theorem q1095 : (Jvm.Cond.selects "PetitionDesk$Petition" ({ cls := "PetitionDesk$Petition", name := "voterOf", desc := "(Ljava/lang/String;I)LPetitionDesk$Voter;" } : Jvm.MethodName) ({ cls := "PetitionDesk$Petition", name := "voterOf", desc := "(Ljava/lang/String;I)LPetitionDesk$Voter;" } : Jvm.MethodName)) ∈ lw_all := lw_g (lw_at lw_m5 47 rfl) rfl
theorem q1096 : (Jvm.Cond.code ({ cls := "PetitionDesk$Petition", name := "voterOf", desc := "(Ljava/lang/String;I)LPetitionDesk$Voter;" } : Jvm.MethodName) prog_3_method_6_code (5 : Nat) (Option.some (Jvm.ClassFile.FieldType.object "PetitionDesk$Voter"))) ∈ lw_all := lw_g (lw_at lw_m5 48 rfl) rfl
theorem q1097 : (Jvm.Cond.classLink "PetitionDesk$Petition" (83 : Nat) "PetitionDesk$Voter") ∈ lw_all := lw_g (lw_at lw_m5 49 rfl) rfl
theorem q1098 : (Jvm.Cond.methodLink "PetitionDesk$Petition" (85 : Nat) ({ cls := "PetitionDesk$Voter", name := "isAt", desc := "(Ljava/lang/String;I)Z" } : Jvm.MethodName)) ∈ lw_all := lw_g (lw_at lw_m5 50 rfl) rfl
theorem q1117 : (Jvm.Cond.fieldLinkNest "PetitionDesk$Petition" (139 : Nat) "PetitionDesk$Voter" "since" "I" "PetitionDesk") ∈ lw_tbl := lw_at lw_m5 69 rfl
theorem q1157 : (Jvm.Cond.selects "PetitionDesk$Petition" ({ cls := "java/lang/Object", name := "getClass", desc := "()Ljava/lang/Class;" } : Jvm.MethodName) ({ cls := "java/lang/Object", name := "getClass", desc := "()Ljava/lang/Class;" } : Jvm.MethodName)) ∈ lw_all := lw_g (lw_at lw_m5 109 rfl) rfl
theorem q1192 : (Jvm.Cond.fieldLinkNest "PetitionDesk$Petition" (89 : Nat) "PetitionDesk$Sheet" "lines" "Ljava/util/List;" "PetitionDesk") ∈ lw_tbl := lw_at lw_m5 144 rfl
theorem q1196 : (Jvm.Cond.fieldLinkNest "PetitionDesk$Petition" (148 : Nat) "PetitionDesk$Sheet" "byHand" "Z" "PetitionDesk") ∈ lw_tbl := lw_at lw_m5 148 rfl
theorem q1198 : (Jvm.Cond.fieldLinkNest "PetitionDesk$Petition" (157 : Nat) "PetitionDesk$Sheet" "isStruck" "Z" "PetitionDesk") ∈ lw_tbl := lw_at lw_m5 150 rfl
theorem q1228 : (Jvm.Cond.fieldLinkNest "PetitionDesk$Petition" (132 : Nat) "PetitionDesk$Line" "day" "I" "PetitionDesk") ∈ lw_tbl := lw_at lw_m5 180 rfl
theorem q1232 : (Jvm.Cond.fieldLinkNest "PetitionDesk$Petition" (128 : Nat) "PetitionDesk$Line" "voter" "LPetitionDesk$Voter;" "PetitionDesk") ∈ lw_tbl := lw_at lw_m5 184 rfl
theorem q1235 : (Jvm.Cond.fieldLinkNest "PetitionDesk$Petition" (105 : Nat) "PetitionDesk$Line" "number" "I" "PetitionDesk") ∈ lw_tbl := lw_at lw_m5 187 rfl
theorem q1237 : (Jvm.Cond.fieldLinkNest "PetitionDesk$Petition" (102 : Nat) "PetitionDesk$Line" "sheet" "I" "PetitionDesk") ∈ lw_tbl := lw_at lw_m5 189 rfl
theorem q1240 : (Jvm.Cond.fieldLinkNest "PetitionDesk$Petition" (112 : Nat) "PetitionDesk$Line" "ahead" "I" "PetitionDesk") ∈ lw_tbl := lw_at lw_m5 192 rfl
theorem q1243 : (Jvm.Cond.fieldLinkNest "PetitionDesk$Petition" (118 : Nat) "PetitionDesk$Line" "judged" "I" "PetitionDesk") ∈ lw_tbl := lw_at lw_m5 195 rfl
theorem q1366 : (Jvm.Cond.instanceMethod ({ cls := "PetitionDesk$Petition", name := "copy", desc := "()LPetitionDesk$Petition;" } : Jvm.MethodName)) ∈ lw_all := lw_g (lw_at lw_m6 78 rfl) rfl
theorem q1367 : (Jvm.Cond.selects "PetitionDesk$Petition" ({ cls := "PetitionDesk$Petition", name := "copy", desc := "()LPetitionDesk$Petition;" } : Jvm.MethodName) ({ cls := "PetitionDesk$Petition", name := "copy", desc := "()LPetitionDesk$Petition;" } : Jvm.MethodName)) ∈ lw_all := lw_g (lw_at lw_m6 79 rfl) rfl
theorem q1368 : (Jvm.Cond.code ({ cls := "PetitionDesk$Petition", name := "copy", desc := "()LPetitionDesk$Petition;" } : Jvm.MethodName) prog_3_method_3_code (4 : Nat) (Option.some (Jvm.ClassFile.FieldType.object "PetitionDesk$Petition"))) ∈ lw_all := lw_g (lw_at lw_m6 80 rfl) rfl
theorem q1369 : (Jvm.Cond.classLink "PetitionDesk$Petition" (10 : Nat) "PetitionDesk$Petition") ∈ lw_all := lw_g (lw_at lw_m6 81 rfl) rfl
theorem q1370 : (Jvm.Cond.methodLink "PetitionDesk$Petition" (62 : Nat) ({ cls := "PetitionDesk$Sheet", name := "copy", desc := "()LPetitionDesk$Sheet;" } : Jvm.MethodName)) ∈ lw_all := lw_g (lw_at lw_m6 82 rfl) rfl
theorem q1384 : (Jvm.Cond.interfaceEntry "PetitionDesk$Petition" (66 : Nat)) ∈ lw_tbl := lw_at lw_m6 96 rfl
theorem q1385 : (Jvm.Cond.methodLink "PetitionDesk$Petition" (66 : Nat) ({ cls := "java/util/List", name := "add", desc := "(Ljava/lang/Object;)Z" } : Jvm.MethodName)) ∈ lw_all := lw_g (lw_at lw_m6 97 rfl) rfl
theorem q1409 : (Jvm.Cond.instanceMethod ({ cls := "PetitionDesk$Petition", name := "goodBy", desc := "(J)[I" } : Jvm.MethodName)) ∈ lw_all := lw_g (lw_at lw_m6 121 rfl) rfl
theorem q1410 : (Jvm.Cond.selects "PetitionDesk$Petition" ({ cls := "PetitionDesk$Petition", name := "goodBy", desc := "(J)[I" } : Jvm.MethodName) ({ cls := "PetitionDesk$Petition", name := "goodBy", desc := "(J)[I" } : Jvm.MethodName)) ∈ lw_all := lw_g (lw_at lw_m6 122 rfl) rfl
theorem q1411 : (Jvm.Cond.code ({ cls := "PetitionDesk$Petition", name := "goodBy", desc := "(J)[I" } : Jvm.MethodName) prog_3_method_15_code (7 : Nat) (Option.some (Jvm.ClassFile.FieldType.array Jvm.ClassFile.FieldType.int))) ∈ lw_all := lw_g (lw_at lw_m6 123 rfl) rfl
theorem q1412 : (Jvm.Cond.methodLinkNest "PetitionDesk$Petition" (164 : Nat) ({ cls := "PetitionDesk", name := "has", desc := "(JI)Z" } : Jvm.MethodName) "PetitionDesk") ∈ lw_tbl := lw_at lw_m6 124 rfl
theorem q1413 : (Jvm.Cond.methodLink "PetitionDesk$Petition" (168 : Nat) ({ cls := "PetitionDesk$Line", name := "isGood", desc := "()Z" } : Jvm.MethodName)) ∈ lw_all := lw_g (lw_at lw_m6 125 rfl) rfl
theorem q1500 : (Jvm.Cond.instanceMethod ({ cls := "PetitionDesk$Petition", name := "struck", desc := "()I" } : Jvm.MethodName)) ∈ lw_all := lw_g (lw_at lw_m6 212 rfl) rfl
theorem q1501 : (Jvm.Cond.selects "PetitionDesk$Petition" ({ cls := "PetitionDesk$Petition", name := "struck", desc := "()I" } : Jvm.MethodName) ({ cls := "PetitionDesk$Petition", name := "struck", desc := "()I" } : Jvm.MethodName)) ∈ lw_all := lw_g (lw_at lw_m6 213 rfl) rfl
theorem q1502 : (Jvm.Cond.code ({ cls := "PetitionDesk$Petition", name := "struck", desc := "()I" } : Jvm.MethodName) prog_3_method_14_code (3 : Nat) (Option.some Jvm.ClassFile.FieldType.int)) ∈ lw_all := lw_g (lw_at lw_m6 214 rfl) rfl
theorem q2091 : (Jvm.Cond.castable "PetitionDesk$Petition" "java/lang/Object") ∈ lw_tbl := lw_at lw_m9 83 rfl
theorem in_X2 : ∀ w ∈ wsX20, w ∈ lw_all := lw_in wsX20 [203, 205, 207, 209, 211, 213, 215, 217, 219] (by decide +kernel) (by decide +kernel)
