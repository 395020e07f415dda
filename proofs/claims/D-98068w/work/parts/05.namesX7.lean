/-! RainWalkModel -/
set_option maxRecDepth 100000
def RX7 : String := "RainWalkModel"
def TX7 : u_T := fun k => match k with
  | 0 => ("RainWalkModel", "thrown", "I", false)
  | 1 => ("RainWalkModel", "trouble", "I", false)
  | 2 => ("RainWalkModel", "where", "I", false)
  | 3 => ("RainWalkModel", "world", "LRainWalkModel$World;", false)
  | 4 => ("RainWalkModel", "read", "LRainWalkModel$World;", false)
  | 5 => ("RainWalkModel", "tape", "[B", true)
  | 6 => ("RainWalkModel", "taped", "I", false)
  | 7 => ("RainWalkModel", "size", "I", false)
  | 8 => ("RainWalkModel", "spot", "I", false)
  | 9 => ("RainWalkModel", "sort", "I", false)
  | 10 => ("RainWalkModel", "place", "I", false)
  | 11 => ("RainWalkModel", "sign", "I", false)
  | 12 => ("RainWalkModel", "number", "I", false)
  | 13 => ("RainWalkModel", "fault", "I", false)
  | 14 => ("RainWalkModel", "wrongAt", "I", false)
  | 15 => ("RainWalkModel", "word", "J", false)
  | 16 => ("RainWalkModel", "least", "[J", true)
  | 17 => ("RainWalkModel", "arrives", "[I", true)
  | 18 => ("RainWalkModel", "stepBy", "[I", true)
  | 19 => ("RainWalkModel", "who", "I", false)
  | 20 => ("RainWalkModel", "rains", "I", false)
  | 21 => ("RainWalkModel", "d", "[J", true)
  | 22 => ("RainWalkModel", "past", "[J", true)
  | 23 => ("RainWalkModel", "kept", "[J", true)
  | 24 => ("RainWalkModel", "acts", "I", false)
  | _ => ("RainWalkModel", "marks", "I", false)
def tyX7 : Nat → FieldType := fun k => match k with
  | 0 => .int
  | 1 => .int
  | 2 => .int
  | 3 => .object "RainWalkModel$World"
  | 4 => .object "RainWalkModel$World"
  | 5 => .array .byte
  | 6 => .int
  | 7 => .int
  | 8 => .int
  | 9 => .int
  | 10 => .int
  | 11 => .int
  | 12 => .int
  | 13 => .int
  | 14 => .int
  | 15 => .long
  | 16 => .array .long
  | 17 => .array .int
  | 18 => .array .int
  | 19 => .int
  | 20 => .int
  | 21 => .array .long
  | 22 => .array .long
  | 23 => .array .long
  | 24 => .int
  | _ => .int
abbrev wsX70 : List Cond := u_ws RX7 TX7 26
set_option maxRecDepth 100000 in
theorem nmX7 : ∀ a, a < 26 → ∀ b, b < 26 → a ≠ b → (TX7 a).2.1 ≠ (TX7 b).2.1 := by decide +kernel
set_option maxRecDepth 100000 in
theorem tyX7_ok : ∀ k, k < 26 → parseFieldDescriptor (TX7 k).2.2.1 = some (tyX7 k) := by decide +kernel
abbrev cX7_init : ByteArray := prog_19_method_1_code
def yX7_init : MethodName := ⟨RX7, "<init>", "()V"⟩
def dkwX7_init_3 : List UInt8 := [181, 0, 37, 177]
abbrev dktX7_init_3 : List UInt8 := dkwX7_init_3 ++ []
def dkwX7_init_2 : List UInt8 := [181, 0, 28, 42, 16, 7, 188, 11, 181, 0, 31, 42, 16, 112, 188, 11, 181, 0, 34, 42, 16, 21, 188, 11]
abbrev dktX7_init_2 : List UInt8 := dkwX7_init_2 ++ dktX7_init_3
def dkwX7_init_1 : List UInt8 := [181, 0, 17, 42, 17, 12, 136, 188, 10, 181, 0, 21, 42, 17, 12, 136, 188, 10, 181, 0, 25, 42, 16, 254]
abbrev dktX7_init_1 : List UInt8 := dkwX7_init_1 ++ dktX7_init_2
def dkwX7_init_0 : List UInt8 := [42, 183, 0, 3, 42, 2, 181, 0, 9, 42, 17, 3, 132, 188, 8, 181, 0, 13, 42, 17, 12, 136, 188, 11]
abbrev dktX7_init_0 : List UInt8 := dkwX7_init_0 ++ dktX7_init_1
theorem dksX7_init_0 : cX7_init.data.toList.drop 0 = dktX7_init_0 := by decide +kernel
theorem dksX7_init_1 : cX7_init.data.toList.drop 24 = dktX7_init_1 := dk_seg dksX7_init_0 24 rfl rfl
theorem dksX7_init_2 : cX7_init.data.toList.drop 48 = dktX7_init_2 := dk_seg dksX7_init_1 24 rfl rfl
theorem dksX7_init_3 : cX7_init.data.toList.drop 72 = dktX7_init_3 := dk_seg dksX7_init_2 24 rfl rfl
theorem dX7_init_0 : decode cX7_init 0 = .ok (.aload_n 0, 1) := dk_42 (dk_at dksX7_init_0 0 rfl rfl)
theorem dX7_init_1 : decode cX7_init 1 = .ok (.invokespecial 3, 3) := dk_183 0 3 (dk_at dksX7_init_0 1 rfl rfl)
theorem dX7_init_4 : decode cX7_init 4 = .ok (.aload_n 0, 1) := dk_42 (dk_at dksX7_init_0 4 rfl rfl)
theorem dX7_init_5 : decode cX7_init 5 = .ok (.iconst (-1), 1) := dk_2 (dk_at dksX7_init_0 5 rfl rfl)
theorem dX7_init_6 : decode cX7_init 6 = .ok (.putfield 9, 3) := dk_181 0 9 (dk_at dksX7_init_0 6 rfl rfl)
theorem dX7_init_9 : decode cX7_init 9 = .ok (.aload_n 0, 1) := dk_42 (dk_at dksX7_init_0 9 rfl rfl)
theorem dX7_init_10 : decode cX7_init 10 = .ok (.sipush 900, 3) := dk_17 3 132 (dk_at dksX7_init_0 10 rfl rfl)
theorem dX7_init_13 : decode cX7_init 13 = .ok (.newarray .byte, 2) := dk_188_8 (dk_at dksX7_init_0 13 rfl rfl)
theorem dX7_init_15 : decode cX7_init 15 = .ok (.putfield 13, 3) := dk_181 0 13 (dk_at dksX7_init_0 15 rfl rfl)
theorem dX7_init_18 : decode cX7_init 18 = .ok (.aload_n 0, 1) := dk_42 (dk_at dksX7_init_0 18 rfl rfl)
theorem dX7_init_19 : decode cX7_init 19 = .ok (.sipush 3208, 3) := dk_17 12 136 (dk_at dksX7_init_0 19 rfl rfl)
theorem dX7_init_22 : decode cX7_init 22 = .ok (.newarray .long, 2) := dk_188_11 (dk_at dksX7_init_0 22 rfl rfl)
theorem dX7_init_24 : decode cX7_init 24 = .ok (.putfield 17, 3) := dk_181 0 17 (dk_at dksX7_init_1 0 rfl rfl)
theorem dX7_init_27 : decode cX7_init 27 = .ok (.aload_n 0, 1) := dk_42 (dk_at dksX7_init_1 3 rfl rfl)
theorem dX7_init_28 : decode cX7_init 28 = .ok (.sipush 3208, 3) := dk_17 12 136 (dk_at dksX7_init_1 4 rfl rfl)
theorem dX7_init_31 : decode cX7_init 31 = .ok (.newarray .int, 2) := dk_188_10 (dk_at dksX7_init_1 7 rfl rfl)
theorem dX7_init_33 : decode cX7_init 33 = .ok (.putfield 21, 3) := dk_181 0 21 (dk_at dksX7_init_1 9 rfl rfl)
theorem dX7_init_36 : decode cX7_init 36 = .ok (.aload_n 0, 1) := dk_42 (dk_at dksX7_init_1 12 rfl rfl)
theorem dX7_init_37 : decode cX7_init 37 = .ok (.sipush 3208, 3) := dk_17 12 136 (dk_at dksX7_init_1 13 rfl rfl)
theorem dX7_init_40 : decode cX7_init 40 = .ok (.newarray .int, 2) := dk_188_10 (dk_at dksX7_init_1 16 rfl rfl)
theorem dX7_init_42 : decode cX7_init 42 = .ok (.putfield 25, 3) := dk_181 0 25 (dk_at dksX7_init_1 18 rfl rfl)
theorem dX7_init_45 : decode cX7_init 45 = .ok (.aload_n 0, 1) := dk_42 (dk_at dksX7_init_1 21 rfl rfl)
theorem dX7_init_46 : decode cX7_init 46 = .ok (.bipush (-2), 2) := dk_16 254 (dk_at dksX7_init_1 22 rfl rfl)
theorem dX7_init_48 : decode cX7_init 48 = .ok (.putfield 28, 3) := dk_181 0 28 (dk_at dksX7_init_2 0 rfl rfl)
theorem dX7_init_51 : decode cX7_init 51 = .ok (.aload_n 0, 1) := dk_42 (dk_at dksX7_init_2 3 rfl rfl)
theorem dX7_init_52 : decode cX7_init 52 = .ok (.bipush 7, 2) := dk_16 7 (dk_at dksX7_init_2 4 rfl rfl)
theorem dX7_init_54 : decode cX7_init 54 = .ok (.newarray .long, 2) := dk_188_11 (dk_at dksX7_init_2 6 rfl rfl)
theorem dX7_init_56 : decode cX7_init 56 = .ok (.putfield 31, 3) := dk_181 0 31 (dk_at dksX7_init_2 8 rfl rfl)
theorem dX7_init_59 : decode cX7_init 59 = .ok (.aload_n 0, 1) := dk_42 (dk_at dksX7_init_2 11 rfl rfl)
theorem dX7_init_60 : decode cX7_init 60 = .ok (.bipush 112, 2) := dk_16 112 (dk_at dksX7_init_2 12 rfl rfl)
theorem dX7_init_62 : decode cX7_init 62 = .ok (.newarray .long, 2) := dk_188_11 (dk_at dksX7_init_2 14 rfl rfl)
theorem dX7_init_64 : decode cX7_init 64 = .ok (.putfield 34, 3) := dk_181 0 34 (dk_at dksX7_init_2 16 rfl rfl)
theorem dX7_init_67 : decode cX7_init 67 = .ok (.aload_n 0, 1) := dk_42 (dk_at dksX7_init_2 19 rfl rfl)
theorem dX7_init_68 : decode cX7_init 68 = .ok (.bipush 21, 2) := dk_16 21 (dk_at dksX7_init_2 20 rfl rfl)
theorem dX7_init_70 : decode cX7_init 70 = .ok (.newarray .long, 2) := dk_188_11 (dk_at dksX7_init_2 22 rfl rfl)
theorem dX7_init_72 : decode cX7_init 72 = .ok (.putfield 37, 3) := dk_181 0 37 (dk_at dksX7_init_3 0 rfl rfl)
theorem dX7_init_75 : decode cX7_init 75 = .ok (.return_, 1) := dk_177 (dk_at dksX7_init_3 3 rfl rfl)
abbrev cX7_thrown : ByteArray := prog_19_method_2_code
def yX7_thrown : MethodName := ⟨RX7, "thrown", "()I"⟩
theorem dX7_thrown_0 : decode cX7_thrown 0 = .ok (.aload_n 0, 1) := by decide +kernel
theorem dX7_thrown_1 : decode cX7_thrown 1 = .ok (.getfield 40, 3) := by decide +kernel
theorem dX7_thrown_4 : decode cX7_thrown 4 = .ok (.ireturn, 1) := by decide +kernel
abbrev cX7_feed : ByteArray := prog_19_method_36_code
def yX7_feed : MethodName := ⟨RX7, "feed", "(IIIII)I"⟩
def dkwX7_feed_5 : List UInt8 := [180, 1, 75, 172]
abbrev dktX7_feed_5 : List UInt8 := dkwX7_feed_5 ++ []
def dkwX7_feed_4 : List UInt8 := [112, 104, 100, 122, 145, 84, 42, 89, 180, 1, 75, 4, 96, 181, 1, 75, 132, 6, 1, 167, 255, 165, 42]
abbrev dktX7_feed_4 : List UInt8 := dkwX7_feed_4 ++ dktX7_feed_5
def dkwX7_feed_3 : List UInt8 := [167, 0, 5, 21, 5, 54, 7, 42, 180, 0, 13, 42, 180, 1, 75, 21, 7, 16, 24, 16, 8, 21, 6, 7]
abbrev dktX7_feed_3 : List UInt8 := dkwX7_feed_3 ++ dktX7_feed_4
def dkwX7_feed_2 : List UInt8 := [28, 167, 0, 28, 21, 6, 16, 12, 162, 0, 7, 29, 167, 0, 17, 21, 6, 16, 16, 162, 0, 8, 21, 4]
abbrev dktX7_feed_2 : List UInt8 := dkwX7_feed_2 ++ dktX7_feed_3
def dkwX7_feed_1 : List UInt8 := [21, 6, 16, 20, 162, 0, 90, 21, 6, 7, 162, 0, 7, 27, 167, 0, 39, 21, 6, 16, 8, 162, 0, 7]
abbrev dktX7_feed_1 : List UInt8 := dkwX7_feed_1 ++ dktX7_feed_2
def dkwX7_feed_0 : List UInt8 := [42, 3, 181, 0, 40, 42, 180, 1, 75, 16, 20, 96, 17, 3, 132, 164, 0, 5, 2, 172, 3, 54, 6]
abbrev dktX7_feed_0 : List UInt8 := dkwX7_feed_0 ++ dktX7_feed_1
theorem dksX7_feed_0 : cX7_feed.data.toList.drop 0 = dktX7_feed_0 := by decide +kernel
theorem dksX7_feed_1 : cX7_feed.data.toList.drop 23 = dktX7_feed_1 := dk_seg dksX7_feed_0 23 rfl rfl
theorem dksX7_feed_2 : cX7_feed.data.toList.drop 47 = dktX7_feed_2 := dk_seg dksX7_feed_1 24 rfl rfl
theorem dksX7_feed_3 : cX7_feed.data.toList.drop 71 = dktX7_feed_3 := dk_seg dksX7_feed_2 24 rfl rfl
theorem dksX7_feed_4 : cX7_feed.data.toList.drop 95 = dktX7_feed_4 := dk_seg dksX7_feed_3 24 rfl rfl
theorem dksX7_feed_5 : cX7_feed.data.toList.drop 118 = dktX7_feed_5 := dk_seg dksX7_feed_4 23 rfl rfl
theorem dX7_feed_0 : decode cX7_feed 0 = .ok (.aload_n 0, 1) := dk_42 (dk_at dksX7_feed_0 0 rfl rfl)
theorem dX7_feed_1 : decode cX7_feed 1 = .ok (.iconst 0, 1) := dk_3 (dk_at dksX7_feed_0 1 rfl rfl)
theorem dX7_feed_2 : decode cX7_feed 2 = .ok (.putfield 40, 3) := dk_181 0 40 (dk_at dksX7_feed_0 2 rfl rfl)
theorem dX7_feed_5 : decode cX7_feed 5 = .ok (.aload_n 0, 1) := dk_42 (dk_at dksX7_feed_0 5 rfl rfl)
theorem dX7_feed_6 : decode cX7_feed 6 = .ok (.getfield 331, 3) := dk_180 1 75 (dk_at dksX7_feed_0 6 rfl rfl)
theorem dX7_feed_9 : decode cX7_feed 9 = .ok (.bipush 20, 2) := dk_16 20 (dk_at dksX7_feed_0 9 rfl rfl)
theorem dX7_feed_11 : decode cX7_feed 11 = .ok (.iadd, 1) := dk_96 (dk_at dksX7_feed_0 11 rfl rfl)
theorem dX7_feed_12 : decode cX7_feed 12 = .ok (.sipush 900, 3) := dk_17 3 132 (dk_at dksX7_feed_0 12 rfl rfl)
theorem dX7_feed_15 : decode cX7_feed 15 = .ok (.if_icmp .le 5, 3) := dk_164 0 5 (dk_at dksX7_feed_0 15 rfl rfl)
theorem dX7_feed_18 : decode cX7_feed 18 = .ok (.iconst (-1), 1) := dk_2 (dk_at dksX7_feed_0 18 rfl rfl)
theorem dX7_feed_19 : decode cX7_feed 19 = .ok (.ireturn, 1) := dk_172 (dk_at dksX7_feed_0 19 rfl rfl)
theorem dX7_feed_20 : decode cX7_feed 20 = .ok (.iconst 0, 1) := dk_3 (dk_at dksX7_feed_0 20 rfl rfl)
theorem dX7_feed_21 : decode cX7_feed 21 = .ok (.istore 6, 2) := dk_54 6 (dk_at dksX7_feed_0 21 rfl rfl)
theorem dX7_feed_23 : decode cX7_feed 23 = .ok (.iload 6, 2) := dk_21 6 (dk_at dksX7_feed_1 0 rfl rfl)
theorem dX7_feed_25 : decode cX7_feed 25 = .ok (.bipush 20, 2) := dk_16 20 (dk_at dksX7_feed_1 2 rfl rfl)
theorem dX7_feed_27 : decode cX7_feed 27 = .ok (.if_icmp .ge 90, 3) := dk_162 0 90 (dk_at dksX7_feed_1 4 rfl rfl)
theorem dX7_feed_30 : decode cX7_feed 30 = .ok (.iload 6, 2) := dk_21 6 (dk_at dksX7_feed_1 7 rfl rfl)
theorem dX7_feed_32 : decode cX7_feed 32 = .ok (.iconst 4, 1) := dk_7 (dk_at dksX7_feed_1 9 rfl rfl)
theorem dX7_feed_33 : decode cX7_feed 33 = .ok (.if_icmp .ge 7, 3) := dk_162 0 7 (dk_at dksX7_feed_1 10 rfl rfl)
theorem dX7_feed_36 : decode cX7_feed 36 = .ok (.iload_n 1, 1) := dk_27 (dk_at dksX7_feed_1 13 rfl rfl)
theorem dX7_feed_37 : decode cX7_feed 37 = .ok (.goto 39, 3) := dk_167 0 39 (dk_at dksX7_feed_1 14 rfl rfl)
theorem dX7_feed_40 : decode cX7_feed 40 = .ok (.iload 6, 2) := dk_21 6 (dk_at dksX7_feed_1 17 rfl rfl)
theorem dX7_feed_42 : decode cX7_feed 42 = .ok (.bipush 8, 2) := dk_16 8 (dk_at dksX7_feed_1 19 rfl rfl)
theorem dX7_feed_44 : decode cX7_feed 44 = .ok (.if_icmp .ge 7, 3) := dk_162 0 7 (dk_at dksX7_feed_1 21 rfl rfl)
theorem dX7_feed_47 : decode cX7_feed 47 = .ok (.iload_n 2, 1) := dk_28 (dk_at dksX7_feed_2 0 rfl rfl)
theorem dX7_feed_48 : decode cX7_feed 48 = .ok (.goto 28, 3) := dk_167 0 28 (dk_at dksX7_feed_2 1 rfl rfl)
theorem dX7_feed_51 : decode cX7_feed 51 = .ok (.iload 6, 2) := dk_21 6 (dk_at dksX7_feed_2 4 rfl rfl)
theorem dX7_feed_53 : decode cX7_feed 53 = .ok (.bipush 12, 2) := dk_16 12 (dk_at dksX7_feed_2 6 rfl rfl)
theorem dX7_feed_55 : decode cX7_feed 55 = .ok (.if_icmp .ge 7, 3) := dk_162 0 7 (dk_at dksX7_feed_2 8 rfl rfl)
theorem dX7_feed_58 : decode cX7_feed 58 = .ok (.iload_n 3, 1) := dk_29 (dk_at dksX7_feed_2 11 rfl rfl)
theorem dX7_feed_59 : decode cX7_feed 59 = .ok (.goto 17, 3) := dk_167 0 17 (dk_at dksX7_feed_2 12 rfl rfl)
theorem dX7_feed_62 : decode cX7_feed 62 = .ok (.iload 6, 2) := dk_21 6 (dk_at dksX7_feed_2 15 rfl rfl)
theorem dX7_feed_64 : decode cX7_feed 64 = .ok (.bipush 16, 2) := dk_16 16 (dk_at dksX7_feed_2 17 rfl rfl)
theorem dX7_feed_66 : decode cX7_feed 66 = .ok (.if_icmp .ge 8, 3) := dk_162 0 8 (dk_at dksX7_feed_2 19 rfl rfl)
theorem dX7_feed_69 : decode cX7_feed 69 = .ok (.iload 4, 2) := dk_21 4 (dk_at dksX7_feed_2 22 rfl rfl)
theorem dX7_feed_71 : decode cX7_feed 71 = .ok (.goto 5, 3) := dk_167 0 5 (dk_at dksX7_feed_3 0 rfl rfl)
theorem dX7_feed_74 : decode cX7_feed 74 = .ok (.iload 5, 2) := dk_21 5 (dk_at dksX7_feed_3 3 rfl rfl)
theorem dX7_feed_76 : decode cX7_feed 76 = .ok (.istore 7, 2) := dk_54 7 (dk_at dksX7_feed_3 5 rfl rfl)
theorem dX7_feed_78 : decode cX7_feed 78 = .ok (.aload_n 0, 1) := dk_42 (dk_at dksX7_feed_3 7 rfl rfl)
theorem dX7_feed_79 : decode cX7_feed 79 = .ok (.getfield 13, 3) := dk_180 0 13 (dk_at dksX7_feed_3 8 rfl rfl)
theorem dX7_feed_82 : decode cX7_feed 82 = .ok (.aload_n 0, 1) := dk_42 (dk_at dksX7_feed_3 11 rfl rfl)
theorem dX7_feed_83 : decode cX7_feed 83 = .ok (.getfield 331, 3) := dk_180 1 75 (dk_at dksX7_feed_3 12 rfl rfl)
theorem dX7_feed_86 : decode cX7_feed 86 = .ok (.iload 7, 2) := dk_21 7 (dk_at dksX7_feed_3 15 rfl rfl)
theorem dX7_feed_88 : decode cX7_feed 88 = .ok (.bipush 24, 2) := dk_16 24 (dk_at dksX7_feed_3 17 rfl rfl)
theorem dX7_feed_90 : decode cX7_feed 90 = .ok (.bipush 8, 2) := dk_16 8 (dk_at dksX7_feed_3 19 rfl rfl)
theorem dX7_feed_92 : decode cX7_feed 92 = .ok (.iload 6, 2) := dk_21 6 (dk_at dksX7_feed_3 21 rfl rfl)
theorem dX7_feed_94 : decode cX7_feed 94 = .ok (.iconst 4, 1) := dk_7 (dk_at dksX7_feed_3 23 rfl rfl)
theorem dX7_feed_95 : decode cX7_feed 95 = .ok (.irem, 1) := dk_112 (dk_at dksX7_feed_4 0 rfl rfl)
theorem dX7_feed_96 : decode cX7_feed 96 = .ok (.imul, 1) := dk_104 (dk_at dksX7_feed_4 1 rfl rfl)
theorem dX7_feed_97 : decode cX7_feed 97 = .ok (.isub, 1) := dk_100 (dk_at dksX7_feed_4 2 rfl rfl)
theorem dX7_feed_98 : decode cX7_feed 98 = .ok (.ishr, 1) := dk_122 (dk_at dksX7_feed_4 3 rfl rfl)
theorem dX7_feed_99 : decode cX7_feed 99 = .ok (.i2b, 1) := dk_145 (dk_at dksX7_feed_4 4 rfl rfl)
theorem dX7_feed_100 : decode cX7_feed 100 = .ok (.bastore, 1) := dk_84 (dk_at dksX7_feed_4 5 rfl rfl)
theorem dX7_feed_101 : decode cX7_feed 101 = .ok (.aload_n 0, 1) := dk_42 (dk_at dksX7_feed_4 6 rfl rfl)
theorem dX7_feed_102 : decode cX7_feed 102 = .ok (.dup, 1) := dk_89 (dk_at dksX7_feed_4 7 rfl rfl)
theorem dX7_feed_103 : decode cX7_feed 103 = .ok (.getfield 331, 3) := dk_180 1 75 (dk_at dksX7_feed_4 8 rfl rfl)
theorem dX7_feed_106 : decode cX7_feed 106 = .ok (.iconst 1, 1) := dk_4 (dk_at dksX7_feed_4 11 rfl rfl)
theorem dX7_feed_107 : decode cX7_feed 107 = .ok (.iadd, 1) := dk_96 (dk_at dksX7_feed_4 12 rfl rfl)
theorem dX7_feed_108 : decode cX7_feed 108 = .ok (.putfield 331, 3) := dk_181 1 75 (dk_at dksX7_feed_4 13 rfl rfl)
theorem dX7_feed_111 : decode cX7_feed 111 = .ok (.iinc 6 1, 3) := dk_132 6 1 (dk_at dksX7_feed_4 16 rfl rfl)
theorem dX7_feed_114 : decode cX7_feed 114 = .ok (.goto (-91), 3) := dk_167 255 165 (dk_at dksX7_feed_4 19 rfl rfl)
theorem dX7_feed_117 : decode cX7_feed 117 = .ok (.aload_n 0, 1) := dk_42 (dk_at dksX7_feed_4 22 rfl rfl)
theorem dX7_feed_118 : decode cX7_feed 118 = .ok (.getfield 331, 3) := dk_180 1 75 (dk_at dksX7_feed_5 0 rfl rfl)
theorem dX7_feed_121 : decode cX7_feed 121 = .ok (.ireturn, 1) := dk_172 (dk_at dksX7_feed_5 3 rfl rfl)
abbrev cX7_world : ByteArray := prog_19_method_37_code
def yX7_world : MethodName := ⟨RX7, "world", "(I)I"⟩
def dkwX7_world_5 : List UInt8 := [180, 0, 193, 182, 0, 50, 172]
abbrev dktX7_world_5 : List UInt8 := dkwX7_world_5 ++ []
def dkwX7_world_4 : List UInt8 := [181, 1, 82, 42, 16, 254, 181, 0, 28, 42, 3, 181, 1, 84, 42, 3, 181, 1, 87, 42, 42, 180, 1, 82]
abbrev dktX7_world_4 : List UInt8 := dkwX7_world_4 ++ dktX7_world_5
def dkwX7_world_3 : List UInt8 := [158, 0, 18, 42, 7, 181, 0, 43, 42, 42, 180, 0, 100, 181, 0, 9, 2, 172, 42, 42, 180, 0, 147]
abbrev dktX7_world_3 : List UInt8 := dkwX7_world_3 ++ dktX7_world_4
def dkwX7_world_2 : List UInt8 := [183, 1, 78, 181, 0, 147, 42, 3, 181, 0, 68, 42, 182, 0, 111, 42, 182, 1, 79, 42, 180, 0, 97]
abbrev dktX7_world_2 : List UInt8 := dkwX7_world_2 ++ dktX7_world_3
def dkwX7_world_1 : List UInt8 := [27, 181, 0, 53, 42, 3, 181, 1, 75, 42, 3, 181, 0, 71, 42, 3, 181, 0, 97, 42, 187, 0, 152, 89]
abbrev dktX7_world_1 : List UInt8 := dkwX7_world_1 ++ dktX7_world_2
def dkwX7_world_0 : List UInt8 := [42, 3, 181, 0, 40, 27, 155, 0, 11, 27, 42, 180, 1, 75, 164, 0, 9, 42, 5, 182, 0, 46, 172, 42]
abbrev dktX7_world_0 : List UInt8 := dkwX7_world_0 ++ dktX7_world_1
theorem dksX7_world_0 : cX7_world.data.toList.drop 0 = dktX7_world_0 := by decide +kernel
theorem dksX7_world_1 : cX7_world.data.toList.drop 24 = dktX7_world_1 := dk_seg dksX7_world_0 24 rfl rfl
theorem dksX7_world_2 : cX7_world.data.toList.drop 48 = dktX7_world_2 := dk_seg dksX7_world_1 24 rfl rfl
theorem dksX7_world_3 : cX7_world.data.toList.drop 71 = dktX7_world_3 := dk_seg dksX7_world_2 23 rfl rfl
theorem dksX7_world_4 : cX7_world.data.toList.drop 94 = dktX7_world_4 := dk_seg dksX7_world_3 23 rfl rfl
theorem dksX7_world_5 : cX7_world.data.toList.drop 118 = dktX7_world_5 := dk_seg dksX7_world_4 24 rfl rfl
theorem dX7_world_0 : decode cX7_world 0 = .ok (.aload_n 0, 1) := dk_42 (dk_at dksX7_world_0 0 rfl rfl)
theorem dX7_world_1 : decode cX7_world 1 = .ok (.iconst 0, 1) := dk_3 (dk_at dksX7_world_0 1 rfl rfl)
theorem dX7_world_2 : decode cX7_world 2 = .ok (.putfield 40, 3) := dk_181 0 40 (dk_at dksX7_world_0 2 rfl rfl)
theorem dX7_world_5 : decode cX7_world 5 = .ok (.iload_n 1, 1) := dk_27 (dk_at dksX7_world_0 5 rfl rfl)
theorem dX7_world_6 : decode cX7_world 6 = .ok (.ifCond .lt 11, 3) := dk_155 0 11 (dk_at dksX7_world_0 6 rfl rfl)
theorem dX7_world_9 : decode cX7_world 9 = .ok (.iload_n 1, 1) := dk_27 (dk_at dksX7_world_0 9 rfl rfl)
theorem dX7_world_10 : decode cX7_world 10 = .ok (.aload_n 0, 1) := dk_42 (dk_at dksX7_world_0 10 rfl rfl)
theorem dX7_world_11 : decode cX7_world 11 = .ok (.getfield 331, 3) := dk_180 1 75 (dk_at dksX7_world_0 11 rfl rfl)
theorem dX7_world_14 : decode cX7_world 14 = .ok (.if_icmp .le 9, 3) := dk_164 0 9 (dk_at dksX7_world_0 14 rfl rfl)
theorem dX7_world_17 : decode cX7_world 17 = .ok (.aload_n 0, 1) := dk_42 (dk_at dksX7_world_0 17 rfl rfl)
theorem dX7_world_18 : decode cX7_world 18 = .ok (.iconst 2, 1) := dk_5 (dk_at dksX7_world_0 18 rfl rfl)
theorem dX7_world_19 : decode cX7_world 19 = .ok (.invokevirtual 46, 3) := dk_182 0 46 (dk_at dksX7_world_0 19 rfl rfl)
theorem dX7_world_22 : decode cX7_world 22 = .ok (.ireturn, 1) := dk_172 (dk_at dksX7_world_0 22 rfl rfl)
theorem dX7_world_23 : decode cX7_world 23 = .ok (.aload_n 0, 1) := dk_42 (dk_at dksX7_world_0 23 rfl rfl)
theorem dX7_world_24 : decode cX7_world 24 = .ok (.iload_n 1, 1) := dk_27 (dk_at dksX7_world_1 0 rfl rfl)
theorem dX7_world_25 : decode cX7_world 25 = .ok (.putfield 53, 3) := dk_181 0 53 (dk_at dksX7_world_1 1 rfl rfl)
theorem dX7_world_28 : decode cX7_world 28 = .ok (.aload_n 0, 1) := dk_42 (dk_at dksX7_world_1 4 rfl rfl)
theorem dX7_world_29 : decode cX7_world 29 = .ok (.iconst 0, 1) := dk_3 (dk_at dksX7_world_1 5 rfl rfl)
theorem dX7_world_30 : decode cX7_world 30 = .ok (.putfield 331, 3) := dk_181 1 75 (dk_at dksX7_world_1 6 rfl rfl)
theorem dX7_world_33 : decode cX7_world 33 = .ok (.aload_n 0, 1) := dk_42 (dk_at dksX7_world_1 9 rfl rfl)
theorem dX7_world_34 : decode cX7_world 34 = .ok (.iconst 0, 1) := dk_3 (dk_at dksX7_world_1 10 rfl rfl)
theorem dX7_world_35 : decode cX7_world 35 = .ok (.putfield 71, 3) := dk_181 0 71 (dk_at dksX7_world_1 11 rfl rfl)
theorem dX7_world_38 : decode cX7_world 38 = .ok (.aload_n 0, 1) := dk_42 (dk_at dksX7_world_1 14 rfl rfl)
theorem dX7_world_39 : decode cX7_world 39 = .ok (.iconst 0, 1) := dk_3 (dk_at dksX7_world_1 15 rfl rfl)
theorem dX7_world_40 : decode cX7_world 40 = .ok (.putfield 97, 3) := dk_181 0 97 (dk_at dksX7_world_1 16 rfl rfl)
theorem dX7_world_43 : decode cX7_world 43 = .ok (.aload_n 0, 1) := dk_42 (dk_at dksX7_world_1 19 rfl rfl)
theorem dX7_world_44 : decode cX7_world 44 = .ok (.new 152, 3) := dk_187 0 152 (dk_at dksX7_world_1 20 rfl rfl)
theorem dX7_world_47 : decode cX7_world 47 = .ok (.dup, 1) := dk_89 (dk_at dksX7_world_1 23 rfl rfl)
theorem dX7_world_48 : decode cX7_world 48 = .ok (.invokespecial 334, 3) := dk_183 1 78 (dk_at dksX7_world_2 0 rfl rfl)
theorem dX7_world_51 : decode cX7_world 51 = .ok (.putfield 147, 3) := dk_181 0 147 (dk_at dksX7_world_2 3 rfl rfl)
theorem dX7_world_54 : decode cX7_world 54 = .ok (.aload_n 0, 1) := dk_42 (dk_at dksX7_world_2 6 rfl rfl)
theorem dX7_world_55 : decode cX7_world 55 = .ok (.iconst 0, 1) := dk_3 (dk_at dksX7_world_2 7 rfl rfl)
theorem dX7_world_56 : decode cX7_world 56 = .ok (.putfield 68, 3) := dk_181 0 68 (dk_at dksX7_world_2 8 rfl rfl)
theorem dX7_world_59 : decode cX7_world 59 = .ok (.aload_n 0, 1) := dk_42 (dk_at dksX7_world_2 11 rfl rfl)
theorem dX7_world_60 : decode cX7_world 60 = .ok (.invokevirtual 111, 3) := dk_182 0 111 (dk_at dksX7_world_2 12 rfl rfl)
theorem dX7_world_63 : decode cX7_world 63 = .ok (.aload_n 0, 1) := dk_42 (dk_at dksX7_world_2 15 rfl rfl)
theorem dX7_world_64 : decode cX7_world 64 = .ok (.invokevirtual 335, 3) := dk_182 1 79 (dk_at dksX7_world_2 16 rfl rfl)
theorem dX7_world_67 : decode cX7_world 67 = .ok (.aload_n 0, 1) := dk_42 (dk_at dksX7_world_2 19 rfl rfl)
theorem dX7_world_68 : decode cX7_world 68 = .ok (.getfield 97, 3) := dk_180 0 97 (dk_at dksX7_world_2 20 rfl rfl)
theorem dX7_world_71 : decode cX7_world 71 = .ok (.ifCond .le 18, 3) := dk_158 0 18 (dk_at dksX7_world_3 0 rfl rfl)
theorem dX7_world_74 : decode cX7_world 74 = .ok (.aload_n 0, 1) := dk_42 (dk_at dksX7_world_3 3 rfl rfl)
theorem dX7_world_75 : decode cX7_world 75 = .ok (.iconst 4, 1) := dk_7 (dk_at dksX7_world_3 4 rfl rfl)
theorem dX7_world_76 : decode cX7_world 76 = .ok (.putfield 43, 3) := dk_181 0 43 (dk_at dksX7_world_3 5 rfl rfl)
theorem dX7_world_79 : decode cX7_world 79 = .ok (.aload_n 0, 1) := dk_42 (dk_at dksX7_world_3 8 rfl rfl)
theorem dX7_world_80 : decode cX7_world 80 = .ok (.aload_n 0, 1) := dk_42 (dk_at dksX7_world_3 9 rfl rfl)
theorem dX7_world_81 : decode cX7_world 81 = .ok (.getfield 100, 3) := dk_180 0 100 (dk_at dksX7_world_3 10 rfl rfl)
theorem dX7_world_84 : decode cX7_world 84 = .ok (.putfield 9, 3) := dk_181 0 9 (dk_at dksX7_world_3 13 rfl rfl)
theorem dX7_world_87 : decode cX7_world 87 = .ok (.iconst (-1), 1) := dk_2 (dk_at dksX7_world_3 16 rfl rfl)
theorem dX7_world_88 : decode cX7_world 88 = .ok (.ireturn, 1) := dk_172 (dk_at dksX7_world_3 17 rfl rfl)
theorem dX7_world_89 : decode cX7_world 89 = .ok (.aload_n 0, 1) := dk_42 (dk_at dksX7_world_3 18 rfl rfl)
theorem dX7_world_90 : decode cX7_world 90 = .ok (.aload_n 0, 1) := dk_42 (dk_at dksX7_world_3 19 rfl rfl)
theorem dX7_world_91 : decode cX7_world 91 = .ok (.getfield 147, 3) := dk_180 0 147 (dk_at dksX7_world_3 20 rfl rfl)
theorem dX7_world_94 : decode cX7_world 94 = .ok (.putfield 338, 3) := dk_181 1 82 (dk_at dksX7_world_4 0 rfl rfl)
theorem dX7_world_97 : decode cX7_world 97 = .ok (.aload_n 0, 1) := dk_42 (dk_at dksX7_world_4 3 rfl rfl)
theorem dX7_world_98 : decode cX7_world 98 = .ok (.bipush (-2), 2) := dk_16 254 (dk_at dksX7_world_4 4 rfl rfl)
theorem dX7_world_100 : decode cX7_world 100 = .ok (.putfield 28, 3) := dk_181 0 28 (dk_at dksX7_world_4 6 rfl rfl)
theorem dX7_world_103 : decode cX7_world 103 = .ok (.aload_n 0, 1) := dk_42 (dk_at dksX7_world_4 9 rfl rfl)
theorem dX7_world_104 : decode cX7_world 104 = .ok (.iconst 0, 1) := dk_3 (dk_at dksX7_world_4 10 rfl rfl)
theorem dX7_world_105 : decode cX7_world 105 = .ok (.putfield 340, 3) := dk_181 1 84 (dk_at dksX7_world_4 11 rfl rfl)
theorem dX7_world_108 : decode cX7_world 108 = .ok (.aload_n 0, 1) := dk_42 (dk_at dksX7_world_4 14 rfl rfl)
theorem dX7_world_109 : decode cX7_world 109 = .ok (.iconst 0, 1) := dk_3 (dk_at dksX7_world_4 15 rfl rfl)
theorem dX7_world_110 : decode cX7_world 110 = .ok (.putfield 343, 3) := dk_181 1 87 (dk_at dksX7_world_4 16 rfl rfl)
theorem dX7_world_113 : decode cX7_world 113 = .ok (.aload_n 0, 1) := dk_42 (dk_at dksX7_world_4 19 rfl rfl)
theorem dX7_world_114 : decode cX7_world 114 = .ok (.aload_n 0, 1) := dk_42 (dk_at dksX7_world_4 20 rfl rfl)
theorem dX7_world_115 : decode cX7_world 115 = .ok (.getfield 338, 3) := dk_180 1 82 (dk_at dksX7_world_4 21 rfl rfl)
theorem dX7_world_118 : decode cX7_world 118 = .ok (.getfield 193, 3) := dk_180 0 193 (dk_at dksX7_world_5 0 rfl rfl)
theorem dX7_world_121 : decode cX7_world 121 = .ok (.invokevirtual 50, 3) := dk_182 0 50 (dk_at dksX7_world_5 3 rfl rfl)
theorem dX7_world_124 : decode cX7_world 124 = .ok (.ireturn, 1) := dk_172 (dk_at dksX7_world_5 6 rfl rfl)
abbrev cX7_refused : ByteArray := prog_19_method_3_code
def yX7_refused : MethodName := ⟨RX7, "refused", "(I)I"⟩
def dkwX7_refused_0 : List UInt8 := [42, 27, 181, 0, 43, 42, 2, 181, 0, 9, 2, 172]
abbrev dktX7_refused_0 : List UInt8 := dkwX7_refused_0 ++ []
theorem dksX7_refused_0 : cX7_refused.data.toList.drop 0 = dktX7_refused_0 := by decide +kernel
theorem dX7_refused_0 : decode cX7_refused 0 = .ok (.aload_n 0, 1) := dk_42 (dk_at dksX7_refused_0 0 rfl rfl)
theorem dX7_refused_1 : decode cX7_refused 1 = .ok (.iload_n 1, 1) := dk_27 (dk_at dksX7_refused_0 1 rfl rfl)
theorem dX7_refused_2 : decode cX7_refused 2 = .ok (.putfield 43, 3) := dk_181 0 43 (dk_at dksX7_refused_0 2 rfl rfl)
theorem dX7_refused_5 : decode cX7_refused 5 = .ok (.aload_n 0, 1) := dk_42 (dk_at dksX7_refused_0 5 rfl rfl)
theorem dX7_refused_6 : decode cX7_refused 6 = .ok (.iconst (-1), 1) := dk_2 (dk_at dksX7_refused_0 6 rfl rfl)
theorem dX7_refused_7 : decode cX7_refused 7 = .ok (.putfield 9, 3) := dk_181 0 9 (dk_at dksX7_refused_0 7 rfl rfl)
theorem dX7_refused_10 : decode cX7_refused 10 = .ok (.iconst (-1), 1) := dk_2 (dk_at dksX7_refused_0 10 rfl rfl)
theorem dX7_refused_11 : decode cX7_refused 11 = .ok (.ireturn, 1) := dk_172 (dk_at dksX7_refused_0 11 rfl rfl)
abbrev cX7_goesOn : ByteArray := prog_19_method_14_code
def yX7_goesOn : MethodName := ⟨RX7, "goesOn", "()V"⟩
def dkwX7_goesOn_12 : List UInt8 := [181, 0, 71, 177]
abbrev dktX7_goesOn_12 : List UInt8 := dkwX7_goesOn_12 ++ []
def dkwX7_goesOn_11 : List UInt8 := [16, 44, 160, 0, 23, 42, 7, 181, 0, 68, 42, 27, 181, 0, 80, 42, 89, 180, 0, 71, 4, 96]
abbrev dktX7_goesOn_11 : List UInt8 := dkwX7_goesOn_11 ++ dktX7_goesOn_12
def dkwX7_goesOn_10 : List UInt8 := [167, 255, 201, 28, 6, 163, 0, 43, 42, 6, 181, 0, 68, 167, 0, 35, 27, 16, 59, 159, 0, 9, 27]
abbrev dktX7_goesOn_10 : List UInt8 := dkwX7_goesOn_10 ++ dktX7_goesOn_11
def dkwX7_goesOn_9 : List UInt8 := [182, 0, 74, 96, 16, 48, 100, 181, 0, 94, 132, 2, 1, 42, 89, 180, 0, 71, 4, 96, 181, 0, 71]
abbrev dktX7_goesOn_9 : List UInt8 := dkwX7_goesOn_9 ++ dktX7_goesOn_10
def dkwX7_goesOn_8 : List UInt8 := [184, 0, 91, 153, 0, 47, 28, 6, 162, 0, 26, 42, 16, 10, 42, 180, 0, 94, 104, 42, 42, 180, 0, 71]
abbrev dktX7_goesOn_8 : List UInt8 := dkwX7_goesOn_8 ++ dktX7_goesOn_9
def dkwX7_goesOn_7 : List UInt8 := [167, 0, 118, 27, 184, 0, 91, 153, 0, 79, 42, 3, 181, 0, 94, 42, 42, 180, 0, 71, 182, 0, 74]
abbrev dktX7_goesOn_7 : List UInt8 := dkwX7_goesOn_7 ++ dktX7_goesOn_8
def dkwX7_goesOn_6 : List UInt8 := [180, 0, 71, 4, 96, 181, 0, 71, 167, 255, 196, 28, 16, 8, 163, 0, 126, 42, 5, 181, 0, 68]
abbrev dktX7_goesOn_6 : List UInt8 := dkwX7_goesOn_6 ++ dktX7_goesOn_7
def dkwX7_goesOn_5 : List UInt8 := [42, 42, 180, 0, 71, 182, 0, 74, 16, 97, 100, 4, 96, 133, 97, 181, 0, 87, 132, 2, 1, 42, 89]
abbrev dktX7_goesOn_5 : List UInt8 := dkwX7_goesOn_5 ++ dktX7_goesOn_6
def dkwX7_goesOn_4 : List UInt8 := [182, 0, 74, 184, 0, 83, 153, 0, 52, 28, 16, 8, 162, 0, 30, 42, 20, 0, 62, 42, 180, 0, 87, 105]
abbrev dktX7_goesOn_4 : List UInt8 := dkwX7_goesOn_4 ++ dktX7_goesOn_5
def dkwX7_goesOn_3 : List UInt8 := [181, 0, 68, 167, 0, 207, 27, 184, 0, 83, 153, 0, 85, 42, 9, 181, 0, 87, 42, 42, 180, 0, 71]
abbrev dktX7_goesOn_3 : List UInt8 := dkwX7_goesOn_3 ++ dktX7_goesOn_4
def dkwX7_goesOn_2 : List UInt8 := [42, 3, 181, 0, 80, 42, 42, 180, 0, 71, 182, 0, 74, 60, 3, 61, 27, 2, 160, 0, 11, 42, 4]
abbrev dktX7_goesOn_2 : List UInt8 := dkwX7_goesOn_2 ++ dktX7_goesOn_3
def dkwX7_goesOn_1 : List UInt8 := [180, 0, 71, 4, 96, 181, 0, 71, 167, 255, 233, 42, 42, 180, 0, 71, 181, 0, 77, 42, 3, 181, 0, 68]
abbrev dktX7_goesOn_1 : List UInt8 := dkwX7_goesOn_1 ++ dktX7_goesOn_2
def dkwX7_goesOn_0 : List UInt8 := [42, 180, 0, 68, 8, 160, 0, 4, 177, 42, 42, 180, 0, 71, 182, 0, 74, 16, 32, 160, 0, 16, 42, 89]
abbrev dktX7_goesOn_0 : List UInt8 := dkwX7_goesOn_0 ++ dktX7_goesOn_1
theorem dksX7_goesOn_0 : cX7_goesOn.data.toList.drop 0 = dktX7_goesOn_0 := by decide +kernel
theorem dksX7_goesOn_1 : cX7_goesOn.data.toList.drop 24 = dktX7_goesOn_1 := dk_seg dksX7_goesOn_0 24 rfl rfl
theorem dksX7_goesOn_2 : cX7_goesOn.data.toList.drop 48 = dktX7_goesOn_2 := dk_seg dksX7_goesOn_1 24 rfl rfl
theorem dksX7_goesOn_3 : cX7_goesOn.data.toList.drop 71 = dktX7_goesOn_3 := dk_seg dksX7_goesOn_2 23 rfl rfl
theorem dksX7_goesOn_4 : cX7_goesOn.data.toList.drop 94 = dktX7_goesOn_4 := dk_seg dksX7_goesOn_3 23 rfl rfl
theorem dksX7_goesOn_5 : cX7_goesOn.data.toList.drop 118 = dktX7_goesOn_5 := dk_seg dksX7_goesOn_4 24 rfl rfl
theorem dksX7_goesOn_6 : cX7_goesOn.data.toList.drop 141 = dktX7_goesOn_6 := dk_seg dksX7_goesOn_5 23 rfl rfl
theorem dksX7_goesOn_7 : cX7_goesOn.data.toList.drop 163 = dktX7_goesOn_7 := dk_seg dksX7_goesOn_6 22 rfl rfl
theorem dksX7_goesOn_8 : cX7_goesOn.data.toList.drop 186 = dktX7_goesOn_8 := dk_seg dksX7_goesOn_7 23 rfl rfl
theorem dksX7_goesOn_9 : cX7_goesOn.data.toList.drop 210 = dktX7_goesOn_9 := dk_seg dksX7_goesOn_8 24 rfl rfl
theorem dksX7_goesOn_10 : cX7_goesOn.data.toList.drop 233 = dktX7_goesOn_10 := dk_seg dksX7_goesOn_9 23 rfl rfl
theorem dksX7_goesOn_11 : cX7_goesOn.data.toList.drop 256 = dktX7_goesOn_11 := dk_seg dksX7_goesOn_10 23 rfl rfl
theorem dksX7_goesOn_12 : cX7_goesOn.data.toList.drop 278 = dktX7_goesOn_12 := dk_seg dksX7_goesOn_11 22 rfl rfl
theorem dX7_goesOn_0 : decode cX7_goesOn 0 = .ok (.aload_n 0, 1) := dk_42 (dk_at dksX7_goesOn_0 0 rfl rfl)
theorem dX7_goesOn_1 : decode cX7_goesOn 1 = .ok (.getfield 68, 3) := dk_180 0 68 (dk_at dksX7_goesOn_0 1 rfl rfl)
theorem dX7_goesOn_4 : decode cX7_goesOn 4 = .ok (.iconst 5, 1) := dk_8 (dk_at dksX7_goesOn_0 4 rfl rfl)
theorem dX7_goesOn_5 : decode cX7_goesOn 5 = .ok (.if_icmp .ne 4, 3) := dk_160 0 4 (dk_at dksX7_goesOn_0 5 rfl rfl)
theorem dX7_goesOn_8 : decode cX7_goesOn 8 = .ok (.return_, 1) := dk_177 (dk_at dksX7_goesOn_0 8 rfl rfl)
theorem dX7_goesOn_9 : decode cX7_goesOn 9 = .ok (.aload_n 0, 1) := dk_42 (dk_at dksX7_goesOn_0 9 rfl rfl)
theorem dX7_goesOn_10 : decode cX7_goesOn 10 = .ok (.aload_n 0, 1) := dk_42 (dk_at dksX7_goesOn_0 10 rfl rfl)
theorem dX7_goesOn_11 : decode cX7_goesOn 11 = .ok (.getfield 71, 3) := dk_180 0 71 (dk_at dksX7_goesOn_0 11 rfl rfl)
theorem dX7_goesOn_14 : decode cX7_goesOn 14 = .ok (.invokevirtual 74, 3) := dk_182 0 74 (dk_at dksX7_goesOn_0 14 rfl rfl)
theorem dX7_goesOn_17 : decode cX7_goesOn 17 = .ok (.bipush 32, 2) := dk_16 32 (dk_at dksX7_goesOn_0 17 rfl rfl)
theorem dX7_goesOn_19 : decode cX7_goesOn 19 = .ok (.if_icmp .ne 16, 3) := dk_160 0 16 (dk_at dksX7_goesOn_0 19 rfl rfl)
theorem dX7_goesOn_22 : decode cX7_goesOn 22 = .ok (.aload_n 0, 1) := dk_42 (dk_at dksX7_goesOn_0 22 rfl rfl)
theorem dX7_goesOn_23 : decode cX7_goesOn 23 = .ok (.dup, 1) := dk_89 (dk_at dksX7_goesOn_0 23 rfl rfl)
theorem dX7_goesOn_24 : decode cX7_goesOn 24 = .ok (.getfield 71, 3) := dk_180 0 71 (dk_at dksX7_goesOn_1 0 rfl rfl)
theorem dX7_goesOn_27 : decode cX7_goesOn 27 = .ok (.iconst 1, 1) := dk_4 (dk_at dksX7_goesOn_1 3 rfl rfl)
theorem dX7_goesOn_28 : decode cX7_goesOn 28 = .ok (.iadd, 1) := dk_96 (dk_at dksX7_goesOn_1 4 rfl rfl)
theorem dX7_goesOn_29 : decode cX7_goesOn 29 = .ok (.putfield 71, 3) := dk_181 0 71 (dk_at dksX7_goesOn_1 5 rfl rfl)
theorem dX7_goesOn_32 : decode cX7_goesOn 32 = .ok (.goto (-23), 3) := dk_167 255 233 (dk_at dksX7_goesOn_1 8 rfl rfl)
theorem dX7_goesOn_35 : decode cX7_goesOn 35 = .ok (.aload_n 0, 1) := dk_42 (dk_at dksX7_goesOn_1 11 rfl rfl)
theorem dX7_goesOn_36 : decode cX7_goesOn 36 = .ok (.aload_n 0, 1) := dk_42 (dk_at dksX7_goesOn_1 12 rfl rfl)
theorem dX7_goesOn_37 : decode cX7_goesOn 37 = .ok (.getfield 71, 3) := dk_180 0 71 (dk_at dksX7_goesOn_1 13 rfl rfl)
theorem dX7_goesOn_40 : decode cX7_goesOn 40 = .ok (.putfield 77, 3) := dk_181 0 77 (dk_at dksX7_goesOn_1 16 rfl rfl)
theorem dX7_goesOn_43 : decode cX7_goesOn 43 = .ok (.aload_n 0, 1) := dk_42 (dk_at dksX7_goesOn_1 19 rfl rfl)
theorem dX7_goesOn_44 : decode cX7_goesOn 44 = .ok (.iconst 0, 1) := dk_3 (dk_at dksX7_goesOn_1 20 rfl rfl)
theorem dX7_goesOn_45 : decode cX7_goesOn 45 = .ok (.putfield 68, 3) := dk_181 0 68 (dk_at dksX7_goesOn_1 21 rfl rfl)
theorem dX7_goesOn_48 : decode cX7_goesOn 48 = .ok (.aload_n 0, 1) := dk_42 (dk_at dksX7_goesOn_2 0 rfl rfl)
theorem dX7_goesOn_49 : decode cX7_goesOn 49 = .ok (.iconst 0, 1) := dk_3 (dk_at dksX7_goesOn_2 1 rfl rfl)
theorem dX7_goesOn_50 : decode cX7_goesOn 50 = .ok (.putfield 80, 3) := dk_181 0 80 (dk_at dksX7_goesOn_2 2 rfl rfl)
theorem dX7_goesOn_53 : decode cX7_goesOn 53 = .ok (.aload_n 0, 1) := dk_42 (dk_at dksX7_goesOn_2 5 rfl rfl)
theorem dX7_goesOn_54 : decode cX7_goesOn 54 = .ok (.aload_n 0, 1) := dk_42 (dk_at dksX7_goesOn_2 6 rfl rfl)
theorem dX7_goesOn_55 : decode cX7_goesOn 55 = .ok (.getfield 71, 3) := dk_180 0 71 (dk_at dksX7_goesOn_2 7 rfl rfl)
theorem dX7_goesOn_58 : decode cX7_goesOn 58 = .ok (.invokevirtual 74, 3) := dk_182 0 74 (dk_at dksX7_goesOn_2 10 rfl rfl)
theorem dX7_goesOn_61 : decode cX7_goesOn 61 = .ok (.istore_n 1, 1) := dk_60 (dk_at dksX7_goesOn_2 13 rfl rfl)
theorem dX7_goesOn_62 : decode cX7_goesOn 62 = .ok (.iconst 0, 1) := dk_3 (dk_at dksX7_goesOn_2 14 rfl rfl)
theorem dX7_goesOn_63 : decode cX7_goesOn 63 = .ok (.istore_n 2, 1) := dk_61 (dk_at dksX7_goesOn_2 15 rfl rfl)
theorem dX7_goesOn_64 : decode cX7_goesOn 64 = .ok (.iload_n 1, 1) := dk_27 (dk_at dksX7_goesOn_2 16 rfl rfl)
theorem dX7_goesOn_65 : decode cX7_goesOn 65 = .ok (.iconst (-1), 1) := dk_2 (dk_at dksX7_goesOn_2 17 rfl rfl)
theorem dX7_goesOn_66 : decode cX7_goesOn 66 = .ok (.if_icmp .ne 11, 3) := dk_160 0 11 (dk_at dksX7_goesOn_2 18 rfl rfl)
theorem dX7_goesOn_69 : decode cX7_goesOn 69 = .ok (.aload_n 0, 1) := dk_42 (dk_at dksX7_goesOn_2 21 rfl rfl)
theorem dX7_goesOn_70 : decode cX7_goesOn 70 = .ok (.iconst 1, 1) := dk_4 (dk_at dksX7_goesOn_2 22 rfl rfl)
theorem dX7_goesOn_71 : decode cX7_goesOn 71 = .ok (.putfield 68, 3) := dk_181 0 68 (dk_at dksX7_goesOn_3 0 rfl rfl)
theorem dX7_goesOn_74 : decode cX7_goesOn 74 = .ok (.goto 207, 3) := dk_167 0 207 (dk_at dksX7_goesOn_3 3 rfl rfl)
theorem dX7_goesOn_77 : decode cX7_goesOn 77 = .ok (.iload_n 1, 1) := dk_27 (dk_at dksX7_goesOn_3 6 rfl rfl)
theorem dX7_goesOn_78 : decode cX7_goesOn 78 = .ok (.invokestatic 83, 3) := dk_184 0 83 (dk_at dksX7_goesOn_3 7 rfl rfl)
theorem dX7_goesOn_81 : decode cX7_goesOn 81 = .ok (.ifCond .eq 85, 3) := dk_153 0 85 (dk_at dksX7_goesOn_3 10 rfl rfl)
theorem dX7_goesOn_84 : decode cX7_goesOn 84 = .ok (.aload_n 0, 1) := dk_42 (dk_at dksX7_goesOn_3 13 rfl rfl)
theorem dX7_goesOn_85 : decode cX7_goesOn 85 = .ok (.lconst 0, 1) := dk_9 (dk_at dksX7_goesOn_3 14 rfl rfl)
theorem dX7_goesOn_86 : decode cX7_goesOn 86 = .ok (.putfield 87, 3) := dk_181 0 87 (dk_at dksX7_goesOn_3 15 rfl rfl)
theorem dX7_goesOn_89 : decode cX7_goesOn 89 = .ok (.aload_n 0, 1) := dk_42 (dk_at dksX7_goesOn_3 18 rfl rfl)
theorem dX7_goesOn_90 : decode cX7_goesOn 90 = .ok (.aload_n 0, 1) := dk_42 (dk_at dksX7_goesOn_3 19 rfl rfl)
theorem dX7_goesOn_91 : decode cX7_goesOn 91 = .ok (.getfield 71, 3) := dk_180 0 71 (dk_at dksX7_goesOn_3 20 rfl rfl)
theorem dX7_goesOn_94 : decode cX7_goesOn 94 = .ok (.invokevirtual 74, 3) := dk_182 0 74 (dk_at dksX7_goesOn_4 0 rfl rfl)
theorem dX7_goesOn_97 : decode cX7_goesOn 97 = .ok (.invokestatic 83, 3) := dk_184 0 83 (dk_at dksX7_goesOn_4 3 rfl rfl)
theorem dX7_goesOn_100 : decode cX7_goesOn 100 = .ok (.ifCond .eq 52, 3) := dk_153 0 52 (dk_at dksX7_goesOn_4 6 rfl rfl)
theorem dX7_goesOn_103 : decode cX7_goesOn 103 = .ok (.iload_n 2, 1) := dk_28 (dk_at dksX7_goesOn_4 9 rfl rfl)
theorem dX7_goesOn_104 : decode cX7_goesOn 104 = .ok (.bipush 8, 2) := dk_16 8 (dk_at dksX7_goesOn_4 10 rfl rfl)
theorem dX7_goesOn_106 : decode cX7_goesOn 106 = .ok (.if_icmp .ge 30, 3) := dk_162 0 30 (dk_at dksX7_goesOn_4 12 rfl rfl)
theorem dX7_goesOn_109 : decode cX7_goesOn 109 = .ok (.aload_n 0, 1) := dk_42 (dk_at dksX7_goesOn_4 15 rfl rfl)
theorem dX7_goesOn_110 : decode cX7_goesOn 110 = .ok (.ldc2_w 62, 3) := dk_20 0 62 (dk_at dksX7_goesOn_4 16 rfl rfl)
theorem dX7_goesOn_113 : decode cX7_goesOn 113 = .ok (.aload_n 0, 1) := dk_42 (dk_at dksX7_goesOn_4 19 rfl rfl)
theorem dX7_goesOn_114 : decode cX7_goesOn 114 = .ok (.getfield 87, 3) := dk_180 0 87 (dk_at dksX7_goesOn_4 20 rfl rfl)
theorem dX7_goesOn_117 : decode cX7_goesOn 117 = .ok (.lmul, 1) := dk_105 (dk_at dksX7_goesOn_4 23 rfl rfl)
theorem dX7_goesOn_118 : decode cX7_goesOn 118 = .ok (.aload_n 0, 1) := dk_42 (dk_at dksX7_goesOn_5 0 rfl rfl)
theorem dX7_goesOn_119 : decode cX7_goesOn 119 = .ok (.aload_n 0, 1) := dk_42 (dk_at dksX7_goesOn_5 1 rfl rfl)
theorem dX7_goesOn_120 : decode cX7_goesOn 120 = .ok (.getfield 71, 3) := dk_180 0 71 (dk_at dksX7_goesOn_5 2 rfl rfl)
theorem dX7_goesOn_123 : decode cX7_goesOn 123 = .ok (.invokevirtual 74, 3) := dk_182 0 74 (dk_at dksX7_goesOn_5 5 rfl rfl)
theorem dX7_goesOn_126 : decode cX7_goesOn 126 = .ok (.bipush 97, 2) := dk_16 97 (dk_at dksX7_goesOn_5 8 rfl rfl)
theorem dX7_goesOn_128 : decode cX7_goesOn 128 = .ok (.isub, 1) := dk_100 (dk_at dksX7_goesOn_5 10 rfl rfl)
theorem dX7_goesOn_129 : decode cX7_goesOn 129 = .ok (.iconst 1, 1) := dk_4 (dk_at dksX7_goesOn_5 11 rfl rfl)
theorem dX7_goesOn_130 : decode cX7_goesOn 130 = .ok (.iadd, 1) := dk_96 (dk_at dksX7_goesOn_5 12 rfl rfl)
theorem dX7_goesOn_131 : decode cX7_goesOn 131 = .ok (.i2l, 1) := dk_133 (dk_at dksX7_goesOn_5 13 rfl rfl)
theorem dX7_goesOn_132 : decode cX7_goesOn 132 = .ok (.ladd, 1) := dk_97 (dk_at dksX7_goesOn_5 14 rfl rfl)
theorem dX7_goesOn_133 : decode cX7_goesOn 133 = .ok (.putfield 87, 3) := dk_181 0 87 (dk_at dksX7_goesOn_5 15 rfl rfl)
theorem dX7_goesOn_136 : decode cX7_goesOn 136 = .ok (.iinc 2 1, 3) := dk_132 2 1 (dk_at dksX7_goesOn_5 18 rfl rfl)
theorem dX7_goesOn_139 : decode cX7_goesOn 139 = .ok (.aload_n 0, 1) := dk_42 (dk_at dksX7_goesOn_5 21 rfl rfl)
theorem dX7_goesOn_140 : decode cX7_goesOn 140 = .ok (.dup, 1) := dk_89 (dk_at dksX7_goesOn_5 22 rfl rfl)
theorem dX7_goesOn_141 : decode cX7_goesOn 141 = .ok (.getfield 71, 3) := dk_180 0 71 (dk_at dksX7_goesOn_6 0 rfl rfl)
theorem dX7_goesOn_144 : decode cX7_goesOn 144 = .ok (.iconst 1, 1) := dk_4 (dk_at dksX7_goesOn_6 3 rfl rfl)
theorem dX7_goesOn_145 : decode cX7_goesOn 145 = .ok (.iadd, 1) := dk_96 (dk_at dksX7_goesOn_6 4 rfl rfl)
theorem dX7_goesOn_146 : decode cX7_goesOn 146 = .ok (.putfield 71, 3) := dk_181 0 71 (dk_at dksX7_goesOn_6 5 rfl rfl)
theorem dX7_goesOn_149 : decode cX7_goesOn 149 = .ok (.goto (-60), 3) := dk_167 255 196 (dk_at dksX7_goesOn_6 8 rfl rfl)
theorem dX7_goesOn_152 : decode cX7_goesOn 152 = .ok (.iload_n 2, 1) := dk_28 (dk_at dksX7_goesOn_6 11 rfl rfl)
theorem dX7_goesOn_153 : decode cX7_goesOn 153 = .ok (.bipush 8, 2) := dk_16 8 (dk_at dksX7_goesOn_6 12 rfl rfl)
theorem dX7_goesOn_155 : decode cX7_goesOn 155 = .ok (.if_icmp .gt 126, 3) := dk_163 0 126 (dk_at dksX7_goesOn_6 14 rfl rfl)
theorem dX7_goesOn_158 : decode cX7_goesOn 158 = .ok (.aload_n 0, 1) := dk_42 (dk_at dksX7_goesOn_6 17 rfl rfl)
theorem dX7_goesOn_159 : decode cX7_goesOn 159 = .ok (.iconst 2, 1) := dk_5 (dk_at dksX7_goesOn_6 18 rfl rfl)
theorem dX7_goesOn_160 : decode cX7_goesOn 160 = .ok (.putfield 68, 3) := dk_181 0 68 (dk_at dksX7_goesOn_6 19 rfl rfl)
theorem dX7_goesOn_163 : decode cX7_goesOn 163 = .ok (.goto 118, 3) := dk_167 0 118 (dk_at dksX7_goesOn_7 0 rfl rfl)
theorem dX7_goesOn_166 : decode cX7_goesOn 166 = .ok (.iload_n 1, 1) := dk_27 (dk_at dksX7_goesOn_7 3 rfl rfl)
theorem dX7_goesOn_167 : decode cX7_goesOn 167 = .ok (.invokestatic 91, 3) := dk_184 0 91 (dk_at dksX7_goesOn_7 4 rfl rfl)
theorem dX7_goesOn_170 : decode cX7_goesOn 170 = .ok (.ifCond .eq 79, 3) := dk_153 0 79 (dk_at dksX7_goesOn_7 7 rfl rfl)
theorem dX7_goesOn_173 : decode cX7_goesOn 173 = .ok (.aload_n 0, 1) := dk_42 (dk_at dksX7_goesOn_7 10 rfl rfl)
theorem dX7_goesOn_174 : decode cX7_goesOn 174 = .ok (.iconst 0, 1) := dk_3 (dk_at dksX7_goesOn_7 11 rfl rfl)
theorem dX7_goesOn_175 : decode cX7_goesOn 175 = .ok (.putfield 94, 3) := dk_181 0 94 (dk_at dksX7_goesOn_7 12 rfl rfl)
theorem dX7_goesOn_178 : decode cX7_goesOn 178 = .ok (.aload_n 0, 1) := dk_42 (dk_at dksX7_goesOn_7 15 rfl rfl)
theorem dX7_goesOn_179 : decode cX7_goesOn 179 = .ok (.aload_n 0, 1) := dk_42 (dk_at dksX7_goesOn_7 16 rfl rfl)
theorem dX7_goesOn_180 : decode cX7_goesOn 180 = .ok (.getfield 71, 3) := dk_180 0 71 (dk_at dksX7_goesOn_7 17 rfl rfl)
theorem dX7_goesOn_183 : decode cX7_goesOn 183 = .ok (.invokevirtual 74, 3) := dk_182 0 74 (dk_at dksX7_goesOn_7 20 rfl rfl)
theorem dX7_goesOn_186 : decode cX7_goesOn 186 = .ok (.invokestatic 91, 3) := dk_184 0 91 (dk_at dksX7_goesOn_8 0 rfl rfl)
theorem dX7_goesOn_189 : decode cX7_goesOn 189 = .ok (.ifCond .eq 47, 3) := dk_153 0 47 (dk_at dksX7_goesOn_8 3 rfl rfl)
theorem dX7_goesOn_192 : decode cX7_goesOn 192 = .ok (.iload_n 2, 1) := dk_28 (dk_at dksX7_goesOn_8 6 rfl rfl)
theorem dX7_goesOn_193 : decode cX7_goesOn 193 = .ok (.iconst 3, 1) := dk_6 (dk_at dksX7_goesOn_8 7 rfl rfl)
theorem dX7_goesOn_194 : decode cX7_goesOn 194 = .ok (.if_icmp .ge 26, 3) := dk_162 0 26 (dk_at dksX7_goesOn_8 8 rfl rfl)
theorem dX7_goesOn_197 : decode cX7_goesOn 197 = .ok (.aload_n 0, 1) := dk_42 (dk_at dksX7_goesOn_8 11 rfl rfl)
theorem dX7_goesOn_198 : decode cX7_goesOn 198 = .ok (.bipush 10, 2) := dk_16 10 (dk_at dksX7_goesOn_8 12 rfl rfl)
theorem dX7_goesOn_200 : decode cX7_goesOn 200 = .ok (.aload_n 0, 1) := dk_42 (dk_at dksX7_goesOn_8 14 rfl rfl)
theorem dX7_goesOn_201 : decode cX7_goesOn 201 = .ok (.getfield 94, 3) := dk_180 0 94 (dk_at dksX7_goesOn_8 15 rfl rfl)
theorem dX7_goesOn_204 : decode cX7_goesOn 204 = .ok (.imul, 1) := dk_104 (dk_at dksX7_goesOn_8 18 rfl rfl)
theorem dX7_goesOn_205 : decode cX7_goesOn 205 = .ok (.aload_n 0, 1) := dk_42 (dk_at dksX7_goesOn_8 19 rfl rfl)
theorem dX7_goesOn_206 : decode cX7_goesOn 206 = .ok (.aload_n 0, 1) := dk_42 (dk_at dksX7_goesOn_8 20 rfl rfl)
theorem dX7_goesOn_207 : decode cX7_goesOn 207 = .ok (.getfield 71, 3) := dk_180 0 71 (dk_at dksX7_goesOn_8 21 rfl rfl)
theorem dX7_goesOn_210 : decode cX7_goesOn 210 = .ok (.invokevirtual 74, 3) := dk_182 0 74 (dk_at dksX7_goesOn_9 0 rfl rfl)
theorem dX7_goesOn_213 : decode cX7_goesOn 213 = .ok (.iadd, 1) := dk_96 (dk_at dksX7_goesOn_9 3 rfl rfl)
theorem dX7_goesOn_214 : decode cX7_goesOn 214 = .ok (.bipush 48, 2) := dk_16 48 (dk_at dksX7_goesOn_9 4 rfl rfl)
theorem dX7_goesOn_216 : decode cX7_goesOn 216 = .ok (.isub, 1) := dk_100 (dk_at dksX7_goesOn_9 6 rfl rfl)
theorem dX7_goesOn_217 : decode cX7_goesOn 217 = .ok (.putfield 94, 3) := dk_181 0 94 (dk_at dksX7_goesOn_9 7 rfl rfl)
theorem dX7_goesOn_220 : decode cX7_goesOn 220 = .ok (.iinc 2 1, 3) := dk_132 2 1 (dk_at dksX7_goesOn_9 10 rfl rfl)
theorem dX7_goesOn_223 : decode cX7_goesOn 223 = .ok (.aload_n 0, 1) := dk_42 (dk_at dksX7_goesOn_9 13 rfl rfl)
theorem dX7_goesOn_224 : decode cX7_goesOn 224 = .ok (.dup, 1) := dk_89 (dk_at dksX7_goesOn_9 14 rfl rfl)
theorem dX7_goesOn_225 : decode cX7_goesOn 225 = .ok (.getfield 71, 3) := dk_180 0 71 (dk_at dksX7_goesOn_9 15 rfl rfl)
theorem dX7_goesOn_228 : decode cX7_goesOn 228 = .ok (.iconst 1, 1) := dk_4 (dk_at dksX7_goesOn_9 18 rfl rfl)
theorem dX7_goesOn_229 : decode cX7_goesOn 229 = .ok (.iadd, 1) := dk_96 (dk_at dksX7_goesOn_9 19 rfl rfl)
theorem dX7_goesOn_230 : decode cX7_goesOn 230 = .ok (.putfield 71, 3) := dk_181 0 71 (dk_at dksX7_goesOn_9 20 rfl rfl)
theorem dX7_goesOn_233 : decode cX7_goesOn 233 = .ok (.goto (-55), 3) := dk_167 255 201 (dk_at dksX7_goesOn_10 0 rfl rfl)
theorem dX7_goesOn_236 : decode cX7_goesOn 236 = .ok (.iload_n 2, 1) := dk_28 (dk_at dksX7_goesOn_10 3 rfl rfl)
theorem dX7_goesOn_237 : decode cX7_goesOn 237 = .ok (.iconst 3, 1) := dk_6 (dk_at dksX7_goesOn_10 4 rfl rfl)
theorem dX7_goesOn_238 : decode cX7_goesOn 238 = .ok (.if_icmp .gt 43, 3) := dk_163 0 43 (dk_at dksX7_goesOn_10 5 rfl rfl)
theorem dX7_goesOn_241 : decode cX7_goesOn 241 = .ok (.aload_n 0, 1) := dk_42 (dk_at dksX7_goesOn_10 8 rfl rfl)
theorem dX7_goesOn_242 : decode cX7_goesOn 242 = .ok (.iconst 3, 1) := dk_6 (dk_at dksX7_goesOn_10 9 rfl rfl)
theorem dX7_goesOn_243 : decode cX7_goesOn 243 = .ok (.putfield 68, 3) := dk_181 0 68 (dk_at dksX7_goesOn_10 10 rfl rfl)
theorem dX7_goesOn_246 : decode cX7_goesOn 246 = .ok (.goto 35, 3) := dk_167 0 35 (dk_at dksX7_goesOn_10 13 rfl rfl)
theorem dX7_goesOn_249 : decode cX7_goesOn 249 = .ok (.iload_n 1, 1) := dk_27 (dk_at dksX7_goesOn_10 16 rfl rfl)
theorem dX7_goesOn_250 : decode cX7_goesOn 250 = .ok (.bipush 59, 2) := dk_16 59 (dk_at dksX7_goesOn_10 17 rfl rfl)
theorem dX7_goesOn_252 : decode cX7_goesOn 252 = .ok (.if_icmp .eq 9, 3) := dk_159 0 9 (dk_at dksX7_goesOn_10 19 rfl rfl)
theorem dX7_goesOn_255 : decode cX7_goesOn 255 = .ok (.iload_n 1, 1) := dk_27 (dk_at dksX7_goesOn_10 22 rfl rfl)
theorem dX7_goesOn_256 : decode cX7_goesOn 256 = .ok (.bipush 44, 2) := dk_16 44 (dk_at dksX7_goesOn_11 0 rfl rfl)
theorem dX7_goesOn_258 : decode cX7_goesOn 258 = .ok (.if_icmp .ne 23, 3) := dk_160 0 23 (dk_at dksX7_goesOn_11 2 rfl rfl)
theorem dX7_goesOn_261 : decode cX7_goesOn 261 = .ok (.aload_n 0, 1) := dk_42 (dk_at dksX7_goesOn_11 5 rfl rfl)
theorem dX7_goesOn_262 : decode cX7_goesOn 262 = .ok (.iconst 4, 1) := dk_7 (dk_at dksX7_goesOn_11 6 rfl rfl)
theorem dX7_goesOn_263 : decode cX7_goesOn 263 = .ok (.putfield 68, 3) := dk_181 0 68 (dk_at dksX7_goesOn_11 7 rfl rfl)
theorem dX7_goesOn_266 : decode cX7_goesOn 266 = .ok (.aload_n 0, 1) := dk_42 (dk_at dksX7_goesOn_11 10 rfl rfl)
theorem dX7_goesOn_267 : decode cX7_goesOn 267 = .ok (.iload_n 1, 1) := dk_27 (dk_at dksX7_goesOn_11 11 rfl rfl)
theorem dX7_goesOn_268 : decode cX7_goesOn 268 = .ok (.putfield 80, 3) := dk_181 0 80 (dk_at dksX7_goesOn_11 12 rfl rfl)
theorem dX7_goesOn_271 : decode cX7_goesOn 271 = .ok (.aload_n 0, 1) := dk_42 (dk_at dksX7_goesOn_11 15 rfl rfl)
theorem dX7_goesOn_272 : decode cX7_goesOn 272 = .ok (.dup, 1) := dk_89 (dk_at dksX7_goesOn_11 16 rfl rfl)
theorem dX7_goesOn_273 : decode cX7_goesOn 273 = .ok (.getfield 71, 3) := dk_180 0 71 (dk_at dksX7_goesOn_11 17 rfl rfl)
theorem dX7_goesOn_276 : decode cX7_goesOn 276 = .ok (.iconst 1, 1) := dk_4 (dk_at dksX7_goesOn_11 20 rfl rfl)
theorem dX7_goesOn_277 : decode cX7_goesOn 277 = .ok (.iadd, 1) := dk_96 (dk_at dksX7_goesOn_11 21 rfl rfl)
theorem dX7_goesOn_278 : decode cX7_goesOn 278 = .ok (.putfield 71, 3) := dk_181 0 71 (dk_at dksX7_goesOn_12 0 rfl rfl)
theorem dX7_goesOn_281 : decode cX7_goesOn 281 = .ok (.return_, 1) := dk_177 (dk_at dksX7_goesOn_12 3 rfl rfl)
abbrev cX7_byteAt : ByteArray := prog_19_method_10_code
def yX7_byteAt : MethodName := ⟨RX7, "byteAt", "(I)I"⟩
def dkwX7_byteAt_0 : List UInt8 := [27, 42, 180, 0, 53, 162, 0, 16, 42, 180, 0, 13, 27, 51, 17, 0, 255, 126, 167, 0, 4, 2, 172]
abbrev dktX7_byteAt_0 : List UInt8 := dkwX7_byteAt_0 ++ []
theorem dksX7_byteAt_0 : cX7_byteAt.data.toList.drop 0 = dktX7_byteAt_0 := by decide +kernel
theorem dX7_byteAt_0 : decode cX7_byteAt 0 = .ok (.iload_n 1, 1) := dk_27 (dk_at dksX7_byteAt_0 0 rfl rfl)
theorem dX7_byteAt_1 : decode cX7_byteAt 1 = .ok (.aload_n 0, 1) := dk_42 (dk_at dksX7_byteAt_0 1 rfl rfl)
theorem dX7_byteAt_2 : decode cX7_byteAt 2 = .ok (.getfield 53, 3) := dk_180 0 53 (dk_at dksX7_byteAt_0 2 rfl rfl)
theorem dX7_byteAt_5 : decode cX7_byteAt 5 = .ok (.if_icmp .ge 16, 3) := dk_162 0 16 (dk_at dksX7_byteAt_0 5 rfl rfl)
theorem dX7_byteAt_8 : decode cX7_byteAt 8 = .ok (.aload_n 0, 1) := dk_42 (dk_at dksX7_byteAt_0 8 rfl rfl)
theorem dX7_byteAt_9 : decode cX7_byteAt 9 = .ok (.getfield 13, 3) := dk_180 0 13 (dk_at dksX7_byteAt_0 9 rfl rfl)
theorem dX7_byteAt_12 : decode cX7_byteAt 12 = .ok (.iload_n 1, 1) := dk_27 (dk_at dksX7_byteAt_0 12 rfl rfl)
theorem dX7_byteAt_13 : decode cX7_byteAt 13 = .ok (.baload, 1) := dk_51 (dk_at dksX7_byteAt_0 13 rfl rfl)
theorem dX7_byteAt_14 : decode cX7_byteAt 14 = .ok (.sipush 255, 3) := dk_17 0 255 (dk_at dksX7_byteAt_0 14 rfl rfl)
theorem dX7_byteAt_17 : decode cX7_byteAt 17 = .ok (.iand, 1) := dk_126 (dk_at dksX7_byteAt_0 17 rfl rfl)
theorem dX7_byteAt_18 : decode cX7_byteAt 18 = .ok (.goto 4, 3) := dk_167 0 4 (dk_at dksX7_byteAt_0 18 rfl rfl)
theorem dX7_byteAt_21 : decode cX7_byteAt 21 = .ok (.iconst (-1), 1) := dk_2 (dk_at dksX7_byteAt_0 21 rfl rfl)
theorem dX7_byteAt_22 : decode cX7_byteAt 22 = .ok (.ireturn, 1) := dk_172 (dk_at dksX7_byteAt_0 22 rfl rfl)
abbrev cX7_isLetter : ByteArray := prog_19_method_11_code
def yX7_isLetter : MethodName := ⟨RX7, "isLetter", "(I)Z"⟩
def dkwX7_isLetter_0 : List UInt8 := [26, 16, 97, 161, 0, 13, 26, 16, 122, 163, 0, 7, 4, 167, 0, 4, 3, 172]
abbrev dktX7_isLetter_0 : List UInt8 := dkwX7_isLetter_0 ++ []
theorem dksX7_isLetter_0 : cX7_isLetter.data.toList.drop 0 = dktX7_isLetter_0 := by decide +kernel
theorem dX7_isLetter_0 : decode cX7_isLetter 0 = .ok (.iload_n 0, 1) := dk_26 (dk_at dksX7_isLetter_0 0 rfl rfl)
theorem dX7_isLetter_1 : decode cX7_isLetter 1 = .ok (.bipush 97, 2) := dk_16 97 (dk_at dksX7_isLetter_0 1 rfl rfl)
theorem dX7_isLetter_3 : decode cX7_isLetter 3 = .ok (.if_icmp .lt 13, 3) := dk_161 0 13 (dk_at dksX7_isLetter_0 3 rfl rfl)
theorem dX7_isLetter_6 : decode cX7_isLetter 6 = .ok (.iload_n 0, 1) := dk_26 (dk_at dksX7_isLetter_0 6 rfl rfl)
theorem dX7_isLetter_7 : decode cX7_isLetter 7 = .ok (.bipush 122, 2) := dk_16 122 (dk_at dksX7_isLetter_0 7 rfl rfl)
theorem dX7_isLetter_9 : decode cX7_isLetter 9 = .ok (.if_icmp .gt 7, 3) := dk_163 0 7 (dk_at dksX7_isLetter_0 9 rfl rfl)
theorem dX7_isLetter_12 : decode cX7_isLetter 12 = .ok (.iconst 1, 1) := dk_4 (dk_at dksX7_isLetter_0 12 rfl rfl)
theorem dX7_isLetter_13 : decode cX7_isLetter 13 = .ok (.goto 4, 3) := dk_167 0 4 (dk_at dksX7_isLetter_0 13 rfl rfl)
theorem dX7_isLetter_16 : decode cX7_isLetter 16 = .ok (.iconst 0, 1) := dk_3 (dk_at dksX7_isLetter_0 16 rfl rfl)
theorem dX7_isLetter_17 : decode cX7_isLetter 17 = .ok (.ireturn, 1) := dk_172 (dk_at dksX7_isLetter_0 17 rfl rfl)
abbrev cX7_isDigit : ByteArray := prog_19_method_12_code
def yX7_isDigit : MethodName := ⟨RX7, "isDigit", "(I)Z"⟩
def dkwX7_isDigit_0 : List UInt8 := [26, 16, 48, 161, 0, 13, 26, 16, 57, 163, 0, 7, 4, 167, 0, 4, 3, 172]
abbrev dktX7_isDigit_0 : List UInt8 := dkwX7_isDigit_0 ++ []
theorem dksX7_isDigit_0 : cX7_isDigit.data.toList.drop 0 = dktX7_isDigit_0 := by decide +kernel
theorem dX7_isDigit_0 : decode cX7_isDigit 0 = .ok (.iload_n 0, 1) := dk_26 (dk_at dksX7_isDigit_0 0 rfl rfl)
theorem dX7_isDigit_1 : decode cX7_isDigit 1 = .ok (.bipush 48, 2) := dk_16 48 (dk_at dksX7_isDigit_0 1 rfl rfl)
theorem dX7_isDigit_3 : decode cX7_isDigit 3 = .ok (.if_icmp .lt 13, 3) := dk_161 0 13 (dk_at dksX7_isDigit_0 3 rfl rfl)
theorem dX7_isDigit_6 : decode cX7_isDigit 6 = .ok (.iload_n 0, 1) := dk_26 (dk_at dksX7_isDigit_0 6 rfl rfl)
theorem dX7_isDigit_7 : decode cX7_isDigit 7 = .ok (.bipush 57, 2) := dk_16 57 (dk_at dksX7_isDigit_0 7 rfl rfl)
theorem dX7_isDigit_9 : decode cX7_isDigit 9 = .ok (.if_icmp .gt 7, 3) := dk_163 0 7 (dk_at dksX7_isDigit_0 9 rfl rfl)
theorem dX7_isDigit_12 : decode cX7_isDigit 12 = .ok (.iconst 1, 1) := dk_4 (dk_at dksX7_isDigit_0 12 rfl rfl)
theorem dX7_isDigit_13 : decode cX7_isDigit 13 = .ok (.goto 4, 3) := dk_167 0 4 (dk_at dksX7_isDigit_0 13 rfl rfl)
theorem dX7_isDigit_16 : decode cX7_isDigit 16 = .ok (.iconst 0, 1) := dk_3 (dk_at dksX7_isDigit_0 16 rfl rfl)
theorem dX7_isDigit_17 : decode cX7_isDigit 17 = .ok (.ireturn, 1) := dk_172 (dk_at dksX7_isDigit_0 17 rfl rfl)
abbrev cX7_readAll : ByteArray := prog_19_method_28_code
def yX7_readAll : MethodName := ⟨RX7, "readAll", "()V"⟩
def dkwX7_readAll_2 : List UInt8 := [180, 0, 190, 153, 0, 13, 42, 180, 0, 147, 180, 0, 193, 154, 0, 9, 42, 16, 6, 182, 0, 114, 177]
abbrev dktX7_readAll_2 : List UInt8 := dkwX7_readAll_2 ++ []
def dkwX7_readAll_1 : List UInt8 := [4, 159, 0, 8, 42, 4, 182, 0, 114, 42, 180, 0, 147, 180, 0, 151, 153, 0, 23, 42, 180, 0, 147]
abbrev dktX7_readAll_1 : List UInt8 := dkwX7_readAll_1 ++ dktX7_readAll_2
def dkwX7_readAll_0 : List UInt8 := [4, 60, 27, 153, 0, 17, 42, 182, 0, 184, 42, 16, 59, 182, 0, 187, 60, 167, 255, 241, 42, 180, 0, 68]
abbrev dktX7_readAll_0 : List UInt8 := dkwX7_readAll_0 ++ dktX7_readAll_1
theorem dksX7_readAll_0 : cX7_readAll.data.toList.drop 0 = dktX7_readAll_0 := by decide +kernel
theorem dksX7_readAll_1 : cX7_readAll.data.toList.drop 24 = dktX7_readAll_1 := dk_seg dksX7_readAll_0 24 rfl rfl
theorem dksX7_readAll_2 : cX7_readAll.data.toList.drop 47 = dktX7_readAll_2 := dk_seg dksX7_readAll_1 23 rfl rfl
theorem dX7_readAll_0 : decode cX7_readAll 0 = .ok (.iconst 1, 1) := dk_4 (dk_at dksX7_readAll_0 0 rfl rfl)
theorem dX7_readAll_1 : decode cX7_readAll 1 = .ok (.istore_n 1, 1) := dk_60 (dk_at dksX7_readAll_0 1 rfl rfl)
theorem dX7_readAll_2 : decode cX7_readAll 2 = .ok (.iload_n 1, 1) := dk_27 (dk_at dksX7_readAll_0 2 rfl rfl)
theorem dX7_readAll_3 : decode cX7_readAll 3 = .ok (.ifCond .eq 17, 3) := dk_153 0 17 (dk_at dksX7_readAll_0 3 rfl rfl)
theorem dX7_readAll_6 : decode cX7_readAll 6 = .ok (.aload_n 0, 1) := dk_42 (dk_at dksX7_readAll_0 6 rfl rfl)
theorem dX7_readAll_7 : decode cX7_readAll 7 = .ok (.invokevirtual 184, 3) := dk_182 0 184 (dk_at dksX7_readAll_0 7 rfl rfl)
theorem dX7_readAll_10 : decode cX7_readAll 10 = .ok (.aload_n 0, 1) := dk_42 (dk_at dksX7_readAll_0 10 rfl rfl)
theorem dX7_readAll_11 : decode cX7_readAll 11 = .ok (.bipush 59, 2) := dk_16 59 (dk_at dksX7_readAll_0 11 rfl rfl)
theorem dX7_readAll_13 : decode cX7_readAll 13 = .ok (.invokevirtual 187, 3) := dk_182 0 187 (dk_at dksX7_readAll_0 13 rfl rfl)
theorem dX7_readAll_16 : decode cX7_readAll 16 = .ok (.istore_n 1, 1) := dk_60 (dk_at dksX7_readAll_0 16 rfl rfl)
theorem dX7_readAll_17 : decode cX7_readAll 17 = .ok (.goto (-15), 3) := dk_167 255 241 (dk_at dksX7_readAll_0 17 rfl rfl)
theorem dX7_readAll_20 : decode cX7_readAll 20 = .ok (.aload_n 0, 1) := dk_42 (dk_at dksX7_readAll_0 20 rfl rfl)
theorem dX7_readAll_21 : decode cX7_readAll 21 = .ok (.getfield 68, 3) := dk_180 0 68 (dk_at dksX7_readAll_0 21 rfl rfl)
theorem dX7_readAll_24 : decode cX7_readAll 24 = .ok (.iconst 1, 1) := dk_4 (dk_at dksX7_readAll_1 0 rfl rfl)
theorem dX7_readAll_25 : decode cX7_readAll 25 = .ok (.if_icmp .eq 8, 3) := dk_159 0 8 (dk_at dksX7_readAll_1 1 rfl rfl)
theorem dX7_readAll_28 : decode cX7_readAll 28 = .ok (.aload_n 0, 1) := dk_42 (dk_at dksX7_readAll_1 4 rfl rfl)
theorem dX7_readAll_29 : decode cX7_readAll 29 = .ok (.iconst 1, 1) := dk_4 (dk_at dksX7_readAll_1 5 rfl rfl)
theorem dX7_readAll_30 : decode cX7_readAll 30 = .ok (.invokevirtual 114, 3) := dk_182 0 114 (dk_at dksX7_readAll_1 6 rfl rfl)
theorem dX7_readAll_33 : decode cX7_readAll 33 = .ok (.aload_n 0, 1) := dk_42 (dk_at dksX7_readAll_1 9 rfl rfl)
theorem dX7_readAll_34 : decode cX7_readAll 34 = .ok (.getfield 147, 3) := dk_180 0 147 (dk_at dksX7_readAll_1 10 rfl rfl)
theorem dX7_readAll_37 : decode cX7_readAll 37 = .ok (.getfield 151, 3) := dk_180 0 151 (dk_at dksX7_readAll_1 13 rfl rfl)
theorem dX7_readAll_40 : decode cX7_readAll 40 = .ok (.ifCond .eq 23, 3) := dk_153 0 23 (dk_at dksX7_readAll_1 16 rfl rfl)
theorem dX7_readAll_43 : decode cX7_readAll 43 = .ok (.aload_n 0, 1) := dk_42 (dk_at dksX7_readAll_1 19 rfl rfl)
theorem dX7_readAll_44 : decode cX7_readAll 44 = .ok (.getfield 147, 3) := dk_180 0 147 (dk_at dksX7_readAll_1 20 rfl rfl)
theorem dX7_readAll_47 : decode cX7_readAll 47 = .ok (.getfield 190, 3) := dk_180 0 190 (dk_at dksX7_readAll_2 0 rfl rfl)
theorem dX7_readAll_50 : decode cX7_readAll 50 = .ok (.ifCond .eq 13, 3) := dk_153 0 13 (dk_at dksX7_readAll_2 3 rfl rfl)
theorem dX7_readAll_53 : decode cX7_readAll 53 = .ok (.aload_n 0, 1) := dk_42 (dk_at dksX7_readAll_2 6 rfl rfl)
theorem dX7_readAll_54 : decode cX7_readAll 54 = .ok (.getfield 147, 3) := dk_180 0 147 (dk_at dksX7_readAll_2 7 rfl rfl)
theorem dX7_readAll_57 : decode cX7_readAll 57 = .ok (.getfield 193, 3) := dk_180 0 193 (dk_at dksX7_readAll_2 10 rfl rfl)
theorem dX7_readAll_60 : decode cX7_readAll 60 = .ok (.ifCond .ne 9, 3) := dk_154 0 9 (dk_at dksX7_readAll_2 13 rfl rfl)
theorem dX7_readAll_63 : decode cX7_readAll 63 = .ok (.aload_n 0, 1) := dk_42 (dk_at dksX7_readAll_2 16 rfl rfl)
theorem dX7_readAll_64 : decode cX7_readAll 64 = .ok (.bipush 6, 2) := dk_16 6 (dk_at dksX7_readAll_2 17 rfl rfl)
theorem dX7_readAll_66 : decode cX7_readAll 66 = .ok (.invokevirtual 114, 3) := dk_182 0 114 (dk_at dksX7_readAll_2 19 rfl rfl)
theorem dX7_readAll_69 : decode cX7_readAll 69 = .ok (.return_, 1) := dk_177 (dk_at dksX7_readAll_2 22 rfl rfl)
abbrev cX7_readLine : ByteArray := prog_19_method_29_code
def yX7_readLine : MethodName := ⟨RX7, "readLine", "()V"⟩
def dkwX7_readLine_4 : List UInt8 := [182, 0, 211, 167, 0, 8, 42, 4, 182, 0, 114, 177]
abbrev dktX7_readLine_4 : List UInt8 := dkwX7_readLine_4 ++ []
def dkwX7_readLine_3 : List UInt8 := [182, 0, 107, 153, 0, 10, 42, 182, 0, 208, 167, 0, 24, 42, 18, 139, 182, 0, 107, 153, 0, 10, 42]
abbrev dktX7_readLine_3 : List UInt8 := dkwX7_readLine_3 ++ dktX7_readLine_4
def dkwX7_readLine_2 : List UInt8 := [167, 0, 56, 42, 18, 135, 182, 0, 107, 153, 0, 10, 42, 182, 0, 205, 167, 0, 40, 42, 18, 137]
abbrev dktX7_readLine_2 : List UInt8 := dkwX7_readLine_2 ++ dktX7_readLine_3
def dkwX7_readLine_1 : List UInt8 := [153, 0, 10, 42, 182, 0, 199, 167, 0, 72, 42, 18, 134, 182, 0, 107, 153, 0, 10, 42, 182, 0, 202]
abbrev dktX7_readLine_1 : List UInt8 := dkwX7_readLine_1 ++ dktX7_readLine_2
def dkwX7_readLine_0 : List UInt8 := [42, 18, 130, 182, 0, 107, 153, 0, 10, 42, 182, 0, 196, 167, 0, 88, 42, 18, 132, 182, 0, 107]
abbrev dktX7_readLine_0 : List UInt8 := dkwX7_readLine_0 ++ dktX7_readLine_1
theorem dksX7_readLine_0 : cX7_readLine.data.toList.drop 0 = dktX7_readLine_0 := by decide +kernel
theorem dksX7_readLine_1 : cX7_readLine.data.toList.drop 22 = dktX7_readLine_1 := dk_seg dksX7_readLine_0 22 rfl rfl
theorem dksX7_readLine_2 : cX7_readLine.data.toList.drop 45 = dktX7_readLine_2 := dk_seg dksX7_readLine_1 23 rfl rfl
theorem dksX7_readLine_3 : cX7_readLine.data.toList.drop 67 = dktX7_readLine_3 := dk_seg dksX7_readLine_2 22 rfl rfl
theorem dksX7_readLine_4 : cX7_readLine.data.toList.drop 90 = dktX7_readLine_4 := dk_seg dksX7_readLine_3 23 rfl rfl
theorem dX7_readLine_0 : decode cX7_readLine 0 = .ok (.aload_n 0, 1) := dk_42 (dk_at dksX7_readLine_0 0 rfl rfl)
theorem dX7_readLine_1 : decode cX7_readLine 1 = .ok (.ldc 130, 2) := dk_18 130 (dk_at dksX7_readLine_0 1 rfl rfl)
theorem dX7_readLine_3 : decode cX7_readLine 3 = .ok (.invokevirtual 107, 3) := dk_182 0 107 (dk_at dksX7_readLine_0 3 rfl rfl)
theorem dX7_readLine_6 : decode cX7_readLine 6 = .ok (.ifCond .eq 10, 3) := dk_153 0 10 (dk_at dksX7_readLine_0 6 rfl rfl)
theorem dX7_readLine_9 : decode cX7_readLine 9 = .ok (.aload_n 0, 1) := dk_42 (dk_at dksX7_readLine_0 9 rfl rfl)
theorem dX7_readLine_10 : decode cX7_readLine 10 = .ok (.invokevirtual 196, 3) := dk_182 0 196 (dk_at dksX7_readLine_0 10 rfl rfl)
theorem dX7_readLine_13 : decode cX7_readLine 13 = .ok (.goto 88, 3) := dk_167 0 88 (dk_at dksX7_readLine_0 13 rfl rfl)
theorem dX7_readLine_16 : decode cX7_readLine 16 = .ok (.aload_n 0, 1) := dk_42 (dk_at dksX7_readLine_0 16 rfl rfl)
theorem dX7_readLine_17 : decode cX7_readLine 17 = .ok (.ldc 132, 2) := dk_18 132 (dk_at dksX7_readLine_0 17 rfl rfl)
theorem dX7_readLine_19 : decode cX7_readLine 19 = .ok (.invokevirtual 107, 3) := dk_182 0 107 (dk_at dksX7_readLine_0 19 rfl rfl)
theorem dX7_readLine_22 : decode cX7_readLine 22 = .ok (.ifCond .eq 10, 3) := dk_153 0 10 (dk_at dksX7_readLine_1 0 rfl rfl)
theorem dX7_readLine_25 : decode cX7_readLine 25 = .ok (.aload_n 0, 1) := dk_42 (dk_at dksX7_readLine_1 3 rfl rfl)
theorem dX7_readLine_26 : decode cX7_readLine 26 = .ok (.invokevirtual 199, 3) := dk_182 0 199 (dk_at dksX7_readLine_1 4 rfl rfl)
theorem dX7_readLine_29 : decode cX7_readLine 29 = .ok (.goto 72, 3) := dk_167 0 72 (dk_at dksX7_readLine_1 7 rfl rfl)
theorem dX7_readLine_32 : decode cX7_readLine 32 = .ok (.aload_n 0, 1) := dk_42 (dk_at dksX7_readLine_1 10 rfl rfl)
theorem dX7_readLine_33 : decode cX7_readLine 33 = .ok (.ldc 134, 2) := dk_18 134 (dk_at dksX7_readLine_1 11 rfl rfl)
theorem dX7_readLine_35 : decode cX7_readLine 35 = .ok (.invokevirtual 107, 3) := dk_182 0 107 (dk_at dksX7_readLine_1 13 rfl rfl)
theorem dX7_readLine_38 : decode cX7_readLine 38 = .ok (.ifCond .eq 10, 3) := dk_153 0 10 (dk_at dksX7_readLine_1 16 rfl rfl)
theorem dX7_readLine_41 : decode cX7_readLine 41 = .ok (.aload_n 0, 1) := dk_42 (dk_at dksX7_readLine_1 19 rfl rfl)
theorem dX7_readLine_42 : decode cX7_readLine 42 = .ok (.invokevirtual 202, 3) := dk_182 0 202 (dk_at dksX7_readLine_1 20 rfl rfl)
theorem dX7_readLine_45 : decode cX7_readLine 45 = .ok (.goto 56, 3) := dk_167 0 56 (dk_at dksX7_readLine_2 0 rfl rfl)
theorem dX7_readLine_48 : decode cX7_readLine 48 = .ok (.aload_n 0, 1) := dk_42 (dk_at dksX7_readLine_2 3 rfl rfl)
theorem dX7_readLine_49 : decode cX7_readLine 49 = .ok (.ldc 135, 2) := dk_18 135 (dk_at dksX7_readLine_2 4 rfl rfl)
theorem dX7_readLine_51 : decode cX7_readLine 51 = .ok (.invokevirtual 107, 3) := dk_182 0 107 (dk_at dksX7_readLine_2 6 rfl rfl)
theorem dX7_readLine_54 : decode cX7_readLine 54 = .ok (.ifCond .eq 10, 3) := dk_153 0 10 (dk_at dksX7_readLine_2 9 rfl rfl)
theorem dX7_readLine_57 : decode cX7_readLine 57 = .ok (.aload_n 0, 1) := dk_42 (dk_at dksX7_readLine_2 12 rfl rfl)
theorem dX7_readLine_58 : decode cX7_readLine 58 = .ok (.invokevirtual 205, 3) := dk_182 0 205 (dk_at dksX7_readLine_2 13 rfl rfl)
theorem dX7_readLine_61 : decode cX7_readLine 61 = .ok (.goto 40, 3) := dk_167 0 40 (dk_at dksX7_readLine_2 16 rfl rfl)
theorem dX7_readLine_64 : decode cX7_readLine 64 = .ok (.aload_n 0, 1) := dk_42 (dk_at dksX7_readLine_2 19 rfl rfl)
theorem dX7_readLine_65 : decode cX7_readLine 65 = .ok (.ldc 137, 2) := dk_18 137 (dk_at dksX7_readLine_2 20 rfl rfl)
theorem dX7_readLine_67 : decode cX7_readLine 67 = .ok (.invokevirtual 107, 3) := dk_182 0 107 (dk_at dksX7_readLine_3 0 rfl rfl)
theorem dX7_readLine_70 : decode cX7_readLine 70 = .ok (.ifCond .eq 10, 3) := dk_153 0 10 (dk_at dksX7_readLine_3 3 rfl rfl)
theorem dX7_readLine_73 : decode cX7_readLine 73 = .ok (.aload_n 0, 1) := dk_42 (dk_at dksX7_readLine_3 6 rfl rfl)
theorem dX7_readLine_74 : decode cX7_readLine 74 = .ok (.invokevirtual 208, 3) := dk_182 0 208 (dk_at dksX7_readLine_3 7 rfl rfl)
theorem dX7_readLine_77 : decode cX7_readLine 77 = .ok (.goto 24, 3) := dk_167 0 24 (dk_at dksX7_readLine_3 10 rfl rfl)
theorem dX7_readLine_80 : decode cX7_readLine 80 = .ok (.aload_n 0, 1) := dk_42 (dk_at dksX7_readLine_3 13 rfl rfl)
theorem dX7_readLine_81 : decode cX7_readLine 81 = .ok (.ldc 139, 2) := dk_18 139 (dk_at dksX7_readLine_3 14 rfl rfl)
theorem dX7_readLine_83 : decode cX7_readLine 83 = .ok (.invokevirtual 107, 3) := dk_182 0 107 (dk_at dksX7_readLine_3 16 rfl rfl)
theorem dX7_readLine_86 : decode cX7_readLine 86 = .ok (.ifCond .eq 10, 3) := dk_153 0 10 (dk_at dksX7_readLine_3 19 rfl rfl)
theorem dX7_readLine_89 : decode cX7_readLine 89 = .ok (.aload_n 0, 1) := dk_42 (dk_at dksX7_readLine_3 22 rfl rfl)
theorem dX7_readLine_90 : decode cX7_readLine 90 = .ok (.invokevirtual 211, 3) := dk_182 0 211 (dk_at dksX7_readLine_4 0 rfl rfl)
theorem dX7_readLine_93 : decode cX7_readLine 93 = .ok (.goto 8, 3) := dk_167 0 8 (dk_at dksX7_readLine_4 3 rfl rfl)
theorem dX7_readLine_96 : decode cX7_readLine 96 = .ok (.aload_n 0, 1) := dk_42 (dk_at dksX7_readLine_4 6 rfl rfl)
theorem dX7_readLine_97 : decode cX7_readLine 97 = .ok (.iconst 1, 1) := dk_4 (dk_at dksX7_readLine_4 7 rfl rfl)
theorem dX7_readLine_98 : decode cX7_readLine 98 = .ok (.invokevirtual 114, 3) := dk_182 0 114 (dk_at dksX7_readLine_4 8 rfl rfl)
theorem dX7_readLine_101 : decode cX7_readLine 101 = .ok (.return_, 1) := dk_177 (dk_at dksX7_readLine_4 11 rfl rfl)
abbrev cX7_isWord : ByteArray := prog_19_method_16_code
def yX7_isWord : MethodName := ⟨RX7, "isWord", "(Ljava/lang/String;)Z"⟩
def dkwX7_isWord_1 : List UInt8 := [3, 172]
abbrev dktX7_isWord_1 : List UInt8 := dkwX7_isWord_1 ++ []
def dkwX7_isWord_0 : List UInt8 := [42, 180, 0, 68, 5, 160, 0, 19, 42, 180, 0, 87, 43, 184, 0, 103, 148, 154, 0, 7, 4, 167, 0, 4]
abbrev dktX7_isWord_0 : List UInt8 := dkwX7_isWord_0 ++ dktX7_isWord_1
theorem dksX7_isWord_0 : cX7_isWord.data.toList.drop 0 = dktX7_isWord_0 := by decide +kernel
theorem dksX7_isWord_1 : cX7_isWord.data.toList.drop 24 = dktX7_isWord_1 := dk_seg dksX7_isWord_0 24 rfl rfl
theorem dX7_isWord_0 : decode cX7_isWord 0 = .ok (.aload_n 0, 1) := dk_42 (dk_at dksX7_isWord_0 0 rfl rfl)
theorem dX7_isWord_1 : decode cX7_isWord 1 = .ok (.getfield 68, 3) := dk_180 0 68 (dk_at dksX7_isWord_0 1 rfl rfl)
theorem dX7_isWord_4 : decode cX7_isWord 4 = .ok (.iconst 2, 1) := dk_5 (dk_at dksX7_isWord_0 4 rfl rfl)
theorem dX7_isWord_5 : decode cX7_isWord 5 = .ok (.if_icmp .ne 19, 3) := dk_160 0 19 (dk_at dksX7_isWord_0 5 rfl rfl)
theorem dX7_isWord_8 : decode cX7_isWord 8 = .ok (.aload_n 0, 1) := dk_42 (dk_at dksX7_isWord_0 8 rfl rfl)
theorem dX7_isWord_9 : decode cX7_isWord 9 = .ok (.getfield 87, 3) := dk_180 0 87 (dk_at dksX7_isWord_0 9 rfl rfl)
theorem dX7_isWord_12 : decode cX7_isWord 12 = .ok (.aload_n 1, 1) := dk_43 (dk_at dksX7_isWord_0 12 rfl rfl)
theorem dX7_isWord_13 : decode cX7_isWord 13 = .ok (.invokestatic 103, 3) := dk_184 0 103 (dk_at dksX7_isWord_0 13 rfl rfl)
theorem dX7_isWord_16 : decode cX7_isWord 16 = .ok (.lcmp, 1) := dk_148 (dk_at dksX7_isWord_0 16 rfl rfl)
theorem dX7_isWord_17 : decode cX7_isWord 17 = .ok (.ifCond .ne 7, 3) := dk_154 0 7 (dk_at dksX7_isWord_0 17 rfl rfl)
theorem dX7_isWord_20 : decode cX7_isWord 20 = .ok (.iconst 1, 1) := dk_4 (dk_at dksX7_isWord_0 20 rfl rfl)
theorem dX7_isWord_21 : decode cX7_isWord 21 = .ok (.goto 4, 3) := dk_167 0 4 (dk_at dksX7_isWord_0 21 rfl rfl)
theorem dX7_isWord_24 : decode cX7_isWord 24 = .ok (.iconst 0, 1) := dk_3 (dk_at dksX7_isWord_1 0 rfl rfl)
theorem dX7_isWord_25 : decode cX7_isWord 25 = .ok (.ireturn, 1) := dk_172 (dk_at dksX7_isWord_1 1 rfl rfl)
abbrev cX7_wordOf : ByteArray := prog_19_method_13_code
def yX7_wordOf : MethodName := ⟨RX7, "wordOf", "(Ljava/lang/String;)J"⟩
def dkwX7_wordOf_1 : List UInt8 := [100, 4, 96, 133, 97, 64, 132, 3, 1, 167, 255, 227, 31, 173]
abbrev dktX7_wordOf_1 : List UInt8 := dkwX7_wordOf_1 ++ []
def dkwX7_wordOf_0 : List UInt8 := [9, 64, 3, 62, 29, 42, 182, 0, 56, 162, 0, 27, 20, 0, 62, 31, 105, 42, 29, 182, 0, 64, 16, 97]
abbrev dktX7_wordOf_0 : List UInt8 := dkwX7_wordOf_0 ++ dktX7_wordOf_1
theorem dksX7_wordOf_0 : cX7_wordOf.data.toList.drop 0 = dktX7_wordOf_0 := by decide +kernel
theorem dksX7_wordOf_1 : cX7_wordOf.data.toList.drop 24 = dktX7_wordOf_1 := dk_seg dksX7_wordOf_0 24 rfl rfl
theorem dX7_wordOf_0 : decode cX7_wordOf 0 = .ok (.lconst 0, 1) := dk_9 (dk_at dksX7_wordOf_0 0 rfl rfl)
theorem dX7_wordOf_1 : decode cX7_wordOf 1 = .ok (.lstore_n 1, 1) := dk_64 (dk_at dksX7_wordOf_0 1 rfl rfl)
theorem dX7_wordOf_2 : decode cX7_wordOf 2 = .ok (.iconst 0, 1) := dk_3 (dk_at dksX7_wordOf_0 2 rfl rfl)
theorem dX7_wordOf_3 : decode cX7_wordOf 3 = .ok (.istore_n 3, 1) := dk_62 (dk_at dksX7_wordOf_0 3 rfl rfl)
theorem dX7_wordOf_4 : decode cX7_wordOf 4 = .ok (.iload_n 3, 1) := dk_29 (dk_at dksX7_wordOf_0 4 rfl rfl)
theorem dX7_wordOf_5 : decode cX7_wordOf 5 = .ok (.aload_n 0, 1) := dk_42 (dk_at dksX7_wordOf_0 5 rfl rfl)
theorem dX7_wordOf_6 : decode cX7_wordOf 6 = .ok (.invokevirtual 56, 3) := dk_182 0 56 (dk_at dksX7_wordOf_0 6 rfl rfl)
theorem dX7_wordOf_9 : decode cX7_wordOf 9 = .ok (.if_icmp .ge 27, 3) := dk_162 0 27 (dk_at dksX7_wordOf_0 9 rfl rfl)
theorem dX7_wordOf_12 : decode cX7_wordOf 12 = .ok (.ldc2_w 62, 3) := dk_20 0 62 (dk_at dksX7_wordOf_0 12 rfl rfl)
theorem dX7_wordOf_15 : decode cX7_wordOf 15 = .ok (.lload_n 1, 1) := dk_31 (dk_at dksX7_wordOf_0 15 rfl rfl)
theorem dX7_wordOf_16 : decode cX7_wordOf 16 = .ok (.lmul, 1) := dk_105 (dk_at dksX7_wordOf_0 16 rfl rfl)
theorem dX7_wordOf_17 : decode cX7_wordOf 17 = .ok (.aload_n 0, 1) := dk_42 (dk_at dksX7_wordOf_0 17 rfl rfl)
theorem dX7_wordOf_18 : decode cX7_wordOf 18 = .ok (.iload_n 3, 1) := dk_29 (dk_at dksX7_wordOf_0 18 rfl rfl)
theorem dX7_wordOf_19 : decode cX7_wordOf 19 = .ok (.invokevirtual 64, 3) := dk_182 0 64 (dk_at dksX7_wordOf_0 19 rfl rfl)
theorem dX7_wordOf_22 : decode cX7_wordOf 22 = .ok (.bipush 97, 2) := dk_16 97 (dk_at dksX7_wordOf_0 22 rfl rfl)
theorem dX7_wordOf_24 : decode cX7_wordOf 24 = .ok (.isub, 1) := dk_100 (dk_at dksX7_wordOf_1 0 rfl rfl)
theorem dX7_wordOf_25 : decode cX7_wordOf 25 = .ok (.iconst 1, 1) := dk_4 (dk_at dksX7_wordOf_1 1 rfl rfl)
theorem dX7_wordOf_26 : decode cX7_wordOf 26 = .ok (.iadd, 1) := dk_96 (dk_at dksX7_wordOf_1 2 rfl rfl)
theorem dX7_wordOf_27 : decode cX7_wordOf 27 = .ok (.i2l, 1) := dk_133 (dk_at dksX7_wordOf_1 3 rfl rfl)
theorem dX7_wordOf_28 : decode cX7_wordOf 28 = .ok (.ladd, 1) := dk_97 (dk_at dksX7_wordOf_1 4 rfl rfl)
theorem dX7_wordOf_29 : decode cX7_wordOf 29 = .ok (.lstore_n 1, 1) := dk_64 (dk_at dksX7_wordOf_1 5 rfl rfl)
theorem dX7_wordOf_30 : decode cX7_wordOf 30 = .ok (.iinc 3 1, 3) := dk_132 3 1 (dk_at dksX7_wordOf_1 6 rfl rfl)
theorem dX7_wordOf_33 : decode cX7_wordOf 33 = .ok (.goto (-29), 3) := dk_167 255 227 (dk_at dksX7_wordOf_1 9 rfl rfl)
theorem dX7_wordOf_36 : decode cX7_wordOf 36 = .ok (.lload_n 1, 1) := dk_31 (dk_at dksX7_wordOf_1 12 rfl rfl)
theorem dX7_wordOf_37 : decode cX7_wordOf 37 = .ok (.lreturn, 1) := dk_173 (dk_at dksX7_wordOf_1 13 rfl rfl)
abbrev cX7_readWorld : ByteArray := prog_19_method_30_code
def yX7_readWorld : MethodName := ⟨RX7, "readWorld", "()V"⟩
def dkwX7_readWorld_1 : List UInt8 := [16, 60, 182, 0, 215, 60, 42, 180, 0, 68, 8, 159, 0, 11, 42, 180, 0, 147, 27, 181, 0, 151, 177]
abbrev dktX7_readWorld_1 : List UInt8 := dkwX7_readWorld_1 ++ []
def dkwX7_readWorld_0 : List UInt8 := [42, 180, 0, 147, 180, 0, 151, 158, 0, 8, 42, 6, 182, 0, 114, 42, 182, 0, 111, 42, 18, 214, 8]
abbrev dktX7_readWorld_0 : List UInt8 := dkwX7_readWorld_0 ++ dktX7_readWorld_1
theorem dksX7_readWorld_0 : cX7_readWorld.data.toList.drop 0 = dktX7_readWorld_0 := by decide +kernel
theorem dksX7_readWorld_1 : cX7_readWorld.data.toList.drop 23 = dktX7_readWorld_1 := dk_seg dksX7_readWorld_0 23 rfl rfl
theorem dX7_readWorld_0 : decode cX7_readWorld 0 = .ok (.aload_n 0, 1) := dk_42 (dk_at dksX7_readWorld_0 0 rfl rfl)
theorem dX7_readWorld_1 : decode cX7_readWorld 1 = .ok (.getfield 147, 3) := dk_180 0 147 (dk_at dksX7_readWorld_0 1 rfl rfl)
theorem dX7_readWorld_4 : decode cX7_readWorld 4 = .ok (.getfield 151, 3) := dk_180 0 151 (dk_at dksX7_readWorld_0 4 rfl rfl)
theorem dX7_readWorld_7 : decode cX7_readWorld 7 = .ok (.ifCond .le 8, 3) := dk_158 0 8 (dk_at dksX7_readWorld_0 7 rfl rfl)
theorem dX7_readWorld_10 : decode cX7_readWorld 10 = .ok (.aload_n 0, 1) := dk_42 (dk_at dksX7_readWorld_0 10 rfl rfl)
theorem dX7_readWorld_11 : decode cX7_readWorld 11 = .ok (.iconst 3, 1) := dk_6 (dk_at dksX7_readWorld_0 11 rfl rfl)
theorem dX7_readWorld_12 : decode cX7_readWorld 12 = .ok (.invokevirtual 114, 3) := dk_182 0 114 (dk_at dksX7_readWorld_0 12 rfl rfl)
theorem dX7_readWorld_15 : decode cX7_readWorld 15 = .ok (.aload_n 0, 1) := dk_42 (dk_at dksX7_readWorld_0 15 rfl rfl)
theorem dX7_readWorld_16 : decode cX7_readWorld 16 = .ok (.invokevirtual 111, 3) := dk_182 0 111 (dk_at dksX7_readWorld_0 16 rfl rfl)
theorem dX7_readWorld_19 : decode cX7_readWorld 19 = .ok (.aload_n 0, 1) := dk_42 (dk_at dksX7_readWorld_0 19 rfl rfl)
theorem dX7_readWorld_20 : decode cX7_readWorld 20 = .ok (.ldc 214, 2) := dk_18 214 (dk_at dksX7_readWorld_0 20 rfl rfl)
theorem dX7_readWorld_22 : decode cX7_readWorld 22 = .ok (.iconst 5, 1) := dk_8 (dk_at dksX7_readWorld_0 22 rfl rfl)
theorem dX7_readWorld_23 : decode cX7_readWorld 23 = .ok (.bipush 60, 2) := dk_16 60 (dk_at dksX7_readWorld_1 0 rfl rfl)
theorem dX7_readWorld_25 : decode cX7_readWorld 25 = .ok (.invokevirtual 215, 3) := dk_182 0 215 (dk_at dksX7_readWorld_1 2 rfl rfl)
theorem dX7_readWorld_28 : decode cX7_readWorld 28 = .ok (.istore_n 1, 1) := dk_60 (dk_at dksX7_readWorld_1 5 rfl rfl)
theorem dX7_readWorld_29 : decode cX7_readWorld 29 = .ok (.aload_n 0, 1) := dk_42 (dk_at dksX7_readWorld_1 6 rfl rfl)
theorem dX7_readWorld_30 : decode cX7_readWorld 30 = .ok (.getfield 68, 3) := dk_180 0 68 (dk_at dksX7_readWorld_1 7 rfl rfl)
theorem dX7_readWorld_33 : decode cX7_readWorld 33 = .ok (.iconst 5, 1) := dk_8 (dk_at dksX7_readWorld_1 10 rfl rfl)
theorem dX7_readWorld_34 : decode cX7_readWorld 34 = .ok (.if_icmp .eq 11, 3) := dk_159 0 11 (dk_at dksX7_readWorld_1 11 rfl rfl)
theorem dX7_readWorld_37 : decode cX7_readWorld 37 = .ok (.aload_n 0, 1) := dk_42 (dk_at dksX7_readWorld_1 14 rfl rfl)
theorem dX7_readWorld_38 : decode cX7_readWorld 38 = .ok (.getfield 147, 3) := dk_180 0 147 (dk_at dksX7_readWorld_1 15 rfl rfl)
theorem dX7_readWorld_41 : decode cX7_readWorld 41 = .ok (.iload_n 1, 1) := dk_27 (dk_at dksX7_readWorld_1 18 rfl rfl)
theorem dX7_readWorld_42 : decode cX7_readWorld 42 = .ok (.putfield 151, 3) := dk_181 0 151 (dk_at dksX7_readWorld_1 19 rfl rfl)
theorem dX7_readWorld_45 : decode cX7_readWorld 45 = .ok (.return_, 1) := dk_177 (dk_at dksX7_readWorld_1 22 rfl rfl)
abbrev cX7_flaw : ByteArray := prog_19_method_15_code
def yX7_flaw : MethodName := ⟨RX7, "flaw", "(I)V"⟩
def dkwX7_flaw_1 : List UInt8 := [181, 0, 68, 177]
abbrev dktX7_flaw_1 : List UInt8 := dkwX7_flaw_1 ++ []
def dkwX7_flaw_0 : List UInt8 := [42, 180, 0, 68, 8, 160, 0, 4, 177, 42, 27, 181, 0, 97, 42, 42, 180, 0, 77, 181, 0, 100, 42, 8]
abbrev dktX7_flaw_0 : List UInt8 := dkwX7_flaw_0 ++ dktX7_flaw_1
theorem dksX7_flaw_0 : cX7_flaw.data.toList.drop 0 = dktX7_flaw_0 := by decide +kernel
theorem dksX7_flaw_1 : cX7_flaw.data.toList.drop 24 = dktX7_flaw_1 := dk_seg dksX7_flaw_0 24 rfl rfl
theorem dX7_flaw_0 : decode cX7_flaw 0 = .ok (.aload_n 0, 1) := dk_42 (dk_at dksX7_flaw_0 0 rfl rfl)
theorem dX7_flaw_1 : decode cX7_flaw 1 = .ok (.getfield 68, 3) := dk_180 0 68 (dk_at dksX7_flaw_0 1 rfl rfl)
theorem dX7_flaw_4 : decode cX7_flaw 4 = .ok (.iconst 5, 1) := dk_8 (dk_at dksX7_flaw_0 4 rfl rfl)
theorem dX7_flaw_5 : decode cX7_flaw 5 = .ok (.if_icmp .ne 4, 3) := dk_160 0 4 (dk_at dksX7_flaw_0 5 rfl rfl)
theorem dX7_flaw_8 : decode cX7_flaw 8 = .ok (.return_, 1) := dk_177 (dk_at dksX7_flaw_0 8 rfl rfl)
theorem dX7_flaw_9 : decode cX7_flaw 9 = .ok (.aload_n 0, 1) := dk_42 (dk_at dksX7_flaw_0 9 rfl rfl)
theorem dX7_flaw_10 : decode cX7_flaw 10 = .ok (.iload_n 1, 1) := dk_27 (dk_at dksX7_flaw_0 10 rfl rfl)
theorem dX7_flaw_11 : decode cX7_flaw 11 = .ok (.putfield 97, 3) := dk_181 0 97 (dk_at dksX7_flaw_0 11 rfl rfl)
theorem dX7_flaw_14 : decode cX7_flaw 14 = .ok (.aload_n 0, 1) := dk_42 (dk_at dksX7_flaw_0 14 rfl rfl)
theorem dX7_flaw_15 : decode cX7_flaw 15 = .ok (.aload_n 0, 1) := dk_42 (dk_at dksX7_flaw_0 15 rfl rfl)
theorem dX7_flaw_16 : decode cX7_flaw 16 = .ok (.getfield 77, 3) := dk_180 0 77 (dk_at dksX7_flaw_0 16 rfl rfl)
theorem dX7_flaw_19 : decode cX7_flaw 19 = .ok (.putfield 100, 3) := dk_181 0 100 (dk_at dksX7_flaw_0 19 rfl rfl)
theorem dX7_flaw_22 : decode cX7_flaw 22 = .ok (.aload_n 0, 1) := dk_42 (dk_at dksX7_flaw_0 22 rfl rfl)
theorem dX7_flaw_23 : decode cX7_flaw 23 = .ok (.iconst 5, 1) := dk_8 (dk_at dksX7_flaw_0 23 rfl rfl)
theorem dX7_flaw_24 : decode cX7_flaw 24 = .ok (.putfield 68, 3) := dk_181 0 68 (dk_at dksX7_flaw_1 0 rfl rfl)
theorem dX7_flaw_27 : decode cX7_flaw 27 = .ok (.return_, 1) := dk_177 (dk_at dksX7_flaw_1 3 rfl rfl)
abbrev cX7_readPart : ByteArray := prog_19_method_21_code
def yX7_readPart : MethodName := ⟨RX7, "readPart", "(Ljava/lang/String;II)I"⟩
def dkwX7_readPart_0 : List UInt8 := [42, 43, 182, 0, 122, 42, 28, 29, 182, 0, 126, 172]
abbrev dktX7_readPart_0 : List UInt8 := dkwX7_readPart_0 ++ []
theorem dksX7_readPart_0 : cX7_readPart.data.toList.drop 0 = dktX7_readPart_0 := by decide +kernel
theorem dX7_readPart_0 : decode cX7_readPart 0 = .ok (.aload_n 0, 1) := dk_42 (dk_at dksX7_readPart_0 0 rfl rfl)
theorem dX7_readPart_1 : decode cX7_readPart 1 = .ok (.aload_n 1, 1) := dk_43 (dk_at dksX7_readPart_0 1 rfl rfl)
theorem dX7_readPart_2 : decode cX7_readPart 2 = .ok (.invokevirtual 122, 3) := dk_182 0 122 (dk_at dksX7_readPart_0 2 rfl rfl)
theorem dX7_readPart_5 : decode cX7_readPart 5 = .ok (.aload_n 0, 1) := dk_42 (dk_at dksX7_readPart_0 5 rfl rfl)
theorem dX7_readPart_6 : decode cX7_readPart 6 = .ok (.iload_n 2, 1) := dk_28 (dk_at dksX7_readPart_0 6 rfl rfl)
theorem dX7_readPart_7 : decode cX7_readPart 7 = .ok (.iload_n 3, 1) := dk_29 (dk_at dksX7_readPart_0 7 rfl rfl)
theorem dX7_readPart_8 : decode cX7_readPart 8 = .ok (.invokevirtual 126, 3) := dk_182 0 126 (dk_at dksX7_readPart_0 8 rfl rfl)
theorem dX7_readPart_11 : decode cX7_readPart 11 = .ok (.ireturn, 1) := dk_172 (dk_at dksX7_readPart_0 11 rfl rfl)
abbrev cX7_needs : ByteArray := prog_19_method_19_code
def yX7_needs : MethodName := ⟨RX7, "needs", "(Ljava/lang/String;)V"⟩
def dkwX7_needs_0 : List UInt8 := [42, 43, 182, 0, 107, 154, 0, 8, 42, 4, 182, 0, 114, 42, 182, 0, 111, 177]
abbrev dktX7_needs_0 : List UInt8 := dkwX7_needs_0 ++ []
theorem dksX7_needs_0 : cX7_needs.data.toList.drop 0 = dktX7_needs_0 := by decide +kernel
theorem dX7_needs_0 : decode cX7_needs 0 = .ok (.aload_n 0, 1) := dk_42 (dk_at dksX7_needs_0 0 rfl rfl)
theorem dX7_needs_1 : decode cX7_needs 1 = .ok (.aload_n 1, 1) := dk_43 (dk_at dksX7_needs_0 1 rfl rfl)
theorem dX7_needs_2 : decode cX7_needs 2 = .ok (.invokevirtual 107, 3) := dk_182 0 107 (dk_at dksX7_needs_0 2 rfl rfl)
theorem dX7_needs_5 : decode cX7_needs 5 = .ok (.ifCond .ne 8, 3) := dk_154 0 8 (dk_at dksX7_needs_0 5 rfl rfl)
theorem dX7_needs_8 : decode cX7_needs 8 = .ok (.aload_n 0, 1) := dk_42 (dk_at dksX7_needs_0 8 rfl rfl)
theorem dX7_needs_9 : decode cX7_needs 9 = .ok (.iconst 1, 1) := dk_4 (dk_at dksX7_needs_0 9 rfl rfl)
theorem dX7_needs_10 : decode cX7_needs 10 = .ok (.invokevirtual 114, 3) := dk_182 0 114 (dk_at dksX7_needs_0 10 rfl rfl)
theorem dX7_needs_13 : decode cX7_needs 13 = .ok (.aload_n 0, 1) := dk_42 (dk_at dksX7_needs_0 13 rfl rfl)
theorem dX7_needs_14 : decode cX7_needs 14 = .ok (.invokevirtual 111, 3) := dk_182 0 111 (dk_at dksX7_needs_0 14 rfl rfl)
theorem dX7_needs_17 : decode cX7_needs 17 = .ok (.return_, 1) := dk_177 (dk_at dksX7_needs_0 17 rfl rfl)
abbrev cX7_readWhole : ByteArray := prog_19_method_20_code
def yX7_readWhole : MethodName := ⟨RX7, "readWhole", "(II)I"⟩
def dkwX7_readWhole_2 : List UInt8 := [180, 0, 94, 62, 42, 182, 0, 111, 29, 172]
abbrev dktX7_readWhole_2 : List UInt8 := dkwX7_readWhole_2 ++ []
def dkwX7_readWhole_1 : List UInt8 := [184, 0, 118, 154, 0, 8, 42, 7, 182, 0, 114, 42, 180, 0, 68, 8, 160, 0, 7, 27, 167, 0, 7, 42]
abbrev dktX7_readWhole_1 : List UInt8 := dkwX7_readWhole_1 ++ dktX7_readWhole_2
def dkwX7_readWhole_0 : List UInt8 := [42, 180, 0, 68, 6, 159, 0, 11, 42, 4, 182, 0, 114, 167, 0, 20, 42, 180, 0, 94, 27, 28]
abbrev dktX7_readWhole_0 : List UInt8 := dkwX7_readWhole_0 ++ dktX7_readWhole_1
theorem dksX7_readWhole_0 : cX7_readWhole.data.toList.drop 0 = dktX7_readWhole_0 := by decide +kernel
theorem dksX7_readWhole_1 : cX7_readWhole.data.toList.drop 22 = dktX7_readWhole_1 := dk_seg dksX7_readWhole_0 22 rfl rfl
theorem dksX7_readWhole_2 : cX7_readWhole.data.toList.drop 46 = dktX7_readWhole_2 := dk_seg dksX7_readWhole_1 24 rfl rfl
theorem dX7_readWhole_0 : decode cX7_readWhole 0 = .ok (.aload_n 0, 1) := dk_42 (dk_at dksX7_readWhole_0 0 rfl rfl)
theorem dX7_readWhole_1 : decode cX7_readWhole 1 = .ok (.getfield 68, 3) := dk_180 0 68 (dk_at dksX7_readWhole_0 1 rfl rfl)
theorem dX7_readWhole_4 : decode cX7_readWhole 4 = .ok (.iconst 3, 1) := dk_6 (dk_at dksX7_readWhole_0 4 rfl rfl)
theorem dX7_readWhole_5 : decode cX7_readWhole 5 = .ok (.if_icmp .eq 11, 3) := dk_159 0 11 (dk_at dksX7_readWhole_0 5 rfl rfl)
theorem dX7_readWhole_8 : decode cX7_readWhole 8 = .ok (.aload_n 0, 1) := dk_42 (dk_at dksX7_readWhole_0 8 rfl rfl)
theorem dX7_readWhole_9 : decode cX7_readWhole 9 = .ok (.iconst 1, 1) := dk_4 (dk_at dksX7_readWhole_0 9 rfl rfl)
theorem dX7_readWhole_10 : decode cX7_readWhole 10 = .ok (.invokevirtual 114, 3) := dk_182 0 114 (dk_at dksX7_readWhole_0 10 rfl rfl)
theorem dX7_readWhole_13 : decode cX7_readWhole 13 = .ok (.goto 20, 3) := dk_167 0 20 (dk_at dksX7_readWhole_0 13 rfl rfl)
theorem dX7_readWhole_16 : decode cX7_readWhole 16 = .ok (.aload_n 0, 1) := dk_42 (dk_at dksX7_readWhole_0 16 rfl rfl)
theorem dX7_readWhole_17 : decode cX7_readWhole 17 = .ok (.getfield 94, 3) := dk_180 0 94 (dk_at dksX7_readWhole_0 17 rfl rfl)
theorem dX7_readWhole_20 : decode cX7_readWhole 20 = .ok (.iload_n 1, 1) := dk_27 (dk_at dksX7_readWhole_0 20 rfl rfl)
theorem dX7_readWhole_21 : decode cX7_readWhole 21 = .ok (.iload_n 2, 1) := dk_28 (dk_at dksX7_readWhole_0 21 rfl rfl)
theorem dX7_readWhole_22 : decode cX7_readWhole 22 = .ok (.invokestatic 118, 3) := dk_184 0 118 (dk_at dksX7_readWhole_1 0 rfl rfl)
theorem dX7_readWhole_25 : decode cX7_readWhole 25 = .ok (.ifCond .ne 8, 3) := dk_154 0 8 (dk_at dksX7_readWhole_1 3 rfl rfl)
theorem dX7_readWhole_28 : decode cX7_readWhole 28 = .ok (.aload_n 0, 1) := dk_42 (dk_at dksX7_readWhole_1 6 rfl rfl)
theorem dX7_readWhole_29 : decode cX7_readWhole 29 = .ok (.iconst 4, 1) := dk_7 (dk_at dksX7_readWhole_1 7 rfl rfl)
theorem dX7_readWhole_30 : decode cX7_readWhole 30 = .ok (.invokevirtual 114, 3) := dk_182 0 114 (dk_at dksX7_readWhole_1 8 rfl rfl)
theorem dX7_readWhole_33 : decode cX7_readWhole 33 = .ok (.aload_n 0, 1) := dk_42 (dk_at dksX7_readWhole_1 11 rfl rfl)
theorem dX7_readWhole_34 : decode cX7_readWhole 34 = .ok (.getfield 68, 3) := dk_180 0 68 (dk_at dksX7_readWhole_1 12 rfl rfl)
theorem dX7_readWhole_37 : decode cX7_readWhole 37 = .ok (.iconst 5, 1) := dk_8 (dk_at dksX7_readWhole_1 15 rfl rfl)
theorem dX7_readWhole_38 : decode cX7_readWhole 38 = .ok (.if_icmp .ne 7, 3) := dk_160 0 7 (dk_at dksX7_readWhole_1 16 rfl rfl)
theorem dX7_readWhole_41 : decode cX7_readWhole 41 = .ok (.iload_n 1, 1) := dk_27 (dk_at dksX7_readWhole_1 19 rfl rfl)
theorem dX7_readWhole_42 : decode cX7_readWhole 42 = .ok (.goto 7, 3) := dk_167 0 7 (dk_at dksX7_readWhole_1 20 rfl rfl)
theorem dX7_readWhole_45 : decode cX7_readWhole 45 = .ok (.aload_n 0, 1) := dk_42 (dk_at dksX7_readWhole_1 23 rfl rfl)
theorem dX7_readWhole_46 : decode cX7_readWhole 46 = .ok (.getfield 94, 3) := dk_180 0 94 (dk_at dksX7_readWhole_2 0 rfl rfl)
theorem dX7_readWhole_49 : decode cX7_readWhole 49 = .ok (.istore_n 3, 1) := dk_62 (dk_at dksX7_readWhole_2 3 rfl rfl)
theorem dX7_readWhole_50 : decode cX7_readWhole 50 = .ok (.aload_n 0, 1) := dk_42 (dk_at dksX7_readWhole_2 4 rfl rfl)
theorem dX7_readWhole_51 : decode cX7_readWhole 51 = .ok (.invokevirtual 111, 3) := dk_182 0 111 (dk_at dksX7_readWhole_2 5 rfl rfl)
theorem dX7_readWhole_54 : decode cX7_readWhole 54 = .ok (.iload_n 3, 1) := dk_29 (dk_at dksX7_readWhole_2 8 rfl rfl)
theorem dX7_readWhole_55 : decode cX7_readWhole 55 = .ok (.ireturn, 1) := dk_172 (dk_at dksX7_readWhole_2 9 rfl rfl)
abbrev cX7_in : ByteArray := prog_19_method_8_code
def yX7_in : MethodName := ⟨RX7, "in", "(III)Z"⟩
def dkwX7_in_0 : List UInt8 := [26, 27, 161, 0, 12, 26, 28, 163, 0, 7, 4, 167, 0, 4, 3, 172]
abbrev dktX7_in_0 : List UInt8 := dkwX7_in_0 ++ []
theorem dksX7_in_0 : cX7_in.data.toList.drop 0 = dktX7_in_0 := by decide +kernel
theorem dX7_in_0 : decode cX7_in 0 = .ok (.iload_n 0, 1) := dk_26 (dk_at dksX7_in_0 0 rfl rfl)
theorem dX7_in_1 : decode cX7_in 1 = .ok (.iload_n 1, 1) := dk_27 (dk_at dksX7_in_0 1 rfl rfl)
theorem dX7_in_2 : decode cX7_in 2 = .ok (.if_icmp .lt 12, 3) := dk_161 0 12 (dk_at dksX7_in_0 2 rfl rfl)
theorem dX7_in_5 : decode cX7_in 5 = .ok (.iload_n 0, 1) := dk_26 (dk_at dksX7_in_0 5 rfl rfl)
theorem dX7_in_6 : decode cX7_in 6 = .ok (.iload_n 2, 1) := dk_28 (dk_at dksX7_in_0 6 rfl rfl)
theorem dX7_in_7 : decode cX7_in 7 = .ok (.if_icmp .gt 7, 3) := dk_163 0 7 (dk_at dksX7_in_0 7 rfl rfl)
theorem dX7_in_10 : decode cX7_in 10 = .ok (.iconst 1, 1) := dk_4 (dk_at dksX7_in_0 10 rfl rfl)
theorem dX7_in_11 : decode cX7_in 11 = .ok (.goto 4, 3) := dk_167 0 4 (dk_at dksX7_in_0 11 rfl rfl)
theorem dX7_in_14 : decode cX7_in 14 = .ok (.iconst 0, 1) := dk_3 (dk_at dksX7_in_0 14 rfl rfl)
theorem dX7_in_15 : decode cX7_in 15 = .ok (.ireturn, 1) := dk_172 (dk_at dksX7_in_0 15 rfl rfl)
abbrev cX7_readRain : ByteArray := prog_19_method_31_code
def yX7_readRain : MethodName := ⟨RX7, "readRain", "()V"⟩
def dkwX7_readRain_7 : List UInt8 := [181, 0, 219, 177]
abbrev dktX7_readRain_7 : List UInt8 := dkwX7_readRain_7 ++ []
def dkwX7_readRain_6 : List UInt8 := [180, 0, 246, 42, 180, 0, 147, 180, 0, 219, 21, 5, 79, 42, 180, 0, 147, 89, 180, 0, 219, 4, 96]
abbrev dktX7_readRain_6 : List UInt8 := dkwX7_readRain_6 ++ dktX7_readRain_7
def dkwX7_readRain_5 : List UInt8 := [79, 42, 180, 0, 147, 180, 0, 244, 42, 180, 0, 147, 180, 0, 219, 21, 4, 79, 42, 180, 0, 147]
abbrev dktX7_readRain_5 : List UInt8 := dkwX7_readRain_5 ++ dktX7_readRain_6
def dkwX7_readRain_4 : List UInt8 := [42, 180, 0, 147, 180, 0, 219, 28, 79, 42, 180, 0, 147, 180, 0, 241, 42, 180, 0, 147, 180, 0, 219, 29]
abbrev dktX7_readRain_4 : List UInt8 := dkwX7_readRain_4 ++ dktX7_readRain_5
def dkwX7_readRain_3 : List UInt8 := [177, 42, 180, 0, 147, 180, 0, 237, 42, 180, 0, 147, 180, 0, 219, 27, 79, 42, 180, 0, 147, 180, 0, 239]
abbrev dktX7_readRain_3 : List UInt8 := dkwX7_readRain_3 ++ dktX7_readRain_4
def dkwX7_readRain_2 : List UInt8 := [182, 0, 126, 54, 4, 42, 18, 235, 3, 16, 100, 182, 0, 215, 54, 5, 42, 180, 0, 68, 8, 160, 0, 4]
abbrev dktX7_readRain_2 : List UInt8 := dkwX7_readRain_2 ++ dktX7_readRain_3
def dkwX7_readRain_1 : List UInt8 := [18, 228, 4, 16, 9, 182, 0, 215, 61, 42, 18, 230, 182, 0, 122, 42, 182, 0, 232, 62, 42, 3, 16, 9]
abbrev dktX7_readRain_1 : List UInt8 := dkwX7_readRain_1 ++ dktX7_readRain_2
def dkwX7_readRain_0 : List UInt8 := [42, 42, 180, 0, 147, 180, 0, 219, 16, 6, 182, 0, 222, 42, 18, 226, 3, 16, 9, 182, 0, 215, 60, 42]
abbrev dktX7_readRain_0 : List UInt8 := dkwX7_readRain_0 ++ dktX7_readRain_1
theorem dksX7_readRain_0 : cX7_readRain.data.toList.drop 0 = dktX7_readRain_0 := by decide +kernel
theorem dksX7_readRain_1 : cX7_readRain.data.toList.drop 24 = dktX7_readRain_1 := dk_seg dksX7_readRain_0 24 rfl rfl
theorem dksX7_readRain_2 : cX7_readRain.data.toList.drop 48 = dktX7_readRain_2 := dk_seg dksX7_readRain_1 24 rfl rfl
theorem dksX7_readRain_3 : cX7_readRain.data.toList.drop 72 = dktX7_readRain_3 := dk_seg dksX7_readRain_2 24 rfl rfl
theorem dksX7_readRain_4 : cX7_readRain.data.toList.drop 96 = dktX7_readRain_4 := dk_seg dksX7_readRain_3 24 rfl rfl
theorem dksX7_readRain_5 : cX7_readRain.data.toList.drop 120 = dktX7_readRain_5 := dk_seg dksX7_readRain_4 24 rfl rfl
theorem dksX7_readRain_6 : cX7_readRain.data.toList.drop 142 = dktX7_readRain_6 := dk_seg dksX7_readRain_5 22 rfl rfl
theorem dksX7_readRain_7 : cX7_readRain.data.toList.drop 165 = dktX7_readRain_7 := dk_seg dksX7_readRain_6 23 rfl rfl
theorem dX7_readRain_0 : decode cX7_readRain 0 = .ok (.aload_n 0, 1) := dk_42 (dk_at dksX7_readRain_0 0 rfl rfl)
theorem dX7_readRain_1 : decode cX7_readRain 1 = .ok (.aload_n 0, 1) := dk_42 (dk_at dksX7_readRain_0 1 rfl rfl)
theorem dX7_readRain_2 : decode cX7_readRain 2 = .ok (.getfield 147, 3) := dk_180 0 147 (dk_at dksX7_readRain_0 2 rfl rfl)
theorem dX7_readRain_5 : decode cX7_readRain 5 = .ok (.getfield 219, 3) := dk_180 0 219 (dk_at dksX7_readRain_0 5 rfl rfl)
theorem dX7_readRain_8 : decode cX7_readRain 8 = .ok (.bipush 6, 2) := dk_16 6 (dk_at dksX7_readRain_0 8 rfl rfl)
theorem dX7_readRain_10 : decode cX7_readRain 10 = .ok (.invokevirtual 222, 3) := dk_182 0 222 (dk_at dksX7_readRain_0 10 rfl rfl)
theorem dX7_readRain_13 : decode cX7_readRain 13 = .ok (.aload_n 0, 1) := dk_42 (dk_at dksX7_readRain_0 13 rfl rfl)
theorem dX7_readRain_14 : decode cX7_readRain 14 = .ok (.ldc 226, 2) := dk_18 226 (dk_at dksX7_readRain_0 14 rfl rfl)
theorem dX7_readRain_16 : decode cX7_readRain 16 = .ok (.iconst 0, 1) := dk_3 (dk_at dksX7_readRain_0 16 rfl rfl)
theorem dX7_readRain_17 : decode cX7_readRain 17 = .ok (.bipush 9, 2) := dk_16 9 (dk_at dksX7_readRain_0 17 rfl rfl)
theorem dX7_readRain_19 : decode cX7_readRain 19 = .ok (.invokevirtual 215, 3) := dk_182 0 215 (dk_at dksX7_readRain_0 19 rfl rfl)
theorem dX7_readRain_22 : decode cX7_readRain 22 = .ok (.istore_n 1, 1) := dk_60 (dk_at dksX7_readRain_0 22 rfl rfl)
theorem dX7_readRain_23 : decode cX7_readRain 23 = .ok (.aload_n 0, 1) := dk_42 (dk_at dksX7_readRain_0 23 rfl rfl)
theorem dX7_readRain_24 : decode cX7_readRain 24 = .ok (.ldc 228, 2) := dk_18 228 (dk_at dksX7_readRain_1 0 rfl rfl)
theorem dX7_readRain_26 : decode cX7_readRain 26 = .ok (.iconst 1, 1) := dk_4 (dk_at dksX7_readRain_1 2 rfl rfl)
theorem dX7_readRain_27 : decode cX7_readRain 27 = .ok (.bipush 9, 2) := dk_16 9 (dk_at dksX7_readRain_1 3 rfl rfl)
theorem dX7_readRain_29 : decode cX7_readRain 29 = .ok (.invokevirtual 215, 3) := dk_182 0 215 (dk_at dksX7_readRain_1 5 rfl rfl)
theorem dX7_readRain_32 : decode cX7_readRain 32 = .ok (.istore_n 2, 1) := dk_61 (dk_at dksX7_readRain_1 8 rfl rfl)
theorem dX7_readRain_33 : decode cX7_readRain 33 = .ok (.aload_n 0, 1) := dk_42 (dk_at dksX7_readRain_1 9 rfl rfl)
theorem dX7_readRain_34 : decode cX7_readRain 34 = .ok (.ldc 230, 2) := dk_18 230 (dk_at dksX7_readRain_1 10 rfl rfl)
theorem dX7_readRain_36 : decode cX7_readRain 36 = .ok (.invokevirtual 122, 3) := dk_182 0 122 (dk_at dksX7_readRain_1 12 rfl rfl)
theorem dX7_readRain_39 : decode cX7_readRain 39 = .ok (.aload_n 0, 1) := dk_42 (dk_at dksX7_readRain_1 15 rfl rfl)
theorem dX7_readRain_40 : decode cX7_readRain 40 = .ok (.invokevirtual 232, 3) := dk_182 0 232 (dk_at dksX7_readRain_1 16 rfl rfl)
theorem dX7_readRain_43 : decode cX7_readRain 43 = .ok (.istore_n 3, 1) := dk_62 (dk_at dksX7_readRain_1 19 rfl rfl)
theorem dX7_readRain_44 : decode cX7_readRain 44 = .ok (.aload_n 0, 1) := dk_42 (dk_at dksX7_readRain_1 20 rfl rfl)
theorem dX7_readRain_45 : decode cX7_readRain 45 = .ok (.iconst 0, 1) := dk_3 (dk_at dksX7_readRain_1 21 rfl rfl)
theorem dX7_readRain_46 : decode cX7_readRain 46 = .ok (.bipush 9, 2) := dk_16 9 (dk_at dksX7_readRain_1 22 rfl rfl)
theorem dX7_readRain_48 : decode cX7_readRain 48 = .ok (.invokevirtual 126, 3) := dk_182 0 126 (dk_at dksX7_readRain_2 0 rfl rfl)
theorem dX7_readRain_51 : decode cX7_readRain 51 = .ok (.istore 4, 2) := dk_54 4 (dk_at dksX7_readRain_2 3 rfl rfl)
theorem dX7_readRain_53 : decode cX7_readRain 53 = .ok (.aload_n 0, 1) := dk_42 (dk_at dksX7_readRain_2 5 rfl rfl)
theorem dX7_readRain_54 : decode cX7_readRain 54 = .ok (.ldc 235, 2) := dk_18 235 (dk_at dksX7_readRain_2 6 rfl rfl)
theorem dX7_readRain_56 : decode cX7_readRain 56 = .ok (.iconst 0, 1) := dk_3 (dk_at dksX7_readRain_2 8 rfl rfl)
theorem dX7_readRain_57 : decode cX7_readRain 57 = .ok (.bipush 100, 2) := dk_16 100 (dk_at dksX7_readRain_2 9 rfl rfl)
theorem dX7_readRain_59 : decode cX7_readRain 59 = .ok (.invokevirtual 215, 3) := dk_182 0 215 (dk_at dksX7_readRain_2 11 rfl rfl)
theorem dX7_readRain_62 : decode cX7_readRain 62 = .ok (.istore 5, 2) := dk_54 5 (dk_at dksX7_readRain_2 14 rfl rfl)
theorem dX7_readRain_64 : decode cX7_readRain 64 = .ok (.aload_n 0, 1) := dk_42 (dk_at dksX7_readRain_2 16 rfl rfl)
theorem dX7_readRain_65 : decode cX7_readRain 65 = .ok (.getfield 68, 3) := dk_180 0 68 (dk_at dksX7_readRain_2 17 rfl rfl)
theorem dX7_readRain_68 : decode cX7_readRain 68 = .ok (.iconst 5, 1) := dk_8 (dk_at dksX7_readRain_2 20 rfl rfl)
theorem dX7_readRain_69 : decode cX7_readRain 69 = .ok (.if_icmp .ne 4, 3) := dk_160 0 4 (dk_at dksX7_readRain_2 21 rfl rfl)
theorem dX7_readRain_72 : decode cX7_readRain 72 = .ok (.return_, 1) := dk_177 (dk_at dksX7_readRain_3 0 rfl rfl)
theorem dX7_readRain_73 : decode cX7_readRain 73 = .ok (.aload_n 0, 1) := dk_42 (dk_at dksX7_readRain_3 1 rfl rfl)
theorem dX7_readRain_74 : decode cX7_readRain 74 = .ok (.getfield 147, 3) := dk_180 0 147 (dk_at dksX7_readRain_3 2 rfl rfl)
theorem dX7_readRain_77 : decode cX7_readRain 77 = .ok (.getfield 237, 3) := dk_180 0 237 (dk_at dksX7_readRain_3 5 rfl rfl)
theorem dX7_readRain_80 : decode cX7_readRain 80 = .ok (.aload_n 0, 1) := dk_42 (dk_at dksX7_readRain_3 8 rfl rfl)
theorem dX7_readRain_81 : decode cX7_readRain 81 = .ok (.getfield 147, 3) := dk_180 0 147 (dk_at dksX7_readRain_3 9 rfl rfl)
theorem dX7_readRain_84 : decode cX7_readRain 84 = .ok (.getfield 219, 3) := dk_180 0 219 (dk_at dksX7_readRain_3 12 rfl rfl)
theorem dX7_readRain_87 : decode cX7_readRain 87 = .ok (.iload_n 1, 1) := dk_27 (dk_at dksX7_readRain_3 15 rfl rfl)
theorem dX7_readRain_88 : decode cX7_readRain 88 = .ok (.iastore, 1) := dk_79 (dk_at dksX7_readRain_3 16 rfl rfl)
theorem dX7_readRain_89 : decode cX7_readRain 89 = .ok (.aload_n 0, 1) := dk_42 (dk_at dksX7_readRain_3 17 rfl rfl)
theorem dX7_readRain_90 : decode cX7_readRain 90 = .ok (.getfield 147, 3) := dk_180 0 147 (dk_at dksX7_readRain_3 18 rfl rfl)
theorem dX7_readRain_93 : decode cX7_readRain 93 = .ok (.getfield 239, 3) := dk_180 0 239 (dk_at dksX7_readRain_3 21 rfl rfl)
theorem dX7_readRain_96 : decode cX7_readRain 96 = .ok (.aload_n 0, 1) := dk_42 (dk_at dksX7_readRain_4 0 rfl rfl)
theorem dX7_readRain_97 : decode cX7_readRain 97 = .ok (.getfield 147, 3) := dk_180 0 147 (dk_at dksX7_readRain_4 1 rfl rfl)
theorem dX7_readRain_100 : decode cX7_readRain 100 = .ok (.getfield 219, 3) := dk_180 0 219 (dk_at dksX7_readRain_4 4 rfl rfl)
theorem dX7_readRain_103 : decode cX7_readRain 103 = .ok (.iload_n 2, 1) := dk_28 (dk_at dksX7_readRain_4 7 rfl rfl)
theorem dX7_readRain_104 : decode cX7_readRain 104 = .ok (.iastore, 1) := dk_79 (dk_at dksX7_readRain_4 8 rfl rfl)
theorem dX7_readRain_105 : decode cX7_readRain 105 = .ok (.aload_n 0, 1) := dk_42 (dk_at dksX7_readRain_4 9 rfl rfl)
theorem dX7_readRain_106 : decode cX7_readRain 106 = .ok (.getfield 147, 3) := dk_180 0 147 (dk_at dksX7_readRain_4 10 rfl rfl)
theorem dX7_readRain_109 : decode cX7_readRain 109 = .ok (.getfield 241, 3) := dk_180 0 241 (dk_at dksX7_readRain_4 13 rfl rfl)
theorem dX7_readRain_112 : decode cX7_readRain 112 = .ok (.aload_n 0, 1) := dk_42 (dk_at dksX7_readRain_4 16 rfl rfl)
theorem dX7_readRain_113 : decode cX7_readRain 113 = .ok (.getfield 147, 3) := dk_180 0 147 (dk_at dksX7_readRain_4 17 rfl rfl)
theorem dX7_readRain_116 : decode cX7_readRain 116 = .ok (.getfield 219, 3) := dk_180 0 219 (dk_at dksX7_readRain_4 20 rfl rfl)
theorem dX7_readRain_119 : decode cX7_readRain 119 = .ok (.iload_n 3, 1) := dk_29 (dk_at dksX7_readRain_4 23 rfl rfl)
theorem dX7_readRain_120 : decode cX7_readRain 120 = .ok (.iastore, 1) := dk_79 (dk_at dksX7_readRain_5 0 rfl rfl)
theorem dX7_readRain_121 : decode cX7_readRain 121 = .ok (.aload_n 0, 1) := dk_42 (dk_at dksX7_readRain_5 1 rfl rfl)
theorem dX7_readRain_122 : decode cX7_readRain 122 = .ok (.getfield 147, 3) := dk_180 0 147 (dk_at dksX7_readRain_5 2 rfl rfl)
theorem dX7_readRain_125 : decode cX7_readRain 125 = .ok (.getfield 244, 3) := dk_180 0 244 (dk_at dksX7_readRain_5 5 rfl rfl)
theorem dX7_readRain_128 : decode cX7_readRain 128 = .ok (.aload_n 0, 1) := dk_42 (dk_at dksX7_readRain_5 8 rfl rfl)
theorem dX7_readRain_129 : decode cX7_readRain 129 = .ok (.getfield 147, 3) := dk_180 0 147 (dk_at dksX7_readRain_5 9 rfl rfl)
theorem dX7_readRain_132 : decode cX7_readRain 132 = .ok (.getfield 219, 3) := dk_180 0 219 (dk_at dksX7_readRain_5 12 rfl rfl)
theorem dX7_readRain_135 : decode cX7_readRain 135 = .ok (.iload 4, 2) := dk_21 4 (dk_at dksX7_readRain_5 15 rfl rfl)
theorem dX7_readRain_137 : decode cX7_readRain 137 = .ok (.iastore, 1) := dk_79 (dk_at dksX7_readRain_5 17 rfl rfl)
theorem dX7_readRain_138 : decode cX7_readRain 138 = .ok (.aload_n 0, 1) := dk_42 (dk_at dksX7_readRain_5 18 rfl rfl)
theorem dX7_readRain_139 : decode cX7_readRain 139 = .ok (.getfield 147, 3) := dk_180 0 147 (dk_at dksX7_readRain_5 19 rfl rfl)
theorem dX7_readRain_142 : decode cX7_readRain 142 = .ok (.getfield 246, 3) := dk_180 0 246 (dk_at dksX7_readRain_6 0 rfl rfl)
theorem dX7_readRain_145 : decode cX7_readRain 145 = .ok (.aload_n 0, 1) := dk_42 (dk_at dksX7_readRain_6 3 rfl rfl)
theorem dX7_readRain_146 : decode cX7_readRain 146 = .ok (.getfield 147, 3) := dk_180 0 147 (dk_at dksX7_readRain_6 4 rfl rfl)
theorem dX7_readRain_149 : decode cX7_readRain 149 = .ok (.getfield 219, 3) := dk_180 0 219 (dk_at dksX7_readRain_6 7 rfl rfl)
theorem dX7_readRain_152 : decode cX7_readRain 152 = .ok (.iload 5, 2) := dk_21 5 (dk_at dksX7_readRain_6 10 rfl rfl)
theorem dX7_readRain_154 : decode cX7_readRain 154 = .ok (.iastore, 1) := dk_79 (dk_at dksX7_readRain_6 12 rfl rfl)
theorem dX7_readRain_155 : decode cX7_readRain 155 = .ok (.aload_n 0, 1) := dk_42 (dk_at dksX7_readRain_6 13 rfl rfl)
theorem dX7_readRain_156 : decode cX7_readRain 156 = .ok (.getfield 147, 3) := dk_180 0 147 (dk_at dksX7_readRain_6 14 rfl rfl)
theorem dX7_readRain_159 : decode cX7_readRain 159 = .ok (.dup, 1) := dk_89 (dk_at dksX7_readRain_6 17 rfl rfl)
theorem dX7_readRain_160 : decode cX7_readRain 160 = .ok (.getfield 219, 3) := dk_180 0 219 (dk_at dksX7_readRain_6 18 rfl rfl)
theorem dX7_readRain_163 : decode cX7_readRain 163 = .ok (.iconst 1, 1) := dk_4 (dk_at dksX7_readRain_6 21 rfl rfl)
theorem dX7_readRain_164 : decode cX7_readRain 164 = .ok (.iadd, 1) := dk_96 (dk_at dksX7_readRain_6 22 rfl rfl)
theorem dX7_readRain_165 : decode cX7_readRain 165 = .ok (.putfield 219, 3) := dk_181 0 219 (dk_at dksX7_readRain_7 0 rfl rfl)
theorem dX7_readRain_168 : decode cX7_readRain 168 = .ok (.return_, 1) := dk_177 (dk_at dksX7_readRain_7 3 rfl rfl)
abbrev cX7_begins : ByteArray := prog_19_method_23_code
def yX7_begins : MethodName := ⟨RX7, "begins", "(II)V"⟩
def dkwX7_begins_1 : List UInt8 := [182, 0, 114, 42, 182, 0, 111, 177]
abbrev dktX7_begins_1 : List UInt8 := dkwX7_begins_1 ++ []
def dkwX7_begins_0 : List UInt8 := [27, 28, 160, 0, 8, 42, 8, 182, 0, 114, 42, 180, 0, 147, 180, 0, 151, 154, 0, 9, 42, 16, 6]
abbrev dktX7_begins_0 : List UInt8 := dkwX7_begins_0 ++ dktX7_begins_1
theorem dksX7_begins_0 : cX7_begins.data.toList.drop 0 = dktX7_begins_0 := by decide +kernel
theorem dksX7_begins_1 : cX7_begins.data.toList.drop 23 = dktX7_begins_1 := dk_seg dksX7_begins_0 23 rfl rfl
theorem dX7_begins_0 : decode cX7_begins 0 = .ok (.iload_n 1, 1) := dk_27 (dk_at dksX7_begins_0 0 rfl rfl)
theorem dX7_begins_1 : decode cX7_begins 1 = .ok (.iload_n 2, 1) := dk_28 (dk_at dksX7_begins_0 1 rfl rfl)
theorem dX7_begins_2 : decode cX7_begins 2 = .ok (.if_icmp .ne 8, 3) := dk_160 0 8 (dk_at dksX7_begins_0 2 rfl rfl)
theorem dX7_begins_5 : decode cX7_begins 5 = .ok (.aload_n 0, 1) := dk_42 (dk_at dksX7_begins_0 5 rfl rfl)
theorem dX7_begins_6 : decode cX7_begins 6 = .ok (.iconst 5, 1) := dk_8 (dk_at dksX7_begins_0 6 rfl rfl)
theorem dX7_begins_7 : decode cX7_begins 7 = .ok (.invokevirtual 114, 3) := dk_182 0 114 (dk_at dksX7_begins_0 7 rfl rfl)
theorem dX7_begins_10 : decode cX7_begins 10 = .ok (.aload_n 0, 1) := dk_42 (dk_at dksX7_begins_0 10 rfl rfl)
theorem dX7_begins_11 : decode cX7_begins 11 = .ok (.getfield 147, 3) := dk_180 0 147 (dk_at dksX7_begins_0 11 rfl rfl)
theorem dX7_begins_14 : decode cX7_begins 14 = .ok (.getfield 151, 3) := dk_180 0 151 (dk_at dksX7_begins_0 14 rfl rfl)
theorem dX7_begins_17 : decode cX7_begins 17 = .ok (.ifCond .ne 9, 3) := dk_154 0 9 (dk_at dksX7_begins_0 17 rfl rfl)
theorem dX7_begins_20 : decode cX7_begins 20 = .ok (.aload_n 0, 1) := dk_42 (dk_at dksX7_begins_0 20 rfl rfl)
theorem dX7_begins_21 : decode cX7_begins 21 = .ok (.bipush 6, 2) := dk_16 6 (dk_at dksX7_begins_0 21 rfl rfl)
theorem dX7_begins_23 : decode cX7_begins 23 = .ok (.invokevirtual 114, 3) := dk_182 0 114 (dk_at dksX7_begins_1 0 rfl rfl)
theorem dX7_begins_26 : decode cX7_begins 26 = .ok (.aload_n 0, 1) := dk_42 (dk_at dksX7_begins_1 3 rfl rfl)
theorem dX7_begins_27 : decode cX7_begins 27 = .ok (.invokevirtual 111, 3) := dk_182 0 111 (dk_at dksX7_begins_1 4 rfl rfl)
theorem dX7_begins_30 : decode cX7_begins 30 = .ok (.return_, 1) := dk_177 (dk_at dksX7_begins_1 7 rfl rfl)
abbrev cX7_readSide : ByteArray := prog_19_method_27_code
def yX7_readSide : MethodName := ⟨RX7, "readSide", "()I"⟩
def dkwX7_readSide_3 : List UInt8 := [172]
abbrev dktX7_readSide_3 : List UInt8 := dkwX7_readSide_3 ++ []
def dkwX7_readSide_2 : List UInt8 := [153, 0, 7, 6, 167, 0, 4, 2, 60, 27, 2, 160, 0, 8, 42, 4, 182, 0, 114, 42, 182, 0, 111, 27]
abbrev dktX7_readSide_2 : List UInt8 := dkwX7_readSide_2 ++ dktX7_readSide_3
def dkwX7_readSide_1 : List UInt8 := [167, 0, 30, 42, 18, 180, 182, 0, 107, 153, 0, 7, 5, 167, 0, 17, 42, 18, 182, 182, 0, 107]
abbrev dktX7_readSide_1 : List UInt8 := dkwX7_readSide_1 ++ dktX7_readSide_2
def dkwX7_readSide_0 : List UInt8 := [42, 18, 176, 182, 0, 107, 153, 0, 7, 3, 167, 0, 43, 42, 18, 178, 182, 0, 107, 153, 0, 7, 4]
abbrev dktX7_readSide_0 : List UInt8 := dkwX7_readSide_0 ++ dktX7_readSide_1
theorem dksX7_readSide_0 : cX7_readSide.data.toList.drop 0 = dktX7_readSide_0 := by decide +kernel
theorem dksX7_readSide_1 : cX7_readSide.data.toList.drop 23 = dktX7_readSide_1 := dk_seg dksX7_readSide_0 23 rfl rfl
theorem dksX7_readSide_2 : cX7_readSide.data.toList.drop 45 = dktX7_readSide_2 := dk_seg dksX7_readSide_1 22 rfl rfl
theorem dksX7_readSide_3 : cX7_readSide.data.toList.drop 69 = dktX7_readSide_3 := dk_seg dksX7_readSide_2 24 rfl rfl
theorem dX7_readSide_0 : decode cX7_readSide 0 = .ok (.aload_n 0, 1) := dk_42 (dk_at dksX7_readSide_0 0 rfl rfl)
theorem dX7_readSide_1 : decode cX7_readSide 1 = .ok (.ldc 176, 2) := dk_18 176 (dk_at dksX7_readSide_0 1 rfl rfl)
theorem dX7_readSide_3 : decode cX7_readSide 3 = .ok (.invokevirtual 107, 3) := dk_182 0 107 (dk_at dksX7_readSide_0 3 rfl rfl)
theorem dX7_readSide_6 : decode cX7_readSide 6 = .ok (.ifCond .eq 7, 3) := dk_153 0 7 (dk_at dksX7_readSide_0 6 rfl rfl)
theorem dX7_readSide_9 : decode cX7_readSide 9 = .ok (.iconst 0, 1) := dk_3 (dk_at dksX7_readSide_0 9 rfl rfl)
theorem dX7_readSide_10 : decode cX7_readSide 10 = .ok (.goto 43, 3) := dk_167 0 43 (dk_at dksX7_readSide_0 10 rfl rfl)
theorem dX7_readSide_13 : decode cX7_readSide 13 = .ok (.aload_n 0, 1) := dk_42 (dk_at dksX7_readSide_0 13 rfl rfl)
theorem dX7_readSide_14 : decode cX7_readSide 14 = .ok (.ldc 178, 2) := dk_18 178 (dk_at dksX7_readSide_0 14 rfl rfl)
theorem dX7_readSide_16 : decode cX7_readSide 16 = .ok (.invokevirtual 107, 3) := dk_182 0 107 (dk_at dksX7_readSide_0 16 rfl rfl)
theorem dX7_readSide_19 : decode cX7_readSide 19 = .ok (.ifCond .eq 7, 3) := dk_153 0 7 (dk_at dksX7_readSide_0 19 rfl rfl)
theorem dX7_readSide_22 : decode cX7_readSide 22 = .ok (.iconst 1, 1) := dk_4 (dk_at dksX7_readSide_0 22 rfl rfl)
theorem dX7_readSide_23 : decode cX7_readSide 23 = .ok (.goto 30, 3) := dk_167 0 30 (dk_at dksX7_readSide_1 0 rfl rfl)
theorem dX7_readSide_26 : decode cX7_readSide 26 = .ok (.aload_n 0, 1) := dk_42 (dk_at dksX7_readSide_1 3 rfl rfl)
theorem dX7_readSide_27 : decode cX7_readSide 27 = .ok (.ldc 180, 2) := dk_18 180 (dk_at dksX7_readSide_1 4 rfl rfl)
theorem dX7_readSide_29 : decode cX7_readSide 29 = .ok (.invokevirtual 107, 3) := dk_182 0 107 (dk_at dksX7_readSide_1 6 rfl rfl)
theorem dX7_readSide_32 : decode cX7_readSide 32 = .ok (.ifCond .eq 7, 3) := dk_153 0 7 (dk_at dksX7_readSide_1 9 rfl rfl)
theorem dX7_readSide_35 : decode cX7_readSide 35 = .ok (.iconst 2, 1) := dk_5 (dk_at dksX7_readSide_1 12 rfl rfl)
theorem dX7_readSide_36 : decode cX7_readSide 36 = .ok (.goto 17, 3) := dk_167 0 17 (dk_at dksX7_readSide_1 13 rfl rfl)
theorem dX7_readSide_39 : decode cX7_readSide 39 = .ok (.aload_n 0, 1) := dk_42 (dk_at dksX7_readSide_1 16 rfl rfl)
theorem dX7_readSide_40 : decode cX7_readSide 40 = .ok (.ldc 182, 2) := dk_18 182 (dk_at dksX7_readSide_1 17 rfl rfl)
theorem dX7_readSide_42 : decode cX7_readSide 42 = .ok (.invokevirtual 107, 3) := dk_182 0 107 (dk_at dksX7_readSide_1 19 rfl rfl)
theorem dX7_readSide_45 : decode cX7_readSide 45 = .ok (.ifCond .eq 7, 3) := dk_153 0 7 (dk_at dksX7_readSide_2 0 rfl rfl)
theorem dX7_readSide_48 : decode cX7_readSide 48 = .ok (.iconst 3, 1) := dk_6 (dk_at dksX7_readSide_2 3 rfl rfl)
theorem dX7_readSide_49 : decode cX7_readSide 49 = .ok (.goto 4, 3) := dk_167 0 4 (dk_at dksX7_readSide_2 4 rfl rfl)
theorem dX7_readSide_52 : decode cX7_readSide 52 = .ok (.iconst (-1), 1) := dk_2 (dk_at dksX7_readSide_2 7 rfl rfl)
theorem dX7_readSide_53 : decode cX7_readSide 53 = .ok (.istore_n 1, 1) := dk_60 (dk_at dksX7_readSide_2 8 rfl rfl)
theorem dX7_readSide_54 : decode cX7_readSide 54 = .ok (.iload_n 1, 1) := dk_27 (dk_at dksX7_readSide_2 9 rfl rfl)
theorem dX7_readSide_55 : decode cX7_readSide 55 = .ok (.iconst (-1), 1) := dk_2 (dk_at dksX7_readSide_2 10 rfl rfl)
theorem dX7_readSide_56 : decode cX7_readSide 56 = .ok (.if_icmp .ne 8, 3) := dk_160 0 8 (dk_at dksX7_readSide_2 11 rfl rfl)
theorem dX7_readSide_59 : decode cX7_readSide 59 = .ok (.aload_n 0, 1) := dk_42 (dk_at dksX7_readSide_2 14 rfl rfl)
theorem dX7_readSide_60 : decode cX7_readSide 60 = .ok (.iconst 1, 1) := dk_4 (dk_at dksX7_readSide_2 15 rfl rfl)
theorem dX7_readSide_61 : decode cX7_readSide 61 = .ok (.invokevirtual 114, 3) := dk_182 0 114 (dk_at dksX7_readSide_2 16 rfl rfl)
theorem dX7_readSide_64 : decode cX7_readSide 64 = .ok (.aload_n 0, 1) := dk_42 (dk_at dksX7_readSide_2 19 rfl rfl)
theorem dX7_readSide_65 : decode cX7_readSide 65 = .ok (.invokevirtual 111, 3) := dk_182 0 111 (dk_at dksX7_readSide_2 20 rfl rfl)
theorem dX7_readSide_68 : decode cX7_readSide 68 = .ok (.iload_n 1, 1) := dk_27 (dk_at dksX7_readSide_2 23 rfl rfl)
theorem dX7_readSide_69 : decode cX7_readSide 69 = .ok (.ireturn, 1) := dk_172 (dk_at dksX7_readSide_3 0 rfl rfl)
abbrev cX7_readPlace : ByteArray := prog_19_method_32_code
def yX7_readPlace : MethodName := ⟨RX7, "readPlace", "()V"⟩
def dkwX7_readPlace_5 : List UInt8 := [181, 0, 190, 177]
abbrev dktX7_readPlace_5 : List UInt8 := dkwX7_readPlace_5 ++ []
def dkwX7_readPlace_4 : List UInt8 := [180, 1, 6, 42, 180, 0, 147, 180, 0, 190, 21, 4, 79, 42, 180, 0, 147, 89, 180, 0, 190, 4, 96]
abbrev dktX7_readPlace_4 : List UInt8 := dkwX7_readPlace_4 ++ dktX7_readPlace_5
def dkwX7_readPlace_3 : List UInt8 := [182, 0, 255, 42, 180, 0, 147, 180, 1, 2, 42, 180, 0, 147, 180, 0, 190, 29, 84, 42, 180, 0, 147]
abbrev dktX7_readPlace_3 : List UInt8 := dkwX7_readPlace_3 ++ dktX7_readPlace_4
def dkwX7_readPlace_2 : List UInt8 := [16, 254, 54, 4, 42, 180, 0, 68, 8, 160, 0, 4, 177, 42, 31, 3, 42, 180, 0, 147, 180, 0, 190]
abbrev dktX7_readPlace_2 : List UInt8 := dkwX7_readPlace_2 ++ dktX7_readPlace_3
def dkwX7_readPlace_1 : List UInt8 := [62, 29, 154, 0, 22, 42, 18, 143, 182, 0, 252, 153, 0, 13, 42, 3, 16, 9, 182, 0, 126, 167, 0, 5]
abbrev dktX7_readPlace_1 : List UInt8 := dkwX7_readPlace_1 ++ dktX7_readPlace_2
def dkwX7_readPlace_0 : List UInt8 := [42, 42, 180, 0, 147, 180, 0, 190, 16, 8, 182, 0, 222, 42, 182, 0, 248, 64, 42, 18, 141, 182, 0, 252]
abbrev dktX7_readPlace_0 : List UInt8 := dkwX7_readPlace_0 ++ dktX7_readPlace_1
theorem dksX7_readPlace_0 : cX7_readPlace.data.toList.drop 0 = dktX7_readPlace_0 := by decide +kernel
theorem dksX7_readPlace_1 : cX7_readPlace.data.toList.drop 24 = dktX7_readPlace_1 := dk_seg dksX7_readPlace_0 24 rfl rfl
theorem dksX7_readPlace_2 : cX7_readPlace.data.toList.drop 48 = dktX7_readPlace_2 := dk_seg dksX7_readPlace_1 24 rfl rfl
theorem dksX7_readPlace_3 : cX7_readPlace.data.toList.drop 71 = dktX7_readPlace_3 := dk_seg dksX7_readPlace_2 23 rfl rfl
theorem dksX7_readPlace_4 : cX7_readPlace.data.toList.drop 94 = dktX7_readPlace_4 := dk_seg dksX7_readPlace_3 23 rfl rfl
theorem dksX7_readPlace_5 : cX7_readPlace.data.toList.drop 117 = dktX7_readPlace_5 := dk_seg dksX7_readPlace_4 23 rfl rfl
theorem dX7_readPlace_0 : decode cX7_readPlace 0 = .ok (.aload_n 0, 1) := dk_42 (dk_at dksX7_readPlace_0 0 rfl rfl)
theorem dX7_readPlace_1 : decode cX7_readPlace 1 = .ok (.aload_n 0, 1) := dk_42 (dk_at dksX7_readPlace_0 1 rfl rfl)
theorem dX7_readPlace_2 : decode cX7_readPlace 2 = .ok (.getfield 147, 3) := dk_180 0 147 (dk_at dksX7_readPlace_0 2 rfl rfl)
theorem dX7_readPlace_5 : decode cX7_readPlace 5 = .ok (.getfield 190, 3) := dk_180 0 190 (dk_at dksX7_readPlace_0 5 rfl rfl)
theorem dX7_readPlace_8 : decode cX7_readPlace 8 = .ok (.bipush 8, 2) := dk_16 8 (dk_at dksX7_readPlace_0 8 rfl rfl)
theorem dX7_readPlace_10 : decode cX7_readPlace 10 = .ok (.invokevirtual 222, 3) := dk_182 0 222 (dk_at dksX7_readPlace_0 10 rfl rfl)
theorem dX7_readPlace_13 : decode cX7_readPlace 13 = .ok (.aload_n 0, 1) := dk_42 (dk_at dksX7_readPlace_0 13 rfl rfl)
theorem dX7_readPlace_14 : decode cX7_readPlace 14 = .ok (.invokevirtual 248, 3) := dk_182 0 248 (dk_at dksX7_readPlace_0 14 rfl rfl)
theorem dX7_readPlace_17 : decode cX7_readPlace 17 = .ok (.lstore_n 1, 1) := dk_64 (dk_at dksX7_readPlace_0 17 rfl rfl)
theorem dX7_readPlace_18 : decode cX7_readPlace 18 = .ok (.aload_n 0, 1) := dk_42 (dk_at dksX7_readPlace_0 18 rfl rfl)
theorem dX7_readPlace_19 : decode cX7_readPlace 19 = .ok (.ldc 141, 2) := dk_18 141 (dk_at dksX7_readPlace_0 19 rfl rfl)
theorem dX7_readPlace_21 : decode cX7_readPlace 21 = .ok (.invokevirtual 252, 3) := dk_182 0 252 (dk_at dksX7_readPlace_0 21 rfl rfl)
theorem dX7_readPlace_24 : decode cX7_readPlace 24 = .ok (.istore_n 3, 1) := dk_62 (dk_at dksX7_readPlace_1 0 rfl rfl)
theorem dX7_readPlace_25 : decode cX7_readPlace 25 = .ok (.iload_n 3, 1) := dk_29 (dk_at dksX7_readPlace_1 1 rfl rfl)
theorem dX7_readPlace_26 : decode cX7_readPlace 26 = .ok (.ifCond .ne 22, 3) := dk_154 0 22 (dk_at dksX7_readPlace_1 2 rfl rfl)
theorem dX7_readPlace_29 : decode cX7_readPlace 29 = .ok (.aload_n 0, 1) := dk_42 (dk_at dksX7_readPlace_1 5 rfl rfl)
theorem dX7_readPlace_30 : decode cX7_readPlace 30 = .ok (.ldc 143, 2) := dk_18 143 (dk_at dksX7_readPlace_1 6 rfl rfl)
theorem dX7_readPlace_32 : decode cX7_readPlace 32 = .ok (.invokevirtual 252, 3) := dk_182 0 252 (dk_at dksX7_readPlace_1 8 rfl rfl)
theorem dX7_readPlace_35 : decode cX7_readPlace 35 = .ok (.ifCond .eq 13, 3) := dk_153 0 13 (dk_at dksX7_readPlace_1 11 rfl rfl)
theorem dX7_readPlace_38 : decode cX7_readPlace 38 = .ok (.aload_n 0, 1) := dk_42 (dk_at dksX7_readPlace_1 14 rfl rfl)
theorem dX7_readPlace_39 : decode cX7_readPlace 39 = .ok (.iconst 0, 1) := dk_3 (dk_at dksX7_readPlace_1 15 rfl rfl)
theorem dX7_readPlace_40 : decode cX7_readPlace 40 = .ok (.bipush 9, 2) := dk_16 9 (dk_at dksX7_readPlace_1 16 rfl rfl)
theorem dX7_readPlace_42 : decode cX7_readPlace 42 = .ok (.invokevirtual 126, 3) := dk_182 0 126 (dk_at dksX7_readPlace_1 18 rfl rfl)
theorem dX7_readPlace_45 : decode cX7_readPlace 45 = .ok (.goto 5, 3) := dk_167 0 5 (dk_at dksX7_readPlace_1 21 rfl rfl)
theorem dX7_readPlace_48 : decode cX7_readPlace 48 = .ok (.bipush (-2), 2) := dk_16 254 (dk_at dksX7_readPlace_2 0 rfl rfl)
theorem dX7_readPlace_50 : decode cX7_readPlace 50 = .ok (.istore 4, 2) := dk_54 4 (dk_at dksX7_readPlace_2 2 rfl rfl)
theorem dX7_readPlace_52 : decode cX7_readPlace 52 = .ok (.aload_n 0, 1) := dk_42 (dk_at dksX7_readPlace_2 4 rfl rfl)
theorem dX7_readPlace_53 : decode cX7_readPlace 53 = .ok (.getfield 68, 3) := dk_180 0 68 (dk_at dksX7_readPlace_2 5 rfl rfl)
theorem dX7_readPlace_56 : decode cX7_readPlace 56 = .ok (.iconst 5, 1) := dk_8 (dk_at dksX7_readPlace_2 8 rfl rfl)
theorem dX7_readPlace_57 : decode cX7_readPlace 57 = .ok (.if_icmp .ne 4, 3) := dk_160 0 4 (dk_at dksX7_readPlace_2 9 rfl rfl)
theorem dX7_readPlace_60 : decode cX7_readPlace 60 = .ok (.return_, 1) := dk_177 (dk_at dksX7_readPlace_2 12 rfl rfl)
theorem dX7_readPlace_61 : decode cX7_readPlace 61 = .ok (.aload_n 0, 1) := dk_42 (dk_at dksX7_readPlace_2 13 rfl rfl)
theorem dX7_readPlace_62 : decode cX7_readPlace 62 = .ok (.lload_n 1, 1) := dk_31 (dk_at dksX7_readPlace_2 14 rfl rfl)
theorem dX7_readPlace_63 : decode cX7_readPlace 63 = .ok (.iconst 0, 1) := dk_3 (dk_at dksX7_readPlace_2 15 rfl rfl)
theorem dX7_readPlace_64 : decode cX7_readPlace 64 = .ok (.aload_n 0, 1) := dk_42 (dk_at dksX7_readPlace_2 16 rfl rfl)
theorem dX7_readPlace_65 : decode cX7_readPlace 65 = .ok (.getfield 147, 3) := dk_180 0 147 (dk_at dksX7_readPlace_2 17 rfl rfl)
theorem dX7_readPlace_68 : decode cX7_readPlace 68 = .ok (.getfield 190, 3) := dk_180 0 190 (dk_at dksX7_readPlace_2 20 rfl rfl)
theorem dX7_readPlace_71 : decode cX7_readPlace 71 = .ok (.invokevirtual 255, 3) := dk_182 0 255 (dk_at dksX7_readPlace_3 0 rfl rfl)
theorem dX7_readPlace_74 : decode cX7_readPlace 74 = .ok (.aload_n 0, 1) := dk_42 (dk_at dksX7_readPlace_3 3 rfl rfl)
theorem dX7_readPlace_75 : decode cX7_readPlace 75 = .ok (.getfield 147, 3) := dk_180 0 147 (dk_at dksX7_readPlace_3 4 rfl rfl)
theorem dX7_readPlace_78 : decode cX7_readPlace 78 = .ok (.getfield 258, 3) := dk_180 1 2 (dk_at dksX7_readPlace_3 7 rfl rfl)
theorem dX7_readPlace_81 : decode cX7_readPlace 81 = .ok (.aload_n 0, 1) := dk_42 (dk_at dksX7_readPlace_3 10 rfl rfl)
theorem dX7_readPlace_82 : decode cX7_readPlace 82 = .ok (.getfield 147, 3) := dk_180 0 147 (dk_at dksX7_readPlace_3 11 rfl rfl)
theorem dX7_readPlace_85 : decode cX7_readPlace 85 = .ok (.getfield 190, 3) := dk_180 0 190 (dk_at dksX7_readPlace_3 14 rfl rfl)
theorem dX7_readPlace_88 : decode cX7_readPlace 88 = .ok (.iload_n 3, 1) := dk_29 (dk_at dksX7_readPlace_3 17 rfl rfl)
theorem dX7_readPlace_89 : decode cX7_readPlace 89 = .ok (.bastore, 1) := dk_84 (dk_at dksX7_readPlace_3 18 rfl rfl)
theorem dX7_readPlace_90 : decode cX7_readPlace 90 = .ok (.aload_n 0, 1) := dk_42 (dk_at dksX7_readPlace_3 19 rfl rfl)
theorem dX7_readPlace_91 : decode cX7_readPlace 91 = .ok (.getfield 147, 3) := dk_180 0 147 (dk_at dksX7_readPlace_3 20 rfl rfl)
theorem dX7_readPlace_94 : decode cX7_readPlace 94 = .ok (.getfield 262, 3) := dk_180 1 6 (dk_at dksX7_readPlace_4 0 rfl rfl)
theorem dX7_readPlace_97 : decode cX7_readPlace 97 = .ok (.aload_n 0, 1) := dk_42 (dk_at dksX7_readPlace_4 3 rfl rfl)
theorem dX7_readPlace_98 : decode cX7_readPlace 98 = .ok (.getfield 147, 3) := dk_180 0 147 (dk_at dksX7_readPlace_4 4 rfl rfl)
theorem dX7_readPlace_101 : decode cX7_readPlace 101 = .ok (.getfield 190, 3) := dk_180 0 190 (dk_at dksX7_readPlace_4 7 rfl rfl)
theorem dX7_readPlace_104 : decode cX7_readPlace 104 = .ok (.iload 4, 2) := dk_21 4 (dk_at dksX7_readPlace_4 10 rfl rfl)
theorem dX7_readPlace_106 : decode cX7_readPlace 106 = .ok (.iastore, 1) := dk_79 (dk_at dksX7_readPlace_4 12 rfl rfl)
theorem dX7_readPlace_107 : decode cX7_readPlace 107 = .ok (.aload_n 0, 1) := dk_42 (dk_at dksX7_readPlace_4 13 rfl rfl)
theorem dX7_readPlace_108 : decode cX7_readPlace 108 = .ok (.getfield 147, 3) := dk_180 0 147 (dk_at dksX7_readPlace_4 14 rfl rfl)
theorem dX7_readPlace_111 : decode cX7_readPlace 111 = .ok (.dup, 1) := dk_89 (dk_at dksX7_readPlace_4 17 rfl rfl)
theorem dX7_readPlace_112 : decode cX7_readPlace 112 = .ok (.getfield 190, 3) := dk_180 0 190 (dk_at dksX7_readPlace_4 18 rfl rfl)
theorem dX7_readPlace_115 : decode cX7_readPlace 115 = .ok (.iconst 1, 1) := dk_4 (dk_at dksX7_readPlace_4 21 rfl rfl)
theorem dX7_readPlace_116 : decode cX7_readPlace 116 = .ok (.iadd, 1) := dk_96 (dk_at dksX7_readPlace_4 22 rfl rfl)
theorem dX7_readPlace_117 : decode cX7_readPlace 117 = .ok (.putfield 190, 3) := dk_181 0 190 (dk_at dksX7_readPlace_5 0 rfl rfl)
theorem dX7_readPlace_120 : decode cX7_readPlace 120 = .ok (.return_, 1) := dk_177 (dk_at dksX7_readPlace_5 3 rfl rfl)
abbrev cX7_readFresh : ByteArray := prog_19_method_24_code
def yX7_readFresh : MethodName := ⟨RX7, "readFresh", "()J"⟩
def dkwX7_readFresh_1 : List UInt8 := [159, 0, 8, 42, 6, 182, 0, 114, 42, 180, 0, 87, 64, 42, 182, 0, 111, 31, 173]
abbrev dktX7_readFresh_1 : List UInt8 := dkwX7_readFresh_1 ++ []
def dkwX7_readFresh_0 : List UInt8 := [42, 182, 0, 156, 154, 0, 8, 42, 4, 182, 0, 114, 42, 180, 0, 147, 42, 180, 0, 87, 182, 0, 160, 2]
abbrev dktX7_readFresh_0 : List UInt8 := dkwX7_readFresh_0 ++ dktX7_readFresh_1
theorem dksX7_readFresh_0 : cX7_readFresh.data.toList.drop 0 = dktX7_readFresh_0 := by decide +kernel
theorem dksX7_readFresh_1 : cX7_readFresh.data.toList.drop 24 = dktX7_readFresh_1 := dk_seg dksX7_readFresh_0 24 rfl rfl
theorem dX7_readFresh_0 : decode cX7_readFresh 0 = .ok (.aload_n 0, 1) := dk_42 (dk_at dksX7_readFresh_0 0 rfl rfl)
theorem dX7_readFresh_1 : decode cX7_readFresh 1 = .ok (.invokevirtual 156, 3) := dk_182 0 156 (dk_at dksX7_readFresh_0 1 rfl rfl)
theorem dX7_readFresh_4 : decode cX7_readFresh 4 = .ok (.ifCond .ne 8, 3) := dk_154 0 8 (dk_at dksX7_readFresh_0 4 rfl rfl)
theorem dX7_readFresh_7 : decode cX7_readFresh 7 = .ok (.aload_n 0, 1) := dk_42 (dk_at dksX7_readFresh_0 7 rfl rfl)
theorem dX7_readFresh_8 : decode cX7_readFresh 8 = .ok (.iconst 1, 1) := dk_4 (dk_at dksX7_readFresh_0 8 rfl rfl)
theorem dX7_readFresh_9 : decode cX7_readFresh 9 = .ok (.invokevirtual 114, 3) := dk_182 0 114 (dk_at dksX7_readFresh_0 9 rfl rfl)
theorem dX7_readFresh_12 : decode cX7_readFresh 12 = .ok (.aload_n 0, 1) := dk_42 (dk_at dksX7_readFresh_0 12 rfl rfl)
theorem dX7_readFresh_13 : decode cX7_readFresh 13 = .ok (.getfield 147, 3) := dk_180 0 147 (dk_at dksX7_readFresh_0 13 rfl rfl)
theorem dX7_readFresh_16 : decode cX7_readFresh 16 = .ok (.aload_n 0, 1) := dk_42 (dk_at dksX7_readFresh_0 16 rfl rfl)
theorem dX7_readFresh_17 : decode cX7_readFresh 17 = .ok (.getfield 87, 3) := dk_180 0 87 (dk_at dksX7_readFresh_0 17 rfl rfl)
theorem dX7_readFresh_20 : decode cX7_readFresh 20 = .ok (.invokevirtual 160, 3) := dk_182 0 160 (dk_at dksX7_readFresh_0 20 rfl rfl)
theorem dX7_readFresh_23 : decode cX7_readFresh 23 = .ok (.iconst (-1), 1) := dk_2 (dk_at dksX7_readFresh_0 23 rfl rfl)
theorem dX7_readFresh_24 : decode cX7_readFresh 24 = .ok (.if_icmp .eq 8, 3) := dk_159 0 8 (dk_at dksX7_readFresh_1 0 rfl rfl)
theorem dX7_readFresh_27 : decode cX7_readFresh 27 = .ok (.aload_n 0, 1) := dk_42 (dk_at dksX7_readFresh_1 3 rfl rfl)
theorem dX7_readFresh_28 : decode cX7_readFresh 28 = .ok (.iconst 3, 1) := dk_6 (dk_at dksX7_readFresh_1 4 rfl rfl)
theorem dX7_readFresh_29 : decode cX7_readFresh 29 = .ok (.invokevirtual 114, 3) := dk_182 0 114 (dk_at dksX7_readFresh_1 5 rfl rfl)
theorem dX7_readFresh_32 : decode cX7_readFresh 32 = .ok (.aload_n 0, 1) := dk_42 (dk_at dksX7_readFresh_1 8 rfl rfl)
theorem dX7_readFresh_33 : decode cX7_readFresh 33 = .ok (.getfield 87, 3) := dk_180 0 87 (dk_at dksX7_readFresh_1 9 rfl rfl)
theorem dX7_readFresh_36 : decode cX7_readFresh 36 = .ok (.lstore_n 1, 1) := dk_64 (dk_at dksX7_readFresh_1 12 rfl rfl)
theorem dX7_readFresh_37 : decode cX7_readFresh 37 = .ok (.aload_n 0, 1) := dk_42 (dk_at dksX7_readFresh_1 13 rfl rfl)
theorem dX7_readFresh_38 : decode cX7_readFresh 38 = .ok (.invokevirtual 111, 3) := dk_182 0 111 (dk_at dksX7_readFresh_1 14 rfl rfl)
theorem dX7_readFresh_41 : decode cX7_readFresh 41 = .ok (.lload_n 1, 1) := dk_31 (dk_at dksX7_readFresh_1 17 rfl rfl)
theorem dX7_readFresh_42 : decode cX7_readFresh 42 = .ok (.lreturn, 1) := dk_173 (dk_at dksX7_readFresh_1 18 rfl rfl)
abbrev cX7_isName : ByteArray := prog_19_method_22_code
def yX7_isName : MethodName := ⟨RX7, "isName", "()Z"⟩
def dkwX7_isName_4 : List UInt8 := [167, 0, 4, 3, 172]
abbrev dktX7_isName_4 : List UInt8 := dkwX7_isName_4 ++ []
def dkwX7_isName_3 : List UInt8 := [154, 0, 25, 42, 18, 143, 182, 0, 107, 154, 0, 16, 42, 18, 145, 182, 0, 107, 154, 0, 7, 4]
abbrev dktX7_isName_3 : List UInt8 := dkwX7_isName_3 ++ dktX7_isName_4
def dkwX7_isName_2 : List UInt8 := [18, 137, 182, 0, 107, 154, 0, 43, 42, 18, 139, 182, 0, 107, 154, 0, 34, 42, 18, 141, 182, 0, 107]
abbrev dktX7_isName_2 : List UInt8 := dkwX7_isName_2 ++ dktX7_isName_3
def dkwX7_isName_1 : List UInt8 := [154, 0, 21, 42, 18, 134, 182, 0, 107, 154, 0, 12, 42, 18, 135, 182, 0, 107, 153, 0, 5, 3, 172, 42]
abbrev dktX7_isName_1 : List UInt8 := dkwX7_isName_1 ++ dktX7_isName_2
def dkwX7_isName_0 : List UInt8 := [42, 180, 0, 68, 5, 160, 0, 39, 42, 18, 130, 182, 0, 107, 154, 0, 30, 42, 18, 132, 182, 0, 107]
abbrev dktX7_isName_0 : List UInt8 := dkwX7_isName_0 ++ dktX7_isName_1
theorem dksX7_isName_0 : cX7_isName.data.toList.drop 0 = dktX7_isName_0 := by decide +kernel
theorem dksX7_isName_1 : cX7_isName.data.toList.drop 23 = dktX7_isName_1 := dk_seg dksX7_isName_0 23 rfl rfl
theorem dksX7_isName_2 : cX7_isName.data.toList.drop 47 = dktX7_isName_2 := dk_seg dksX7_isName_1 24 rfl rfl
theorem dksX7_isName_3 : cX7_isName.data.toList.drop 70 = dktX7_isName_3 := dk_seg dksX7_isName_2 23 rfl rfl
theorem dksX7_isName_4 : cX7_isName.data.toList.drop 92 = dktX7_isName_4 := dk_seg dksX7_isName_3 22 rfl rfl
theorem dX7_isName_0 : decode cX7_isName 0 = .ok (.aload_n 0, 1) := dk_42 (dk_at dksX7_isName_0 0 rfl rfl)
theorem dX7_isName_1 : decode cX7_isName 1 = .ok (.getfield 68, 3) := dk_180 0 68 (dk_at dksX7_isName_0 1 rfl rfl)
theorem dX7_isName_4 : decode cX7_isName 4 = .ok (.iconst 2, 1) := dk_5 (dk_at dksX7_isName_0 4 rfl rfl)
theorem dX7_isName_5 : decode cX7_isName 5 = .ok (.if_icmp .ne 39, 3) := dk_160 0 39 (dk_at dksX7_isName_0 5 rfl rfl)
theorem dX7_isName_8 : decode cX7_isName 8 = .ok (.aload_n 0, 1) := dk_42 (dk_at dksX7_isName_0 8 rfl rfl)
theorem dX7_isName_9 : decode cX7_isName 9 = .ok (.ldc 130, 2) := dk_18 130 (dk_at dksX7_isName_0 9 rfl rfl)
theorem dX7_isName_11 : decode cX7_isName 11 = .ok (.invokevirtual 107, 3) := dk_182 0 107 (dk_at dksX7_isName_0 11 rfl rfl)
theorem dX7_isName_14 : decode cX7_isName 14 = .ok (.ifCond .ne 30, 3) := dk_154 0 30 (dk_at dksX7_isName_0 14 rfl rfl)
theorem dX7_isName_17 : decode cX7_isName 17 = .ok (.aload_n 0, 1) := dk_42 (dk_at dksX7_isName_0 17 rfl rfl)
theorem dX7_isName_18 : decode cX7_isName 18 = .ok (.ldc 132, 2) := dk_18 132 (dk_at dksX7_isName_0 18 rfl rfl)
theorem dX7_isName_20 : decode cX7_isName 20 = .ok (.invokevirtual 107, 3) := dk_182 0 107 (dk_at dksX7_isName_0 20 rfl rfl)
theorem dX7_isName_23 : decode cX7_isName 23 = .ok (.ifCond .ne 21, 3) := dk_154 0 21 (dk_at dksX7_isName_1 0 rfl rfl)
theorem dX7_isName_26 : decode cX7_isName 26 = .ok (.aload_n 0, 1) := dk_42 (dk_at dksX7_isName_1 3 rfl rfl)
theorem dX7_isName_27 : decode cX7_isName 27 = .ok (.ldc 134, 2) := dk_18 134 (dk_at dksX7_isName_1 4 rfl rfl)
theorem dX7_isName_29 : decode cX7_isName 29 = .ok (.invokevirtual 107, 3) := dk_182 0 107 (dk_at dksX7_isName_1 6 rfl rfl)
theorem dX7_isName_32 : decode cX7_isName 32 = .ok (.ifCond .ne 12, 3) := dk_154 0 12 (dk_at dksX7_isName_1 9 rfl rfl)
theorem dX7_isName_35 : decode cX7_isName 35 = .ok (.aload_n 0, 1) := dk_42 (dk_at dksX7_isName_1 12 rfl rfl)
theorem dX7_isName_36 : decode cX7_isName 36 = .ok (.ldc 135, 2) := dk_18 135 (dk_at dksX7_isName_1 13 rfl rfl)
theorem dX7_isName_38 : decode cX7_isName 38 = .ok (.invokevirtual 107, 3) := dk_182 0 107 (dk_at dksX7_isName_1 15 rfl rfl)
theorem dX7_isName_41 : decode cX7_isName 41 = .ok (.ifCond .eq 5, 3) := dk_153 0 5 (dk_at dksX7_isName_1 18 rfl rfl)
theorem dX7_isName_44 : decode cX7_isName 44 = .ok (.iconst 0, 1) := dk_3 (dk_at dksX7_isName_1 21 rfl rfl)
theorem dX7_isName_45 : decode cX7_isName 45 = .ok (.ireturn, 1) := dk_172 (dk_at dksX7_isName_1 22 rfl rfl)
theorem dX7_isName_46 : decode cX7_isName 46 = .ok (.aload_n 0, 1) := dk_42 (dk_at dksX7_isName_1 23 rfl rfl)
theorem dX7_isName_47 : decode cX7_isName 47 = .ok (.ldc 137, 2) := dk_18 137 (dk_at dksX7_isName_2 0 rfl rfl)
theorem dX7_isName_49 : decode cX7_isName 49 = .ok (.invokevirtual 107, 3) := dk_182 0 107 (dk_at dksX7_isName_2 2 rfl rfl)
theorem dX7_isName_52 : decode cX7_isName 52 = .ok (.ifCond .ne 43, 3) := dk_154 0 43 (dk_at dksX7_isName_2 5 rfl rfl)
theorem dX7_isName_55 : decode cX7_isName 55 = .ok (.aload_n 0, 1) := dk_42 (dk_at dksX7_isName_2 8 rfl rfl)
theorem dX7_isName_56 : decode cX7_isName 56 = .ok (.ldc 139, 2) := dk_18 139 (dk_at dksX7_isName_2 9 rfl rfl)
theorem dX7_isName_58 : decode cX7_isName 58 = .ok (.invokevirtual 107, 3) := dk_182 0 107 (dk_at dksX7_isName_2 11 rfl rfl)
theorem dX7_isName_61 : decode cX7_isName 61 = .ok (.ifCond .ne 34, 3) := dk_154 0 34 (dk_at dksX7_isName_2 14 rfl rfl)
theorem dX7_isName_64 : decode cX7_isName 64 = .ok (.aload_n 0, 1) := dk_42 (dk_at dksX7_isName_2 17 rfl rfl)
theorem dX7_isName_65 : decode cX7_isName 65 = .ok (.ldc 141, 2) := dk_18 141 (dk_at dksX7_isName_2 18 rfl rfl)
theorem dX7_isName_67 : decode cX7_isName 67 = .ok (.invokevirtual 107, 3) := dk_182 0 107 (dk_at dksX7_isName_2 20 rfl rfl)
theorem dX7_isName_70 : decode cX7_isName 70 = .ok (.ifCond .ne 25, 3) := dk_154 0 25 (dk_at dksX7_isName_3 0 rfl rfl)
theorem dX7_isName_73 : decode cX7_isName 73 = .ok (.aload_n 0, 1) := dk_42 (dk_at dksX7_isName_3 3 rfl rfl)
theorem dX7_isName_74 : decode cX7_isName 74 = .ok (.ldc 143, 2) := dk_18 143 (dk_at dksX7_isName_3 4 rfl rfl)
theorem dX7_isName_76 : decode cX7_isName 76 = .ok (.invokevirtual 107, 3) := dk_182 0 107 (dk_at dksX7_isName_3 6 rfl rfl)
theorem dX7_isName_79 : decode cX7_isName 79 = .ok (.ifCond .ne 16, 3) := dk_154 0 16 (dk_at dksX7_isName_3 9 rfl rfl)
theorem dX7_isName_82 : decode cX7_isName 82 = .ok (.aload_n 0, 1) := dk_42 (dk_at dksX7_isName_3 12 rfl rfl)
theorem dX7_isName_83 : decode cX7_isName 83 = .ok (.ldc 145, 2) := dk_18 145 (dk_at dksX7_isName_3 13 rfl rfl)
theorem dX7_isName_85 : decode cX7_isName 85 = .ok (.invokevirtual 107, 3) := dk_182 0 107 (dk_at dksX7_isName_3 15 rfl rfl)
theorem dX7_isName_88 : decode cX7_isName 88 = .ok (.ifCond .ne 7, 3) := dk_154 0 7 (dk_at dksX7_isName_3 18 rfl rfl)
theorem dX7_isName_91 : decode cX7_isName 91 = .ok (.iconst 1, 1) := dk_4 (dk_at dksX7_isName_3 21 rfl rfl)
theorem dX7_isName_92 : decode cX7_isName 92 = .ok (.goto 4, 3) := dk_167 0 4 (dk_at dksX7_isName_4 0 rfl rfl)
theorem dX7_isName_95 : decode cX7_isName 95 = .ok (.iconst 0, 1) := dk_3 (dk_at dksX7_isName_4 3 rfl rfl)
theorem dX7_isName_96 : decode cX7_isName 96 = .ok (.ireturn, 1) := dk_172 (dk_at dksX7_isName_4 4 rfl rfl)
abbrev cX7_eatsWord : ByteArray := prog_19_method_17_code
def yX7_eatsWord : MethodName := ⟨RX7, "eatsWord", "(Ljava/lang/String;)Z"⟩
def dkwX7_eatsWord_0 : List UInt8 := [42, 43, 182, 0, 107, 61, 28, 153, 0, 7, 42, 182, 0, 111, 28, 172]
abbrev dktX7_eatsWord_0 : List UInt8 := dkwX7_eatsWord_0 ++ []
theorem dksX7_eatsWord_0 : cX7_eatsWord.data.toList.drop 0 = dktX7_eatsWord_0 := by decide +kernel
theorem dX7_eatsWord_0 : decode cX7_eatsWord 0 = .ok (.aload_n 0, 1) := dk_42 (dk_at dksX7_eatsWord_0 0 rfl rfl)
theorem dX7_eatsWord_1 : decode cX7_eatsWord 1 = .ok (.aload_n 1, 1) := dk_43 (dk_at dksX7_eatsWord_0 1 rfl rfl)
theorem dX7_eatsWord_2 : decode cX7_eatsWord 2 = .ok (.invokevirtual 107, 3) := dk_182 0 107 (dk_at dksX7_eatsWord_0 2 rfl rfl)
theorem dX7_eatsWord_5 : decode cX7_eatsWord 5 = .ok (.istore_n 2, 1) := dk_61 (dk_at dksX7_eatsWord_0 5 rfl rfl)
theorem dX7_eatsWord_6 : decode cX7_eatsWord 6 = .ok (.iload_n 2, 1) := dk_28 (dk_at dksX7_eatsWord_0 6 rfl rfl)
theorem dX7_eatsWord_7 : decode cX7_eatsWord 7 = .ok (.ifCond .eq 7, 3) := dk_153 0 7 (dk_at dksX7_eatsWord_0 7 rfl rfl)
theorem dX7_eatsWord_10 : decode cX7_eatsWord 10 = .ok (.aload_n 0, 1) := dk_42 (dk_at dksX7_eatsWord_0 10 rfl rfl)
theorem dX7_eatsWord_11 : decode cX7_eatsWord 11 = .ok (.invokevirtual 111, 3) := dk_182 0 111 (dk_at dksX7_eatsWord_0 11 rfl rfl)
theorem dX7_eatsWord_14 : decode cX7_eatsWord 14 = .ok (.iload_n 2, 1) := dk_28 (dk_at dksX7_eatsWord_0 14 rfl rfl)
theorem dX7_eatsWord_15 : decode cX7_eatsWord 15 = .ok (.ireturn, 1) := dk_172 (dk_at dksX7_eatsWord_0 15 rfl rfl)
abbrev cX7_names : ByteArray := prog_19_method_25_code
def yX7_names : MethodName := ⟨RX7, "names", "(JII)V"⟩
def dkwX7_names_2 : List UInt8 := [79, 42, 180, 0, 147, 89, 180, 0, 167, 4, 96, 181, 0, 167, 177]
abbrev dktX7_names_2 : List UInt8 := dkwX7_names_2 ++ []
def dkwX7_names_1 : List UInt8 := [180, 0, 147, 180, 0, 167, 29, 79, 42, 180, 0, 147, 180, 0, 173, 42, 180, 0, 147, 180, 0, 167, 21, 4]
abbrev dktX7_names_1 : List UInt8 := dkwX7_names_1 ++ dktX7_names_2
def dkwX7_names_0 : List UInt8 := [42, 180, 0, 147, 180, 0, 164, 42, 180, 0, 147, 180, 0, 167, 31, 80, 42, 180, 0, 147, 180, 0, 170, 42]
abbrev dktX7_names_0 : List UInt8 := dkwX7_names_0 ++ dktX7_names_1
theorem dksX7_names_0 : cX7_names.data.toList.drop 0 = dktX7_names_0 := by decide +kernel
theorem dksX7_names_1 : cX7_names.data.toList.drop 24 = dktX7_names_1 := dk_seg dksX7_names_0 24 rfl rfl
theorem dksX7_names_2 : cX7_names.data.toList.drop 48 = dktX7_names_2 := dk_seg dksX7_names_1 24 rfl rfl
theorem dX7_names_0 : decode cX7_names 0 = .ok (.aload_n 0, 1) := dk_42 (dk_at dksX7_names_0 0 rfl rfl)
theorem dX7_names_1 : decode cX7_names 1 = .ok (.getfield 147, 3) := dk_180 0 147 (dk_at dksX7_names_0 1 rfl rfl)
theorem dX7_names_4 : decode cX7_names 4 = .ok (.getfield 164, 3) := dk_180 0 164 (dk_at dksX7_names_0 4 rfl rfl)
theorem dX7_names_7 : decode cX7_names 7 = .ok (.aload_n 0, 1) := dk_42 (dk_at dksX7_names_0 7 rfl rfl)
theorem dX7_names_8 : decode cX7_names 8 = .ok (.getfield 147, 3) := dk_180 0 147 (dk_at dksX7_names_0 8 rfl rfl)
theorem dX7_names_11 : decode cX7_names 11 = .ok (.getfield 167, 3) := dk_180 0 167 (dk_at dksX7_names_0 11 rfl rfl)
theorem dX7_names_14 : decode cX7_names 14 = .ok (.lload_n 1, 1) := dk_31 (dk_at dksX7_names_0 14 rfl rfl)
theorem dX7_names_15 : decode cX7_names 15 = .ok (.lastore, 1) := dk_80 (dk_at dksX7_names_0 15 rfl rfl)
theorem dX7_names_16 : decode cX7_names 16 = .ok (.aload_n 0, 1) := dk_42 (dk_at dksX7_names_0 16 rfl rfl)
theorem dX7_names_17 : decode cX7_names 17 = .ok (.getfield 147, 3) := dk_180 0 147 (dk_at dksX7_names_0 17 rfl rfl)
theorem dX7_names_20 : decode cX7_names 20 = .ok (.getfield 170, 3) := dk_180 0 170 (dk_at dksX7_names_0 20 rfl rfl)
theorem dX7_names_23 : decode cX7_names 23 = .ok (.aload_n 0, 1) := dk_42 (dk_at dksX7_names_0 23 rfl rfl)
theorem dX7_names_24 : decode cX7_names 24 = .ok (.getfield 147, 3) := dk_180 0 147 (dk_at dksX7_names_1 0 rfl rfl)
theorem dX7_names_27 : decode cX7_names 27 = .ok (.getfield 167, 3) := dk_180 0 167 (dk_at dksX7_names_1 3 rfl rfl)
theorem dX7_names_30 : decode cX7_names 30 = .ok (.iload_n 3, 1) := dk_29 (dk_at dksX7_names_1 6 rfl rfl)
theorem dX7_names_31 : decode cX7_names 31 = .ok (.iastore, 1) := dk_79 (dk_at dksX7_names_1 7 rfl rfl)
theorem dX7_names_32 : decode cX7_names 32 = .ok (.aload_n 0, 1) := dk_42 (dk_at dksX7_names_1 8 rfl rfl)
theorem dX7_names_33 : decode cX7_names 33 = .ok (.getfield 147, 3) := dk_180 0 147 (dk_at dksX7_names_1 9 rfl rfl)
theorem dX7_names_36 : decode cX7_names 36 = .ok (.getfield 173, 3) := dk_180 0 173 (dk_at dksX7_names_1 12 rfl rfl)
theorem dX7_names_39 : decode cX7_names 39 = .ok (.aload_n 0, 1) := dk_42 (dk_at dksX7_names_1 15 rfl rfl)
theorem dX7_names_40 : decode cX7_names 40 = .ok (.getfield 147, 3) := dk_180 0 147 (dk_at dksX7_names_1 16 rfl rfl)
theorem dX7_names_43 : decode cX7_names 43 = .ok (.getfield 167, 3) := dk_180 0 167 (dk_at dksX7_names_1 19 rfl rfl)
theorem dX7_names_46 : decode cX7_names 46 = .ok (.iload 4, 2) := dk_21 4 (dk_at dksX7_names_1 22 rfl rfl)
theorem dX7_names_48 : decode cX7_names 48 = .ok (.iastore, 1) := dk_79 (dk_at dksX7_names_2 0 rfl rfl)
theorem dX7_names_49 : decode cX7_names 49 = .ok (.aload_n 0, 1) := dk_42 (dk_at dksX7_names_2 1 rfl rfl)
theorem dX7_names_50 : decode cX7_names 50 = .ok (.getfield 147, 3) := dk_180 0 147 (dk_at dksX7_names_2 2 rfl rfl)
theorem dX7_names_53 : decode cX7_names 53 = .ok (.dup, 1) := dk_89 (dk_at dksX7_names_2 5 rfl rfl)
theorem dX7_names_54 : decode cX7_names 54 = .ok (.getfield 167, 3) := dk_180 0 167 (dk_at dksX7_names_2 6 rfl rfl)
theorem dX7_names_57 : decode cX7_names 57 = .ok (.iconst 1, 1) := dk_4 (dk_at dksX7_names_2 9 rfl rfl)
theorem dX7_names_58 : decode cX7_names 58 = .ok (.iadd, 1) := dk_96 (dk_at dksX7_names_2 10 rfl rfl)
theorem dX7_names_59 : decode cX7_names 59 = .ok (.putfield 167, 3) := dk_181 0 167 (dk_at dksX7_names_2 11 rfl rfl)
theorem dX7_names_62 : decode cX7_names 62 = .ok (.return_, 1) := dk_177 (dk_at dksX7_names_2 14 rfl rfl)
abbrev cX7_readRoad : ByteArray := prog_19_method_33_code
def yX7_readRoad : MethodName := ⟨RX7, "readRoad", "()V"⟩
def dkwX7_readRoad_7 : List UInt8 := [180, 1, 8, 4, 96, 181, 1, 8, 177]
abbrev dktX7_readRoad_7 : List UInt8 := dkwX7_readRoad_7 ++ []
def dkwX7_readRoad_6 : List UInt8 := [180, 1, 23, 21, 6, 29, 79, 42, 180, 0, 147, 180, 1, 26, 21, 6, 21, 5, 79, 42, 180, 0, 147, 89]
abbrev dktX7_readRoad_6 : List UInt8 := dkwX7_readRoad_6 ++ dktX7_readRoad_7
def dkwX7_readRoad_5 : List UInt8 := [180, 1, 17, 21, 6, 21, 4, 79, 42, 180, 0, 147, 180, 1, 20, 21, 6, 28, 79, 42, 180, 0, 147]
abbrev dktX7_readRoad_5 : List UInt8 := dkwX7_readRoad_5 ++ dktX7_readRoad_6
def dkwX7_readRoad_4 : List UInt8 := [42, 180, 0, 147, 180, 1, 8, 54, 6, 42, 180, 0, 147, 180, 1, 14, 21, 6, 27, 79, 42, 180, 0, 147]
abbrev dktX7_readRoad_4 : List UInt8 := dkwX7_readRoad_4 ++ dktX7_readRoad_5
def dkwX7_readRoad_3 : List UInt8 := [153, 0, 12, 42, 3, 29, 182, 0, 126, 167, 0, 4, 3, 54, 5, 42, 180, 0, 68, 8, 160, 0, 4, 177]
abbrev dktX7_readRoad_3 : List UInt8 := dkwX7_readRoad_3 ++ dktX7_readRoad_4
def dkwX7_readRoad_2 : List UInt8 := [159, 0, 14, 21, 4, 27, 160, 0, 8, 42, 6, 182, 0, 114, 42, 182, 0, 111, 42, 18, 145, 182, 0, 252]
abbrev dktX7_readRoad_2 : List UInt8 := dkwX7_readRoad_2 ++ dktX7_readRoad_3
def dkwX7_readRoad_1 : List UInt8 := [182, 0, 232, 61, 42, 4, 16, 60, 182, 0, 126, 62, 42, 3, 182, 1, 11, 54, 4, 42, 180, 0, 68, 8]
abbrev dktX7_readRoad_1 : List UInt8 := dkwX7_readRoad_1 ++ dktX7_readRoad_2
def dkwX7_readRoad_0 : List UInt8 := [42, 42, 180, 0, 147, 180, 1, 8, 16, 12, 182, 0, 222, 42, 3, 182, 1, 11, 60, 42, 182, 0, 111, 42]
abbrev dktX7_readRoad_0 : List UInt8 := dkwX7_readRoad_0 ++ dktX7_readRoad_1
theorem dksX7_readRoad_0 : cX7_readRoad.data.toList.drop 0 = dktX7_readRoad_0 := by decide +kernel
theorem dksX7_readRoad_1 : cX7_readRoad.data.toList.drop 24 = dktX7_readRoad_1 := dk_seg dksX7_readRoad_0 24 rfl rfl
theorem dksX7_readRoad_2 : cX7_readRoad.data.toList.drop 48 = dktX7_readRoad_2 := dk_seg dksX7_readRoad_1 24 rfl rfl
theorem dksX7_readRoad_3 : cX7_readRoad.data.toList.drop 72 = dktX7_readRoad_3 := dk_seg dksX7_readRoad_2 24 rfl rfl
theorem dksX7_readRoad_4 : cX7_readRoad.data.toList.drop 96 = dktX7_readRoad_4 := dk_seg dksX7_readRoad_3 24 rfl rfl
theorem dksX7_readRoad_5 : cX7_readRoad.data.toList.drop 120 = dktX7_readRoad_5 := dk_seg dksX7_readRoad_4 24 rfl rfl
theorem dksX7_readRoad_6 : cX7_readRoad.data.toList.drop 143 = dktX7_readRoad_6 := dk_seg dksX7_readRoad_5 23 rfl rfl
theorem dksX7_readRoad_7 : cX7_readRoad.data.toList.drop 167 = dktX7_readRoad_7 := dk_seg dksX7_readRoad_6 24 rfl rfl
theorem dX7_readRoad_0 : decode cX7_readRoad 0 = .ok (.aload_n 0, 1) := dk_42 (dk_at dksX7_readRoad_0 0 rfl rfl)
theorem dX7_readRoad_1 : decode cX7_readRoad 1 = .ok (.aload_n 0, 1) := dk_42 (dk_at dksX7_readRoad_0 1 rfl rfl)
theorem dX7_readRoad_2 : decode cX7_readRoad 2 = .ok (.getfield 147, 3) := dk_180 0 147 (dk_at dksX7_readRoad_0 2 rfl rfl)
theorem dX7_readRoad_5 : decode cX7_readRoad 5 = .ok (.getfield 264, 3) := dk_180 1 8 (dk_at dksX7_readRoad_0 5 rfl rfl)
theorem dX7_readRoad_8 : decode cX7_readRoad 8 = .ok (.bipush 12, 2) := dk_16 12 (dk_at dksX7_readRoad_0 8 rfl rfl)
theorem dX7_readRoad_10 : decode cX7_readRoad 10 = .ok (.invokevirtual 222, 3) := dk_182 0 222 (dk_at dksX7_readRoad_0 10 rfl rfl)
theorem dX7_readRoad_13 : decode cX7_readRoad 13 = .ok (.aload_n 0, 1) := dk_42 (dk_at dksX7_readRoad_0 13 rfl rfl)
theorem dX7_readRoad_14 : decode cX7_readRoad 14 = .ok (.iconst 0, 1) := dk_3 (dk_at dksX7_readRoad_0 14 rfl rfl)
theorem dX7_readRoad_15 : decode cX7_readRoad 15 = .ok (.invokevirtual 267, 3) := dk_182 1 11 (dk_at dksX7_readRoad_0 15 rfl rfl)
theorem dX7_readRoad_18 : decode cX7_readRoad 18 = .ok (.istore_n 1, 1) := dk_60 (dk_at dksX7_readRoad_0 18 rfl rfl)
theorem dX7_readRoad_19 : decode cX7_readRoad 19 = .ok (.aload_n 0, 1) := dk_42 (dk_at dksX7_readRoad_0 19 rfl rfl)
theorem dX7_readRoad_20 : decode cX7_readRoad 20 = .ok (.invokevirtual 111, 3) := dk_182 0 111 (dk_at dksX7_readRoad_0 20 rfl rfl)
theorem dX7_readRoad_23 : decode cX7_readRoad 23 = .ok (.aload_n 0, 1) := dk_42 (dk_at dksX7_readRoad_0 23 rfl rfl)
theorem dX7_readRoad_24 : decode cX7_readRoad 24 = .ok (.invokevirtual 232, 3) := dk_182 0 232 (dk_at dksX7_readRoad_1 0 rfl rfl)
theorem dX7_readRoad_27 : decode cX7_readRoad 27 = .ok (.istore_n 2, 1) := dk_61 (dk_at dksX7_readRoad_1 3 rfl rfl)
theorem dX7_readRoad_28 : decode cX7_readRoad 28 = .ok (.aload_n 0, 1) := dk_42 (dk_at dksX7_readRoad_1 4 rfl rfl)
theorem dX7_readRoad_29 : decode cX7_readRoad 29 = .ok (.iconst 1, 1) := dk_4 (dk_at dksX7_readRoad_1 5 rfl rfl)
theorem dX7_readRoad_30 : decode cX7_readRoad 30 = .ok (.bipush 60, 2) := dk_16 60 (dk_at dksX7_readRoad_1 6 rfl rfl)
theorem dX7_readRoad_32 : decode cX7_readRoad 32 = .ok (.invokevirtual 126, 3) := dk_182 0 126 (dk_at dksX7_readRoad_1 8 rfl rfl)
theorem dX7_readRoad_35 : decode cX7_readRoad 35 = .ok (.istore_n 3, 1) := dk_62 (dk_at dksX7_readRoad_1 11 rfl rfl)
theorem dX7_readRoad_36 : decode cX7_readRoad 36 = .ok (.aload_n 0, 1) := dk_42 (dk_at dksX7_readRoad_1 12 rfl rfl)
theorem dX7_readRoad_37 : decode cX7_readRoad 37 = .ok (.iconst 0, 1) := dk_3 (dk_at dksX7_readRoad_1 13 rfl rfl)
theorem dX7_readRoad_38 : decode cX7_readRoad 38 = .ok (.invokevirtual 267, 3) := dk_182 1 11 (dk_at dksX7_readRoad_1 14 rfl rfl)
theorem dX7_readRoad_41 : decode cX7_readRoad 41 = .ok (.istore 4, 2) := dk_54 4 (dk_at dksX7_readRoad_1 17 rfl rfl)
theorem dX7_readRoad_43 : decode cX7_readRoad 43 = .ok (.aload_n 0, 1) := dk_42 (dk_at dksX7_readRoad_1 19 rfl rfl)
theorem dX7_readRoad_44 : decode cX7_readRoad 44 = .ok (.getfield 68, 3) := dk_180 0 68 (dk_at dksX7_readRoad_1 20 rfl rfl)
theorem dX7_readRoad_47 : decode cX7_readRoad 47 = .ok (.iconst 5, 1) := dk_8 (dk_at dksX7_readRoad_1 23 rfl rfl)
theorem dX7_readRoad_48 : decode cX7_readRoad 48 = .ok (.if_icmp .eq 14, 3) := dk_159 0 14 (dk_at dksX7_readRoad_2 0 rfl rfl)
theorem dX7_readRoad_51 : decode cX7_readRoad 51 = .ok (.iload 4, 2) := dk_21 4 (dk_at dksX7_readRoad_2 3 rfl rfl)
theorem dX7_readRoad_53 : decode cX7_readRoad 53 = .ok (.iload_n 1, 1) := dk_27 (dk_at dksX7_readRoad_2 5 rfl rfl)
theorem dX7_readRoad_54 : decode cX7_readRoad 54 = .ok (.if_icmp .ne 8, 3) := dk_160 0 8 (dk_at dksX7_readRoad_2 6 rfl rfl)
theorem dX7_readRoad_57 : decode cX7_readRoad 57 = .ok (.aload_n 0, 1) := dk_42 (dk_at dksX7_readRoad_2 9 rfl rfl)
theorem dX7_readRoad_58 : decode cX7_readRoad 58 = .ok (.iconst 3, 1) := dk_6 (dk_at dksX7_readRoad_2 10 rfl rfl)
theorem dX7_readRoad_59 : decode cX7_readRoad 59 = .ok (.invokevirtual 114, 3) := dk_182 0 114 (dk_at dksX7_readRoad_2 11 rfl rfl)
theorem dX7_readRoad_62 : decode cX7_readRoad 62 = .ok (.aload_n 0, 1) := dk_42 (dk_at dksX7_readRoad_2 14 rfl rfl)
theorem dX7_readRoad_63 : decode cX7_readRoad 63 = .ok (.invokevirtual 111, 3) := dk_182 0 111 (dk_at dksX7_readRoad_2 15 rfl rfl)
theorem dX7_readRoad_66 : decode cX7_readRoad 66 = .ok (.aload_n 0, 1) := dk_42 (dk_at dksX7_readRoad_2 18 rfl rfl)
theorem dX7_readRoad_67 : decode cX7_readRoad 67 = .ok (.ldc 145, 2) := dk_18 145 (dk_at dksX7_readRoad_2 19 rfl rfl)
theorem dX7_readRoad_69 : decode cX7_readRoad 69 = .ok (.invokevirtual 252, 3) := dk_182 0 252 (dk_at dksX7_readRoad_2 21 rfl rfl)
theorem dX7_readRoad_72 : decode cX7_readRoad 72 = .ok (.ifCond .eq 12, 3) := dk_153 0 12 (dk_at dksX7_readRoad_3 0 rfl rfl)
theorem dX7_readRoad_75 : decode cX7_readRoad 75 = .ok (.aload_n 0, 1) := dk_42 (dk_at dksX7_readRoad_3 3 rfl rfl)
theorem dX7_readRoad_76 : decode cX7_readRoad 76 = .ok (.iconst 0, 1) := dk_3 (dk_at dksX7_readRoad_3 4 rfl rfl)
theorem dX7_readRoad_77 : decode cX7_readRoad 77 = .ok (.iload_n 3, 1) := dk_29 (dk_at dksX7_readRoad_3 5 rfl rfl)
theorem dX7_readRoad_78 : decode cX7_readRoad 78 = .ok (.invokevirtual 126, 3) := dk_182 0 126 (dk_at dksX7_readRoad_3 6 rfl rfl)
theorem dX7_readRoad_81 : decode cX7_readRoad 81 = .ok (.goto 4, 3) := dk_167 0 4 (dk_at dksX7_readRoad_3 9 rfl rfl)
theorem dX7_readRoad_84 : decode cX7_readRoad 84 = .ok (.iconst 0, 1) := dk_3 (dk_at dksX7_readRoad_3 12 rfl rfl)
theorem dX7_readRoad_85 : decode cX7_readRoad 85 = .ok (.istore 5, 2) := dk_54 5 (dk_at dksX7_readRoad_3 13 rfl rfl)
theorem dX7_readRoad_87 : decode cX7_readRoad 87 = .ok (.aload_n 0, 1) := dk_42 (dk_at dksX7_readRoad_3 15 rfl rfl)
theorem dX7_readRoad_88 : decode cX7_readRoad 88 = .ok (.getfield 68, 3) := dk_180 0 68 (dk_at dksX7_readRoad_3 16 rfl rfl)
theorem dX7_readRoad_91 : decode cX7_readRoad 91 = .ok (.iconst 5, 1) := dk_8 (dk_at dksX7_readRoad_3 19 rfl rfl)
theorem dX7_readRoad_92 : decode cX7_readRoad 92 = .ok (.if_icmp .ne 4, 3) := dk_160 0 4 (dk_at dksX7_readRoad_3 20 rfl rfl)
theorem dX7_readRoad_95 : decode cX7_readRoad 95 = .ok (.return_, 1) := dk_177 (dk_at dksX7_readRoad_3 23 rfl rfl)
theorem dX7_readRoad_96 : decode cX7_readRoad 96 = .ok (.aload_n 0, 1) := dk_42 (dk_at dksX7_readRoad_4 0 rfl rfl)
theorem dX7_readRoad_97 : decode cX7_readRoad 97 = .ok (.getfield 147, 3) := dk_180 0 147 (dk_at dksX7_readRoad_4 1 rfl rfl)
theorem dX7_readRoad_100 : decode cX7_readRoad 100 = .ok (.getfield 264, 3) := dk_180 1 8 (dk_at dksX7_readRoad_4 4 rfl rfl)
theorem dX7_readRoad_103 : decode cX7_readRoad 103 = .ok (.istore 6, 2) := dk_54 6 (dk_at dksX7_readRoad_4 7 rfl rfl)
theorem dX7_readRoad_105 : decode cX7_readRoad 105 = .ok (.aload_n 0, 1) := dk_42 (dk_at dksX7_readRoad_4 9 rfl rfl)
theorem dX7_readRoad_106 : decode cX7_readRoad 106 = .ok (.getfield 147, 3) := dk_180 0 147 (dk_at dksX7_readRoad_4 10 rfl rfl)
theorem dX7_readRoad_109 : decode cX7_readRoad 109 = .ok (.getfield 270, 3) := dk_180 1 14 (dk_at dksX7_readRoad_4 13 rfl rfl)
theorem dX7_readRoad_112 : decode cX7_readRoad 112 = .ok (.iload 6, 2) := dk_21 6 (dk_at dksX7_readRoad_4 16 rfl rfl)
theorem dX7_readRoad_114 : decode cX7_readRoad 114 = .ok (.iload_n 1, 1) := dk_27 (dk_at dksX7_readRoad_4 18 rfl rfl)
theorem dX7_readRoad_115 : decode cX7_readRoad 115 = .ok (.iastore, 1) := dk_79 (dk_at dksX7_readRoad_4 19 rfl rfl)
theorem dX7_readRoad_116 : decode cX7_readRoad 116 = .ok (.aload_n 0, 1) := dk_42 (dk_at dksX7_readRoad_4 20 rfl rfl)
theorem dX7_readRoad_117 : decode cX7_readRoad 117 = .ok (.getfield 147, 3) := dk_180 0 147 (dk_at dksX7_readRoad_4 21 rfl rfl)
theorem dX7_readRoad_120 : decode cX7_readRoad 120 = .ok (.getfield 273, 3) := dk_180 1 17 (dk_at dksX7_readRoad_5 0 rfl rfl)
theorem dX7_readRoad_123 : decode cX7_readRoad 123 = .ok (.iload 6, 2) := dk_21 6 (dk_at dksX7_readRoad_5 3 rfl rfl)
theorem dX7_readRoad_125 : decode cX7_readRoad 125 = .ok (.iload 4, 2) := dk_21 4 (dk_at dksX7_readRoad_5 5 rfl rfl)
theorem dX7_readRoad_127 : decode cX7_readRoad 127 = .ok (.iastore, 1) := dk_79 (dk_at dksX7_readRoad_5 7 rfl rfl)
theorem dX7_readRoad_128 : decode cX7_readRoad 128 = .ok (.aload_n 0, 1) := dk_42 (dk_at dksX7_readRoad_5 8 rfl rfl)
theorem dX7_readRoad_129 : decode cX7_readRoad 129 = .ok (.getfield 147, 3) := dk_180 0 147 (dk_at dksX7_readRoad_5 9 rfl rfl)
theorem dX7_readRoad_132 : decode cX7_readRoad 132 = .ok (.getfield 276, 3) := dk_180 1 20 (dk_at dksX7_readRoad_5 12 rfl rfl)
theorem dX7_readRoad_135 : decode cX7_readRoad 135 = .ok (.iload 6, 2) := dk_21 6 (dk_at dksX7_readRoad_5 15 rfl rfl)
theorem dX7_readRoad_137 : decode cX7_readRoad 137 = .ok (.iload_n 2, 1) := dk_28 (dk_at dksX7_readRoad_5 17 rfl rfl)
theorem dX7_readRoad_138 : decode cX7_readRoad 138 = .ok (.iastore, 1) := dk_79 (dk_at dksX7_readRoad_5 18 rfl rfl)
theorem dX7_readRoad_139 : decode cX7_readRoad 139 = .ok (.aload_n 0, 1) := dk_42 (dk_at dksX7_readRoad_5 19 rfl rfl)
theorem dX7_readRoad_140 : decode cX7_readRoad 140 = .ok (.getfield 147, 3) := dk_180 0 147 (dk_at dksX7_readRoad_5 20 rfl rfl)
theorem dX7_readRoad_143 : decode cX7_readRoad 143 = .ok (.getfield 279, 3) := dk_180 1 23 (dk_at dksX7_readRoad_6 0 rfl rfl)
theorem dX7_readRoad_146 : decode cX7_readRoad 146 = .ok (.iload 6, 2) := dk_21 6 (dk_at dksX7_readRoad_6 3 rfl rfl)
theorem dX7_readRoad_148 : decode cX7_readRoad 148 = .ok (.iload_n 3, 1) := dk_29 (dk_at dksX7_readRoad_6 5 rfl rfl)
theorem dX7_readRoad_149 : decode cX7_readRoad 149 = .ok (.iastore, 1) := dk_79 (dk_at dksX7_readRoad_6 6 rfl rfl)
theorem dX7_readRoad_150 : decode cX7_readRoad 150 = .ok (.aload_n 0, 1) := dk_42 (dk_at dksX7_readRoad_6 7 rfl rfl)
theorem dX7_readRoad_151 : decode cX7_readRoad 151 = .ok (.getfield 147, 3) := dk_180 0 147 (dk_at dksX7_readRoad_6 8 rfl rfl)
theorem dX7_readRoad_154 : decode cX7_readRoad 154 = .ok (.getfield 282, 3) := dk_180 1 26 (dk_at dksX7_readRoad_6 11 rfl rfl)
theorem dX7_readRoad_157 : decode cX7_readRoad 157 = .ok (.iload 6, 2) := dk_21 6 (dk_at dksX7_readRoad_6 14 rfl rfl)
theorem dX7_readRoad_159 : decode cX7_readRoad 159 = .ok (.iload 5, 2) := dk_21 5 (dk_at dksX7_readRoad_6 16 rfl rfl)
theorem dX7_readRoad_161 : decode cX7_readRoad 161 = .ok (.iastore, 1) := dk_79 (dk_at dksX7_readRoad_6 18 rfl rfl)
theorem dX7_readRoad_162 : decode cX7_readRoad 162 = .ok (.aload_n 0, 1) := dk_42 (dk_at dksX7_readRoad_6 19 rfl rfl)
theorem dX7_readRoad_163 : decode cX7_readRoad 163 = .ok (.getfield 147, 3) := dk_180 0 147 (dk_at dksX7_readRoad_6 20 rfl rfl)
theorem dX7_readRoad_166 : decode cX7_readRoad 166 = .ok (.dup, 1) := dk_89 (dk_at dksX7_readRoad_6 23 rfl rfl)
theorem dX7_readRoad_167 : decode cX7_readRoad 167 = .ok (.getfield 264, 3) := dk_180 1 8 (dk_at dksX7_readRoad_7 0 rfl rfl)
theorem dX7_readRoad_170 : decode cX7_readRoad 170 = .ok (.iconst 1, 1) := dk_4 (dk_at dksX7_readRoad_7 3 rfl rfl)
theorem dX7_readRoad_171 : decode cX7_readRoad 171 = .ok (.iadd, 1) := dk_96 (dk_at dksX7_readRoad_7 4 rfl rfl)
theorem dX7_readRoad_172 : decode cX7_readRoad 172 = .ok (.putfield 264, 3) := dk_181 1 8 (dk_at dksX7_readRoad_7 5 rfl rfl)
theorem dX7_readRoad_175 : decode cX7_readRoad 175 = .ok (.return_, 1) := dk_177 (dk_at dksX7_readRoad_7 8 rfl rfl)
abbrev cX7_known : ByteArray := prog_19_method_26_code
def yX7_known : MethodName := ⟨RX7, "known", "(I)I"⟩
def dkwX7_known_2 : List UInt8 := [180, 0, 68, 8, 160, 0, 7, 3, 167, 0, 12, 42, 180, 0, 147, 180, 0, 173, 28, 46, 172]
abbrev dktX7_known_2 : List UInt8 := dkwX7_known_2 ++ []
def dkwX7_known_1 : List UInt8 := [28, 2, 159, 0, 16, 42, 180, 0, 147, 180, 0, 170, 28, 46, 27, 159, 0, 8, 42, 5, 182, 0, 114, 42]
abbrev dktX7_known_1 : List UInt8 := dkwX7_known_1 ++ dktX7_known_2
def dkwX7_known_0 : List UInt8 := [42, 182, 0, 156, 154, 0, 8, 42, 4, 182, 0, 114, 42, 180, 0, 147, 42, 180, 0, 87, 182, 0, 160, 61]
abbrev dktX7_known_0 : List UInt8 := dkwX7_known_0 ++ dktX7_known_1
theorem dksX7_known_0 : cX7_known.data.toList.drop 0 = dktX7_known_0 := by decide +kernel
theorem dksX7_known_1 : cX7_known.data.toList.drop 24 = dktX7_known_1 := dk_seg dksX7_known_0 24 rfl rfl
theorem dksX7_known_2 : cX7_known.data.toList.drop 48 = dktX7_known_2 := dk_seg dksX7_known_1 24 rfl rfl
theorem dX7_known_0 : decode cX7_known 0 = .ok (.aload_n 0, 1) := dk_42 (dk_at dksX7_known_0 0 rfl rfl)
theorem dX7_known_1 : decode cX7_known 1 = .ok (.invokevirtual 156, 3) := dk_182 0 156 (dk_at dksX7_known_0 1 rfl rfl)
theorem dX7_known_4 : decode cX7_known 4 = .ok (.ifCond .ne 8, 3) := dk_154 0 8 (dk_at dksX7_known_0 4 rfl rfl)
theorem dX7_known_7 : decode cX7_known 7 = .ok (.aload_n 0, 1) := dk_42 (dk_at dksX7_known_0 7 rfl rfl)
theorem dX7_known_8 : decode cX7_known 8 = .ok (.iconst 1, 1) := dk_4 (dk_at dksX7_known_0 8 rfl rfl)
theorem dX7_known_9 : decode cX7_known 9 = .ok (.invokevirtual 114, 3) := dk_182 0 114 (dk_at dksX7_known_0 9 rfl rfl)
theorem dX7_known_12 : decode cX7_known 12 = .ok (.aload_n 0, 1) := dk_42 (dk_at dksX7_known_0 12 rfl rfl)
theorem dX7_known_13 : decode cX7_known 13 = .ok (.getfield 147, 3) := dk_180 0 147 (dk_at dksX7_known_0 13 rfl rfl)
theorem dX7_known_16 : decode cX7_known 16 = .ok (.aload_n 0, 1) := dk_42 (dk_at dksX7_known_0 16 rfl rfl)
theorem dX7_known_17 : decode cX7_known 17 = .ok (.getfield 87, 3) := dk_180 0 87 (dk_at dksX7_known_0 17 rfl rfl)
theorem dX7_known_20 : decode cX7_known 20 = .ok (.invokevirtual 160, 3) := dk_182 0 160 (dk_at dksX7_known_0 20 rfl rfl)
theorem dX7_known_23 : decode cX7_known 23 = .ok (.istore_n 2, 1) := dk_61 (dk_at dksX7_known_0 23 rfl rfl)
theorem dX7_known_24 : decode cX7_known 24 = .ok (.iload_n 2, 1) := dk_28 (dk_at dksX7_known_1 0 rfl rfl)
theorem dX7_known_25 : decode cX7_known 25 = .ok (.iconst (-1), 1) := dk_2 (dk_at dksX7_known_1 1 rfl rfl)
theorem dX7_known_26 : decode cX7_known 26 = .ok (.if_icmp .eq 16, 3) := dk_159 0 16 (dk_at dksX7_known_1 2 rfl rfl)
theorem dX7_known_29 : decode cX7_known 29 = .ok (.aload_n 0, 1) := dk_42 (dk_at dksX7_known_1 5 rfl rfl)
theorem dX7_known_30 : decode cX7_known 30 = .ok (.getfield 147, 3) := dk_180 0 147 (dk_at dksX7_known_1 6 rfl rfl)
theorem dX7_known_33 : decode cX7_known 33 = .ok (.getfield 170, 3) := dk_180 0 170 (dk_at dksX7_known_1 9 rfl rfl)
theorem dX7_known_36 : decode cX7_known 36 = .ok (.iload_n 2, 1) := dk_28 (dk_at dksX7_known_1 12 rfl rfl)
theorem dX7_known_37 : decode cX7_known 37 = .ok (.iaload, 1) := dk_46 (dk_at dksX7_known_1 13 rfl rfl)
theorem dX7_known_38 : decode cX7_known 38 = .ok (.iload_n 1, 1) := dk_27 (dk_at dksX7_known_1 14 rfl rfl)
theorem dX7_known_39 : decode cX7_known 39 = .ok (.if_icmp .eq 8, 3) := dk_159 0 8 (dk_at dksX7_known_1 15 rfl rfl)
theorem dX7_known_42 : decode cX7_known 42 = .ok (.aload_n 0, 1) := dk_42 (dk_at dksX7_known_1 18 rfl rfl)
theorem dX7_known_43 : decode cX7_known 43 = .ok (.iconst 2, 1) := dk_5 (dk_at dksX7_known_1 19 rfl rfl)
theorem dX7_known_44 : decode cX7_known 44 = .ok (.invokevirtual 114, 3) := dk_182 0 114 (dk_at dksX7_known_1 20 rfl rfl)
theorem dX7_known_47 : decode cX7_known 47 = .ok (.aload_n 0, 1) := dk_42 (dk_at dksX7_known_1 23 rfl rfl)
theorem dX7_known_48 : decode cX7_known 48 = .ok (.getfield 68, 3) := dk_180 0 68 (dk_at dksX7_known_2 0 rfl rfl)
theorem dX7_known_51 : decode cX7_known 51 = .ok (.iconst 5, 1) := dk_8 (dk_at dksX7_known_2 3 rfl rfl)
theorem dX7_known_52 : decode cX7_known 52 = .ok (.if_icmp .ne 7, 3) := dk_160 0 7 (dk_at dksX7_known_2 4 rfl rfl)
theorem dX7_known_55 : decode cX7_known 55 = .ok (.iconst 0, 1) := dk_3 (dk_at dksX7_known_2 7 rfl rfl)
theorem dX7_known_56 : decode cX7_known 56 = .ok (.goto 12, 3) := dk_167 0 12 (dk_at dksX7_known_2 8 rfl rfl)
theorem dX7_known_59 : decode cX7_known 59 = .ok (.aload_n 0, 1) := dk_42 (dk_at dksX7_known_2 11 rfl rfl)
theorem dX7_known_60 : decode cX7_known 60 = .ok (.getfield 147, 3) := dk_180 0 147 (dk_at dksX7_known_2 12 rfl rfl)
theorem dX7_known_63 : decode cX7_known 63 = .ok (.getfield 173, 3) := dk_180 0 173 (dk_at dksX7_known_2 15 rfl rfl)
theorem dX7_known_66 : decode cX7_known 66 = .ok (.iload_n 2, 1) := dk_28 (dk_at dksX7_known_2 18 rfl rfl)
theorem dX7_known_67 : decode cX7_known 67 = .ok (.iaload, 1) := dk_46 (dk_at dksX7_known_2 19 rfl rfl)
theorem dX7_known_68 : decode cX7_known 68 = .ok (.ireturn, 1) := dk_172 (dk_at dksX7_known_2 20 rfl rfl)
abbrev cX7_readWalker : ByteArray := prog_19_method_34_code
def yX7_readWalker : MethodName := ⟨RX7, "readWalker", "()V"⟩
def dkwX7_readWalker_15 : List UInt8 := [180, 0, 193, 4, 96, 181, 0, 193, 177]
abbrev dktX7_readWalker_15 : List UInt8 := dkwX7_readWalker_15 ++ []
def dkwX7_readWalker_14 : List UInt8 := [21, 11, 21, 9, 79, 42, 180, 0, 147, 180, 1, 64, 21, 11, 21, 10, 79, 42, 180, 0, 147, 89]
abbrev dktX7_readWalker_14 : List UInt8 := dkwX7_readWalker_14 ++ dktX7_readWalker_15
def dkwX7_readWalker_13 : List UInt8 := [180, 1, 58, 21, 11, 21, 7, 21, 5, 96, 21, 8, 21, 5, 100, 104, 79, 42, 180, 0, 147, 180, 1, 61]
abbrev dktX7_readWalker_13 : List UInt8 := dkwX7_readWalker_13 ++ dktX7_readWalker_14
def dkwX7_readWalker_12 : List UInt8 := [104, 79, 42, 180, 0, 147, 180, 1, 55, 21, 11, 21, 6, 21, 8, 21, 5, 100, 104, 79, 42, 180, 0, 147]
abbrev dktX7_readWalker_12 : List UInt8 := dkwX7_readWalker_12 ++ dktX7_readWalker_13
def dkwX7_readWalker_11 : List UInt8 := [180, 1, 49, 21, 11, 21, 4, 79, 42, 180, 0, 147, 180, 1, 52, 21, 11, 21, 6, 21, 7, 21, 5, 96]
abbrev dktX7_readWalker_11 : List UInt8 := dkwX7_readWalker_11 ++ dktX7_readWalker_12
def dkwX7_readWalker_10 : List UInt8 := [31, 4, 21, 11, 182, 0, 255, 42, 180, 0, 147, 180, 1, 46, 21, 11, 29, 79, 42, 180, 0, 147]
abbrev dktX7_readWalker_10 : List UInt8 := dkwX7_readWalker_10 ++ dktX7_readWalker_11
def dkwX7_readWalker_9 : List UInt8 := [182, 0, 215, 54, 10, 42, 180, 0, 68, 8, 160, 0, 4, 177, 42, 180, 0, 147, 180, 0, 193, 54, 11, 42]
abbrev dktX7_readWalker_9 : List UInt8 := dkwX7_readWalker_9 ++ dktX7_readWalker_10
def dkwX7_readWalker_8 : List UInt8 := [54, 8, 42, 19, 1, 42, 4, 16, 9, 182, 0, 215, 54, 9, 42, 19, 1, 44, 21, 9, 16, 9]
abbrev dktX7_readWalker_8 : List UInt8 := dkwX7_readWalker_8 ++ dktX7_readWalker_9
def dkwX7_readWalker_7 : List UInt8 := [19, 1, 38, 4, 16, 9, 182, 0, 215, 54, 7, 42, 19, 1, 40, 21, 5, 4, 96, 16, 9, 182, 0, 215]
abbrev dktX7_readWalker_7 : List UInt8 := dkwX7_readWalker_7 ++ dktX7_readWalker_8
def dkwX7_readWalker_6 : List UInt8 := [160, 0, 8, 21, 4, 167, 0, 4, 3, 54, 5, 42, 19, 1, 36, 4, 16, 9, 182, 0, 215, 54, 6, 42]
abbrev dktX7_readWalker_6 : List UInt8 := dkwX7_readWalker_6 ++ dktX7_readWalker_7
def dkwX7_readWalker_5 : List UInt8 := [167, 0, 19, 29, 6, 160, 0, 13, 42, 4, 16, 99, 182, 0, 126, 167, 0, 4, 3, 54, 4, 29, 4]
abbrev dktX7_readWalker_5 : List UInt8 := dkwX7_readWalker_5 ++ dktX7_readWalker_6
def dkwX7_readWalker_4 : List UInt8 := [42, 4, 16, 8, 182, 0, 126, 167, 0, 35, 29, 5, 160, 0, 14, 42, 3, 17, 3, 231, 182, 0, 126]
abbrev dktX7_readWalker_4 : List UInt8 := dkwX7_readWalker_4 ++ dktX7_readWalker_5
def dkwX7_readWalker_3 : List UInt8 := [167, 0, 4, 2, 62, 29, 2, 160, 0, 8, 42, 4, 182, 0, 114, 42, 182, 0, 111, 29, 4, 160, 0, 13]
abbrev dktX7_readWalker_3 : List UInt8 := dkwX7_readWalker_3 ++ dktX7_readWalker_4
def dkwX7_readWalker_2 : List UInt8 := [19, 1, 32, 182, 0, 107, 153, 0, 7, 5, 167, 0, 18, 42, 19, 1, 34, 182, 0, 107, 153, 0, 7, 6]
abbrev dktX7_readWalker_2 : List UInt8 := dkwX7_readWalker_2 ++ dktX7_readWalker_3
def dkwX7_readWalker_1 : List UInt8 := [153, 0, 7, 3, 167, 0, 46, 42, 19, 1, 30, 182, 0, 107, 153, 0, 7, 4, 167, 0, 32, 42]
abbrev dktX7_readWalker_1 : List UInt8 := dkwX7_readWalker_1 ++ dktX7_readWalker_2
def dkwX7_readWalker_0 : List UInt8 := [42, 42, 180, 0, 147, 180, 0, 193, 7, 182, 0, 222, 42, 182, 0, 248, 64, 42, 19, 1, 28, 182, 0, 107]
abbrev dktX7_readWalker_0 : List UInt8 := dkwX7_readWalker_0 ++ dktX7_readWalker_1
theorem dksX7_readWalker_0 : cX7_readWalker.data.toList.drop 0 = dktX7_readWalker_0 := by decide +kernel
theorem dksX7_readWalker_1 : cX7_readWalker.data.toList.drop 24 = dktX7_readWalker_1 := dk_seg dksX7_readWalker_0 24 rfl rfl
theorem dksX7_readWalker_2 : cX7_readWalker.data.toList.drop 46 = dktX7_readWalker_2 := dk_seg dksX7_readWalker_1 22 rfl rfl
theorem dksX7_readWalker_3 : cX7_readWalker.data.toList.drop 70 = dktX7_readWalker_3 := dk_seg dksX7_readWalker_2 24 rfl rfl
theorem dksX7_readWalker_4 : cX7_readWalker.data.toList.drop 94 = dktX7_readWalker_4 := dk_seg dksX7_readWalker_3 24 rfl rfl
theorem dksX7_readWalker_5 : cX7_readWalker.data.toList.drop 117 = dktX7_readWalker_5 := dk_seg dksX7_readWalker_4 23 rfl rfl
theorem dksX7_readWalker_6 : cX7_readWalker.data.toList.drop 140 = dktX7_readWalker_6 := dk_seg dksX7_readWalker_5 23 rfl rfl
theorem dksX7_readWalker_7 : cX7_readWalker.data.toList.drop 164 = dktX7_readWalker_7 := dk_seg dksX7_readWalker_6 24 rfl rfl
theorem dksX7_readWalker_8 : cX7_readWalker.data.toList.drop 188 = dktX7_readWalker_8 := dk_seg dksX7_readWalker_7 24 rfl rfl
theorem dksX7_readWalker_9 : cX7_readWalker.data.toList.drop 210 = dktX7_readWalker_9 := dk_seg dksX7_readWalker_8 22 rfl rfl
theorem dksX7_readWalker_10 : cX7_readWalker.data.toList.drop 234 = dktX7_readWalker_10 := dk_seg dksX7_readWalker_9 24 rfl rfl
theorem dksX7_readWalker_11 : cX7_readWalker.data.toList.drop 256 = dktX7_readWalker_11 := dk_seg dksX7_readWalker_10 22 rfl rfl
theorem dksX7_readWalker_12 : cX7_readWalker.data.toList.drop 280 = dktX7_readWalker_12 := dk_seg dksX7_readWalker_11 24 rfl rfl
theorem dksX7_readWalker_13 : cX7_readWalker.data.toList.drop 304 = dktX7_readWalker_13 := dk_seg dksX7_readWalker_12 24 rfl rfl
theorem dksX7_readWalker_14 : cX7_readWalker.data.toList.drop 328 = dktX7_readWalker_14 := dk_seg dksX7_readWalker_13 24 rfl rfl
theorem dksX7_readWalker_15 : cX7_readWalker.data.toList.drop 350 = dktX7_readWalker_15 := dk_seg dksX7_readWalker_14 22 rfl rfl
theorem dX7_readWalker_0 : decode cX7_readWalker 0 = .ok (.aload_n 0, 1) := dk_42 (dk_at dksX7_readWalker_0 0 rfl rfl)
theorem dX7_readWalker_1 : decode cX7_readWalker 1 = .ok (.aload_n 0, 1) := dk_42 (dk_at dksX7_readWalker_0 1 rfl rfl)
theorem dX7_readWalker_2 : decode cX7_readWalker 2 = .ok (.getfield 147, 3) := dk_180 0 147 (dk_at dksX7_readWalker_0 2 rfl rfl)
theorem dX7_readWalker_5 : decode cX7_readWalker 5 = .ok (.getfield 193, 3) := dk_180 0 193 (dk_at dksX7_readWalker_0 5 rfl rfl)
theorem dX7_readWalker_8 : decode cX7_readWalker 8 = .ok (.iconst 4, 1) := dk_7 (dk_at dksX7_readWalker_0 8 rfl rfl)
theorem dX7_readWalker_9 : decode cX7_readWalker 9 = .ok (.invokevirtual 222, 3) := dk_182 0 222 (dk_at dksX7_readWalker_0 9 rfl rfl)
theorem dX7_readWalker_12 : decode cX7_readWalker 12 = .ok (.aload_n 0, 1) := dk_42 (dk_at dksX7_readWalker_0 12 rfl rfl)
theorem dX7_readWalker_13 : decode cX7_readWalker 13 = .ok (.invokevirtual 248, 3) := dk_182 0 248 (dk_at dksX7_readWalker_0 13 rfl rfl)
theorem dX7_readWalker_16 : decode cX7_readWalker 16 = .ok (.lstore_n 1, 1) := dk_64 (dk_at dksX7_readWalker_0 16 rfl rfl)
theorem dX7_readWalker_17 : decode cX7_readWalker 17 = .ok (.aload_n 0, 1) := dk_42 (dk_at dksX7_readWalker_0 17 rfl rfl)
theorem dX7_readWalker_18 : decode cX7_readWalker 18 = .ok (.ldc_w 284, 3) := dk_19 1 28 (dk_at dksX7_readWalker_0 18 rfl rfl)
theorem dX7_readWalker_21 : decode cX7_readWalker 21 = .ok (.invokevirtual 107, 3) := dk_182 0 107 (dk_at dksX7_readWalker_0 21 rfl rfl)
theorem dX7_readWalker_24 : decode cX7_readWalker 24 = .ok (.ifCond .eq 7, 3) := dk_153 0 7 (dk_at dksX7_readWalker_1 0 rfl rfl)
theorem dX7_readWalker_27 : decode cX7_readWalker 27 = .ok (.iconst 0, 1) := dk_3 (dk_at dksX7_readWalker_1 3 rfl rfl)
theorem dX7_readWalker_28 : decode cX7_readWalker 28 = .ok (.goto 46, 3) := dk_167 0 46 (dk_at dksX7_readWalker_1 4 rfl rfl)
theorem dX7_readWalker_31 : decode cX7_readWalker 31 = .ok (.aload_n 0, 1) := dk_42 (dk_at dksX7_readWalker_1 7 rfl rfl)
theorem dX7_readWalker_32 : decode cX7_readWalker 32 = .ok (.ldc_w 286, 3) := dk_19 1 30 (dk_at dksX7_readWalker_1 8 rfl rfl)
theorem dX7_readWalker_35 : decode cX7_readWalker 35 = .ok (.invokevirtual 107, 3) := dk_182 0 107 (dk_at dksX7_readWalker_1 11 rfl rfl)
theorem dX7_readWalker_38 : decode cX7_readWalker 38 = .ok (.ifCond .eq 7, 3) := dk_153 0 7 (dk_at dksX7_readWalker_1 14 rfl rfl)
theorem dX7_readWalker_41 : decode cX7_readWalker 41 = .ok (.iconst 1, 1) := dk_4 (dk_at dksX7_readWalker_1 17 rfl rfl)
theorem dX7_readWalker_42 : decode cX7_readWalker 42 = .ok (.goto 32, 3) := dk_167 0 32 (dk_at dksX7_readWalker_1 18 rfl rfl)
theorem dX7_readWalker_45 : decode cX7_readWalker 45 = .ok (.aload_n 0, 1) := dk_42 (dk_at dksX7_readWalker_1 21 rfl rfl)
theorem dX7_readWalker_46 : decode cX7_readWalker 46 = .ok (.ldc_w 288, 3) := dk_19 1 32 (dk_at dksX7_readWalker_2 0 rfl rfl)
theorem dX7_readWalker_49 : decode cX7_readWalker 49 = .ok (.invokevirtual 107, 3) := dk_182 0 107 (dk_at dksX7_readWalker_2 3 rfl rfl)
theorem dX7_readWalker_52 : decode cX7_readWalker 52 = .ok (.ifCond .eq 7, 3) := dk_153 0 7 (dk_at dksX7_readWalker_2 6 rfl rfl)
theorem dX7_readWalker_55 : decode cX7_readWalker 55 = .ok (.iconst 2, 1) := dk_5 (dk_at dksX7_readWalker_2 9 rfl rfl)
theorem dX7_readWalker_56 : decode cX7_readWalker 56 = .ok (.goto 18, 3) := dk_167 0 18 (dk_at dksX7_readWalker_2 10 rfl rfl)
theorem dX7_readWalker_59 : decode cX7_readWalker 59 = .ok (.aload_n 0, 1) := dk_42 (dk_at dksX7_readWalker_2 13 rfl rfl)
theorem dX7_readWalker_60 : decode cX7_readWalker 60 = .ok (.ldc_w 290, 3) := dk_19 1 34 (dk_at dksX7_readWalker_2 14 rfl rfl)
theorem dX7_readWalker_63 : decode cX7_readWalker 63 = .ok (.invokevirtual 107, 3) := dk_182 0 107 (dk_at dksX7_readWalker_2 17 rfl rfl)
theorem dX7_readWalker_66 : decode cX7_readWalker 66 = .ok (.ifCond .eq 7, 3) := dk_153 0 7 (dk_at dksX7_readWalker_2 20 rfl rfl)
theorem dX7_readWalker_69 : decode cX7_readWalker 69 = .ok (.iconst 3, 1) := dk_6 (dk_at dksX7_readWalker_2 23 rfl rfl)
theorem dX7_readWalker_70 : decode cX7_readWalker 70 = .ok (.goto 4, 3) := dk_167 0 4 (dk_at dksX7_readWalker_3 0 rfl rfl)
theorem dX7_readWalker_73 : decode cX7_readWalker 73 = .ok (.iconst (-1), 1) := dk_2 (dk_at dksX7_readWalker_3 3 rfl rfl)
theorem dX7_readWalker_74 : decode cX7_readWalker 74 = .ok (.istore_n 3, 1) := dk_62 (dk_at dksX7_readWalker_3 4 rfl rfl)
theorem dX7_readWalker_75 : decode cX7_readWalker 75 = .ok (.iload_n 3, 1) := dk_29 (dk_at dksX7_readWalker_3 5 rfl rfl)
theorem dX7_readWalker_76 : decode cX7_readWalker 76 = .ok (.iconst (-1), 1) := dk_2 (dk_at dksX7_readWalker_3 6 rfl rfl)
theorem dX7_readWalker_77 : decode cX7_readWalker 77 = .ok (.if_icmp .ne 8, 3) := dk_160 0 8 (dk_at dksX7_readWalker_3 7 rfl rfl)
theorem dX7_readWalker_80 : decode cX7_readWalker 80 = .ok (.aload_n 0, 1) := dk_42 (dk_at dksX7_readWalker_3 10 rfl rfl)
theorem dX7_readWalker_81 : decode cX7_readWalker 81 = .ok (.iconst 1, 1) := dk_4 (dk_at dksX7_readWalker_3 11 rfl rfl)
theorem dX7_readWalker_82 : decode cX7_readWalker 82 = .ok (.invokevirtual 114, 3) := dk_182 0 114 (dk_at dksX7_readWalker_3 12 rfl rfl)
theorem dX7_readWalker_85 : decode cX7_readWalker 85 = .ok (.aload_n 0, 1) := dk_42 (dk_at dksX7_readWalker_3 15 rfl rfl)
theorem dX7_readWalker_86 : decode cX7_readWalker 86 = .ok (.invokevirtual 111, 3) := dk_182 0 111 (dk_at dksX7_readWalker_3 16 rfl rfl)
theorem dX7_readWalker_89 : decode cX7_readWalker 89 = .ok (.iload_n 3, 1) := dk_29 (dk_at dksX7_readWalker_3 19 rfl rfl)
theorem dX7_readWalker_90 : decode cX7_readWalker 90 = .ok (.iconst 1, 1) := dk_4 (dk_at dksX7_readWalker_3 20 rfl rfl)
theorem dX7_readWalker_91 : decode cX7_readWalker 91 = .ok (.if_icmp .ne 13, 3) := dk_160 0 13 (dk_at dksX7_readWalker_3 21 rfl rfl)
theorem dX7_readWalker_94 : decode cX7_readWalker 94 = .ok (.aload_n 0, 1) := dk_42 (dk_at dksX7_readWalker_4 0 rfl rfl)
theorem dX7_readWalker_95 : decode cX7_readWalker 95 = .ok (.iconst 1, 1) := dk_4 (dk_at dksX7_readWalker_4 1 rfl rfl)
theorem dX7_readWalker_96 : decode cX7_readWalker 96 = .ok (.bipush 8, 2) := dk_16 8 (dk_at dksX7_readWalker_4 2 rfl rfl)
theorem dX7_readWalker_98 : decode cX7_readWalker 98 = .ok (.invokevirtual 126, 3) := dk_182 0 126 (dk_at dksX7_readWalker_4 4 rfl rfl)
theorem dX7_readWalker_101 : decode cX7_readWalker 101 = .ok (.goto 35, 3) := dk_167 0 35 (dk_at dksX7_readWalker_4 7 rfl rfl)
theorem dX7_readWalker_104 : decode cX7_readWalker 104 = .ok (.iload_n 3, 1) := dk_29 (dk_at dksX7_readWalker_4 10 rfl rfl)
theorem dX7_readWalker_105 : decode cX7_readWalker 105 = .ok (.iconst 2, 1) := dk_5 (dk_at dksX7_readWalker_4 11 rfl rfl)
theorem dX7_readWalker_106 : decode cX7_readWalker 106 = .ok (.if_icmp .ne 14, 3) := dk_160 0 14 (dk_at dksX7_readWalker_4 12 rfl rfl)
theorem dX7_readWalker_109 : decode cX7_readWalker 109 = .ok (.aload_n 0, 1) := dk_42 (dk_at dksX7_readWalker_4 15 rfl rfl)
theorem dX7_readWalker_110 : decode cX7_readWalker 110 = .ok (.iconst 0, 1) := dk_3 (dk_at dksX7_readWalker_4 16 rfl rfl)
theorem dX7_readWalker_111 : decode cX7_readWalker 111 = .ok (.sipush 999, 3) := dk_17 3 231 (dk_at dksX7_readWalker_4 17 rfl rfl)
theorem dX7_readWalker_114 : decode cX7_readWalker 114 = .ok (.invokevirtual 126, 3) := dk_182 0 126 (dk_at dksX7_readWalker_4 20 rfl rfl)
theorem dX7_readWalker_117 : decode cX7_readWalker 117 = .ok (.goto 19, 3) := dk_167 0 19 (dk_at dksX7_readWalker_5 0 rfl rfl)
theorem dX7_readWalker_120 : decode cX7_readWalker 120 = .ok (.iload_n 3, 1) := dk_29 (dk_at dksX7_readWalker_5 3 rfl rfl)
theorem dX7_readWalker_121 : decode cX7_readWalker 121 = .ok (.iconst 3, 1) := dk_6 (dk_at dksX7_readWalker_5 4 rfl rfl)
theorem dX7_readWalker_122 : decode cX7_readWalker 122 = .ok (.if_icmp .ne 13, 3) := dk_160 0 13 (dk_at dksX7_readWalker_5 5 rfl rfl)
theorem dX7_readWalker_125 : decode cX7_readWalker 125 = .ok (.aload_n 0, 1) := dk_42 (dk_at dksX7_readWalker_5 8 rfl rfl)
theorem dX7_readWalker_126 : decode cX7_readWalker 126 = .ok (.iconst 1, 1) := dk_4 (dk_at dksX7_readWalker_5 9 rfl rfl)
theorem dX7_readWalker_127 : decode cX7_readWalker 127 = .ok (.bipush 99, 2) := dk_16 99 (dk_at dksX7_readWalker_5 10 rfl rfl)
theorem dX7_readWalker_129 : decode cX7_readWalker 129 = .ok (.invokevirtual 126, 3) := dk_182 0 126 (dk_at dksX7_readWalker_5 12 rfl rfl)
theorem dX7_readWalker_132 : decode cX7_readWalker 132 = .ok (.goto 4, 3) := dk_167 0 4 (dk_at dksX7_readWalker_5 15 rfl rfl)
theorem dX7_readWalker_135 : decode cX7_readWalker 135 = .ok (.iconst 0, 1) := dk_3 (dk_at dksX7_readWalker_5 18 rfl rfl)
theorem dX7_readWalker_136 : decode cX7_readWalker 136 = .ok (.istore 4, 2) := dk_54 4 (dk_at dksX7_readWalker_5 19 rfl rfl)
theorem dX7_readWalker_138 : decode cX7_readWalker 138 = .ok (.iload_n 3, 1) := dk_29 (dk_at dksX7_readWalker_5 21 rfl rfl)
theorem dX7_readWalker_139 : decode cX7_readWalker 139 = .ok (.iconst 1, 1) := dk_4 (dk_at dksX7_readWalker_5 22 rfl rfl)
theorem dX7_readWalker_140 : decode cX7_readWalker 140 = .ok (.if_icmp .ne 8, 3) := dk_160 0 8 (dk_at dksX7_readWalker_6 0 rfl rfl)
theorem dX7_readWalker_143 : decode cX7_readWalker 143 = .ok (.iload 4, 2) := dk_21 4 (dk_at dksX7_readWalker_6 3 rfl rfl)
theorem dX7_readWalker_145 : decode cX7_readWalker 145 = .ok (.goto 4, 3) := dk_167 0 4 (dk_at dksX7_readWalker_6 5 rfl rfl)
theorem dX7_readWalker_148 : decode cX7_readWalker 148 = .ok (.iconst 0, 1) := dk_3 (dk_at dksX7_readWalker_6 8 rfl rfl)
theorem dX7_readWalker_149 : decode cX7_readWalker 149 = .ok (.istore 5, 2) := dk_54 5 (dk_at dksX7_readWalker_6 9 rfl rfl)
theorem dX7_readWalker_151 : decode cX7_readWalker 151 = .ok (.aload_n 0, 1) := dk_42 (dk_at dksX7_readWalker_6 11 rfl rfl)
theorem dX7_readWalker_152 : decode cX7_readWalker 152 = .ok (.ldc_w 292, 3) := dk_19 1 36 (dk_at dksX7_readWalker_6 12 rfl rfl)
theorem dX7_readWalker_155 : decode cX7_readWalker 155 = .ok (.iconst 1, 1) := dk_4 (dk_at dksX7_readWalker_6 15 rfl rfl)
theorem dX7_readWalker_156 : decode cX7_readWalker 156 = .ok (.bipush 9, 2) := dk_16 9 (dk_at dksX7_readWalker_6 16 rfl rfl)
theorem dX7_readWalker_158 : decode cX7_readWalker 158 = .ok (.invokevirtual 215, 3) := dk_182 0 215 (dk_at dksX7_readWalker_6 18 rfl rfl)
theorem dX7_readWalker_161 : decode cX7_readWalker 161 = .ok (.istore 6, 2) := dk_54 6 (dk_at dksX7_readWalker_6 21 rfl rfl)
theorem dX7_readWalker_163 : decode cX7_readWalker 163 = .ok (.aload_n 0, 1) := dk_42 (dk_at dksX7_readWalker_6 23 rfl rfl)
theorem dX7_readWalker_164 : decode cX7_readWalker 164 = .ok (.ldc_w 294, 3) := dk_19 1 38 (dk_at dksX7_readWalker_7 0 rfl rfl)
theorem dX7_readWalker_167 : decode cX7_readWalker 167 = .ok (.iconst 1, 1) := dk_4 (dk_at dksX7_readWalker_7 3 rfl rfl)
theorem dX7_readWalker_168 : decode cX7_readWalker 168 = .ok (.bipush 9, 2) := dk_16 9 (dk_at dksX7_readWalker_7 4 rfl rfl)
theorem dX7_readWalker_170 : decode cX7_readWalker 170 = .ok (.invokevirtual 215, 3) := dk_182 0 215 (dk_at dksX7_readWalker_7 6 rfl rfl)
theorem dX7_readWalker_173 : decode cX7_readWalker 173 = .ok (.istore 7, 2) := dk_54 7 (dk_at dksX7_readWalker_7 9 rfl rfl)
theorem dX7_readWalker_175 : decode cX7_readWalker 175 = .ok (.aload_n 0, 1) := dk_42 (dk_at dksX7_readWalker_7 11 rfl rfl)
theorem dX7_readWalker_176 : decode cX7_readWalker 176 = .ok (.ldc_w 296, 3) := dk_19 1 40 (dk_at dksX7_readWalker_7 12 rfl rfl)
theorem dX7_readWalker_179 : decode cX7_readWalker 179 = .ok (.iload 5, 2) := dk_21 5 (dk_at dksX7_readWalker_7 15 rfl rfl)
theorem dX7_readWalker_181 : decode cX7_readWalker 181 = .ok (.iconst 1, 1) := dk_4 (dk_at dksX7_readWalker_7 17 rfl rfl)
theorem dX7_readWalker_182 : decode cX7_readWalker 182 = .ok (.iadd, 1) := dk_96 (dk_at dksX7_readWalker_7 18 rfl rfl)
theorem dX7_readWalker_183 : decode cX7_readWalker 183 = .ok (.bipush 9, 2) := dk_16 9 (dk_at dksX7_readWalker_7 19 rfl rfl)
theorem dX7_readWalker_185 : decode cX7_readWalker 185 = .ok (.invokevirtual 215, 3) := dk_182 0 215 (dk_at dksX7_readWalker_7 21 rfl rfl)
theorem dX7_readWalker_188 : decode cX7_readWalker 188 = .ok (.istore 8, 2) := dk_54 8 (dk_at dksX7_readWalker_8 0 rfl rfl)
theorem dX7_readWalker_190 : decode cX7_readWalker 190 = .ok (.aload_n 0, 1) := dk_42 (dk_at dksX7_readWalker_8 2 rfl rfl)
theorem dX7_readWalker_191 : decode cX7_readWalker 191 = .ok (.ldc_w 298, 3) := dk_19 1 42 (dk_at dksX7_readWalker_8 3 rfl rfl)
theorem dX7_readWalker_194 : decode cX7_readWalker 194 = .ok (.iconst 1, 1) := dk_4 (dk_at dksX7_readWalker_8 6 rfl rfl)
theorem dX7_readWalker_195 : decode cX7_readWalker 195 = .ok (.bipush 9, 2) := dk_16 9 (dk_at dksX7_readWalker_8 7 rfl rfl)
theorem dX7_readWalker_197 : decode cX7_readWalker 197 = .ok (.invokevirtual 215, 3) := dk_182 0 215 (dk_at dksX7_readWalker_8 9 rfl rfl)
theorem dX7_readWalker_200 : decode cX7_readWalker 200 = .ok (.istore 9, 2) := dk_54 9 (dk_at dksX7_readWalker_8 12 rfl rfl)
theorem dX7_readWalker_202 : decode cX7_readWalker 202 = .ok (.aload_n 0, 1) := dk_42 (dk_at dksX7_readWalker_8 14 rfl rfl)
theorem dX7_readWalker_203 : decode cX7_readWalker 203 = .ok (.ldc_w 300, 3) := dk_19 1 44 (dk_at dksX7_readWalker_8 15 rfl rfl)
theorem dX7_readWalker_206 : decode cX7_readWalker 206 = .ok (.iload 9, 2) := dk_21 9 (dk_at dksX7_readWalker_8 18 rfl rfl)
theorem dX7_readWalker_208 : decode cX7_readWalker 208 = .ok (.bipush 9, 2) := dk_16 9 (dk_at dksX7_readWalker_8 20 rfl rfl)
theorem dX7_readWalker_210 : decode cX7_readWalker 210 = .ok (.invokevirtual 215, 3) := dk_182 0 215 (dk_at dksX7_readWalker_9 0 rfl rfl)
theorem dX7_readWalker_213 : decode cX7_readWalker 213 = .ok (.istore 10, 2) := dk_54 10 (dk_at dksX7_readWalker_9 3 rfl rfl)
theorem dX7_readWalker_215 : decode cX7_readWalker 215 = .ok (.aload_n 0, 1) := dk_42 (dk_at dksX7_readWalker_9 5 rfl rfl)
theorem dX7_readWalker_216 : decode cX7_readWalker 216 = .ok (.getfield 68, 3) := dk_180 0 68 (dk_at dksX7_readWalker_9 6 rfl rfl)
theorem dX7_readWalker_219 : decode cX7_readWalker 219 = .ok (.iconst 5, 1) := dk_8 (dk_at dksX7_readWalker_9 9 rfl rfl)
theorem dX7_readWalker_220 : decode cX7_readWalker 220 = .ok (.if_icmp .ne 4, 3) := dk_160 0 4 (dk_at dksX7_readWalker_9 10 rfl rfl)
theorem dX7_readWalker_223 : decode cX7_readWalker 223 = .ok (.return_, 1) := dk_177 (dk_at dksX7_readWalker_9 13 rfl rfl)
theorem dX7_readWalker_224 : decode cX7_readWalker 224 = .ok (.aload_n 0, 1) := dk_42 (dk_at dksX7_readWalker_9 14 rfl rfl)
theorem dX7_readWalker_225 : decode cX7_readWalker 225 = .ok (.getfield 147, 3) := dk_180 0 147 (dk_at dksX7_readWalker_9 15 rfl rfl)
theorem dX7_readWalker_228 : decode cX7_readWalker 228 = .ok (.getfield 193, 3) := dk_180 0 193 (dk_at dksX7_readWalker_9 18 rfl rfl)
theorem dX7_readWalker_231 : decode cX7_readWalker 231 = .ok (.istore 11, 2) := dk_54 11 (dk_at dksX7_readWalker_9 21 rfl rfl)
theorem dX7_readWalker_233 : decode cX7_readWalker 233 = .ok (.aload_n 0, 1) := dk_42 (dk_at dksX7_readWalker_9 23 rfl rfl)
theorem dX7_readWalker_234 : decode cX7_readWalker 234 = .ok (.lload_n 1, 1) := dk_31 (dk_at dksX7_readWalker_10 0 rfl rfl)
theorem dX7_readWalker_235 : decode cX7_readWalker 235 = .ok (.iconst 1, 1) := dk_4 (dk_at dksX7_readWalker_10 1 rfl rfl)
theorem dX7_readWalker_236 : decode cX7_readWalker 236 = .ok (.iload 11, 2) := dk_21 11 (dk_at dksX7_readWalker_10 2 rfl rfl)
theorem dX7_readWalker_238 : decode cX7_readWalker 238 = .ok (.invokevirtual 255, 3) := dk_182 0 255 (dk_at dksX7_readWalker_10 4 rfl rfl)
theorem dX7_readWalker_241 : decode cX7_readWalker 241 = .ok (.aload_n 0, 1) := dk_42 (dk_at dksX7_readWalker_10 7 rfl rfl)
theorem dX7_readWalker_242 : decode cX7_readWalker 242 = .ok (.getfield 147, 3) := dk_180 0 147 (dk_at dksX7_readWalker_10 8 rfl rfl)
theorem dX7_readWalker_245 : decode cX7_readWalker 245 = .ok (.getfield 302, 3) := dk_180 1 46 (dk_at dksX7_readWalker_10 11 rfl rfl)
theorem dX7_readWalker_248 : decode cX7_readWalker 248 = .ok (.iload 11, 2) := dk_21 11 (dk_at dksX7_readWalker_10 14 rfl rfl)
theorem dX7_readWalker_250 : decode cX7_readWalker 250 = .ok (.iload_n 3, 1) := dk_29 (dk_at dksX7_readWalker_10 16 rfl rfl)
theorem dX7_readWalker_251 : decode cX7_readWalker 251 = .ok (.iastore, 1) := dk_79 (dk_at dksX7_readWalker_10 17 rfl rfl)
theorem dX7_readWalker_252 : decode cX7_readWalker 252 = .ok (.aload_n 0, 1) := dk_42 (dk_at dksX7_readWalker_10 18 rfl rfl)
theorem dX7_readWalker_253 : decode cX7_readWalker 253 = .ok (.getfield 147, 3) := dk_180 0 147 (dk_at dksX7_readWalker_10 19 rfl rfl)
theorem dX7_readWalker_256 : decode cX7_readWalker 256 = .ok (.getfield 305, 3) := dk_180 1 49 (dk_at dksX7_readWalker_11 0 rfl rfl)
theorem dX7_readWalker_259 : decode cX7_readWalker 259 = .ok (.iload 11, 2) := dk_21 11 (dk_at dksX7_readWalker_11 3 rfl rfl)
theorem dX7_readWalker_261 : decode cX7_readWalker 261 = .ok (.iload 4, 2) := dk_21 4 (dk_at dksX7_readWalker_11 5 rfl rfl)
theorem dX7_readWalker_263 : decode cX7_readWalker 263 = .ok (.iastore, 1) := dk_79 (dk_at dksX7_readWalker_11 7 rfl rfl)
theorem dX7_readWalker_264 : decode cX7_readWalker 264 = .ok (.aload_n 0, 1) := dk_42 (dk_at dksX7_readWalker_11 8 rfl rfl)
theorem dX7_readWalker_265 : decode cX7_readWalker 265 = .ok (.getfield 147, 3) := dk_180 0 147 (dk_at dksX7_readWalker_11 9 rfl rfl)
theorem dX7_readWalker_268 : decode cX7_readWalker 268 = .ok (.getfield 308, 3) := dk_180 1 52 (dk_at dksX7_readWalker_11 12 rfl rfl)
theorem dX7_readWalker_271 : decode cX7_readWalker 271 = .ok (.iload 11, 2) := dk_21 11 (dk_at dksX7_readWalker_11 15 rfl rfl)
theorem dX7_readWalker_273 : decode cX7_readWalker 273 = .ok (.iload 6, 2) := dk_21 6 (dk_at dksX7_readWalker_11 17 rfl rfl)
theorem dX7_readWalker_275 : decode cX7_readWalker 275 = .ok (.iload 7, 2) := dk_21 7 (dk_at dksX7_readWalker_11 19 rfl rfl)
theorem dX7_readWalker_277 : decode cX7_readWalker 277 = .ok (.iload 5, 2) := dk_21 5 (dk_at dksX7_readWalker_11 21 rfl rfl)
theorem dX7_readWalker_279 : decode cX7_readWalker 279 = .ok (.iadd, 1) := dk_96 (dk_at dksX7_readWalker_11 23 rfl rfl)
theorem dX7_readWalker_280 : decode cX7_readWalker 280 = .ok (.imul, 1) := dk_104 (dk_at dksX7_readWalker_12 0 rfl rfl)
theorem dX7_readWalker_281 : decode cX7_readWalker 281 = .ok (.iastore, 1) := dk_79 (dk_at dksX7_readWalker_12 1 rfl rfl)
theorem dX7_readWalker_282 : decode cX7_readWalker 282 = .ok (.aload_n 0, 1) := dk_42 (dk_at dksX7_readWalker_12 2 rfl rfl)
theorem dX7_readWalker_283 : decode cX7_readWalker 283 = .ok (.getfield 147, 3) := dk_180 0 147 (dk_at dksX7_readWalker_12 3 rfl rfl)
theorem dX7_readWalker_286 : decode cX7_readWalker 286 = .ok (.getfield 311, 3) := dk_180 1 55 (dk_at dksX7_readWalker_12 6 rfl rfl)
theorem dX7_readWalker_289 : decode cX7_readWalker 289 = .ok (.iload 11, 2) := dk_21 11 (dk_at dksX7_readWalker_12 9 rfl rfl)
theorem dX7_readWalker_291 : decode cX7_readWalker 291 = .ok (.iload 6, 2) := dk_21 6 (dk_at dksX7_readWalker_12 11 rfl rfl)
theorem dX7_readWalker_293 : decode cX7_readWalker 293 = .ok (.iload 8, 2) := dk_21 8 (dk_at dksX7_readWalker_12 13 rfl rfl)
theorem dX7_readWalker_295 : decode cX7_readWalker 295 = .ok (.iload 5, 2) := dk_21 5 (dk_at dksX7_readWalker_12 15 rfl rfl)
theorem dX7_readWalker_297 : decode cX7_readWalker 297 = .ok (.isub, 1) := dk_100 (dk_at dksX7_readWalker_12 17 rfl rfl)
theorem dX7_readWalker_298 : decode cX7_readWalker 298 = .ok (.imul, 1) := dk_104 (dk_at dksX7_readWalker_12 18 rfl rfl)
theorem dX7_readWalker_299 : decode cX7_readWalker 299 = .ok (.iastore, 1) := dk_79 (dk_at dksX7_readWalker_12 19 rfl rfl)
theorem dX7_readWalker_300 : decode cX7_readWalker 300 = .ok (.aload_n 0, 1) := dk_42 (dk_at dksX7_readWalker_12 20 rfl rfl)
theorem dX7_readWalker_301 : decode cX7_readWalker 301 = .ok (.getfield 147, 3) := dk_180 0 147 (dk_at dksX7_readWalker_12 21 rfl rfl)
theorem dX7_readWalker_304 : decode cX7_readWalker 304 = .ok (.getfield 314, 3) := dk_180 1 58 (dk_at dksX7_readWalker_13 0 rfl rfl)
theorem dX7_readWalker_307 : decode cX7_readWalker 307 = .ok (.iload 11, 2) := dk_21 11 (dk_at dksX7_readWalker_13 3 rfl rfl)
theorem dX7_readWalker_309 : decode cX7_readWalker 309 = .ok (.iload 7, 2) := dk_21 7 (dk_at dksX7_readWalker_13 5 rfl rfl)
theorem dX7_readWalker_311 : decode cX7_readWalker 311 = .ok (.iload 5, 2) := dk_21 5 (dk_at dksX7_readWalker_13 7 rfl rfl)
theorem dX7_readWalker_313 : decode cX7_readWalker 313 = .ok (.iadd, 1) := dk_96 (dk_at dksX7_readWalker_13 9 rfl rfl)
theorem dX7_readWalker_314 : decode cX7_readWalker 314 = .ok (.iload 8, 2) := dk_21 8 (dk_at dksX7_readWalker_13 10 rfl rfl)
theorem dX7_readWalker_316 : decode cX7_readWalker 316 = .ok (.iload 5, 2) := dk_21 5 (dk_at dksX7_readWalker_13 12 rfl rfl)
theorem dX7_readWalker_318 : decode cX7_readWalker 318 = .ok (.isub, 1) := dk_100 (dk_at dksX7_readWalker_13 14 rfl rfl)
theorem dX7_readWalker_319 : decode cX7_readWalker 319 = .ok (.imul, 1) := dk_104 (dk_at dksX7_readWalker_13 15 rfl rfl)
theorem dX7_readWalker_320 : decode cX7_readWalker 320 = .ok (.iastore, 1) := dk_79 (dk_at dksX7_readWalker_13 16 rfl rfl)
theorem dX7_readWalker_321 : decode cX7_readWalker 321 = .ok (.aload_n 0, 1) := dk_42 (dk_at dksX7_readWalker_13 17 rfl rfl)
theorem dX7_readWalker_322 : decode cX7_readWalker 322 = .ok (.getfield 147, 3) := dk_180 0 147 (dk_at dksX7_readWalker_13 18 rfl rfl)
theorem dX7_readWalker_325 : decode cX7_readWalker 325 = .ok (.getfield 317, 3) := dk_180 1 61 (dk_at dksX7_readWalker_13 21 rfl rfl)
theorem dX7_readWalker_328 : decode cX7_readWalker 328 = .ok (.iload 11, 2) := dk_21 11 (dk_at dksX7_readWalker_14 0 rfl rfl)
theorem dX7_readWalker_330 : decode cX7_readWalker 330 = .ok (.iload 9, 2) := dk_21 9 (dk_at dksX7_readWalker_14 2 rfl rfl)
theorem dX7_readWalker_332 : decode cX7_readWalker 332 = .ok (.iastore, 1) := dk_79 (dk_at dksX7_readWalker_14 4 rfl rfl)
theorem dX7_readWalker_333 : decode cX7_readWalker 333 = .ok (.aload_n 0, 1) := dk_42 (dk_at dksX7_readWalker_14 5 rfl rfl)
theorem dX7_readWalker_334 : decode cX7_readWalker 334 = .ok (.getfield 147, 3) := dk_180 0 147 (dk_at dksX7_readWalker_14 6 rfl rfl)
theorem dX7_readWalker_337 : decode cX7_readWalker 337 = .ok (.getfield 320, 3) := dk_180 1 64 (dk_at dksX7_readWalker_14 9 rfl rfl)
theorem dX7_readWalker_340 : decode cX7_readWalker 340 = .ok (.iload 11, 2) := dk_21 11 (dk_at dksX7_readWalker_14 12 rfl rfl)
theorem dX7_readWalker_342 : decode cX7_readWalker 342 = .ok (.iload 10, 2) := dk_21 10 (dk_at dksX7_readWalker_14 14 rfl rfl)
theorem dX7_readWalker_344 : decode cX7_readWalker 344 = .ok (.iastore, 1) := dk_79 (dk_at dksX7_readWalker_14 16 rfl rfl)
theorem dX7_readWalker_345 : decode cX7_readWalker 345 = .ok (.aload_n 0, 1) := dk_42 (dk_at dksX7_readWalker_14 17 rfl rfl)
theorem dX7_readWalker_346 : decode cX7_readWalker 346 = .ok (.getfield 147, 3) := dk_180 0 147 (dk_at dksX7_readWalker_14 18 rfl rfl)
theorem dX7_readWalker_349 : decode cX7_readWalker 349 = .ok (.dup, 1) := dk_89 (dk_at dksX7_readWalker_14 21 rfl rfl)
theorem dX7_readWalker_350 : decode cX7_readWalker 350 = .ok (.getfield 193, 3) := dk_180 0 193 (dk_at dksX7_readWalker_15 0 rfl rfl)
theorem dX7_readWalker_353 : decode cX7_readWalker 353 = .ok (.iconst 1, 1) := dk_4 (dk_at dksX7_readWalker_15 3 rfl rfl)
theorem dX7_readWalker_354 : decode cX7_readWalker 354 = .ok (.iadd, 1) := dk_96 (dk_at dksX7_readWalker_15 4 rfl rfl)
theorem dX7_readWalker_355 : decode cX7_readWalker 355 = .ok (.putfield 193, 3) := dk_181 0 193 (dk_at dksX7_readWalker_15 5 rfl rfl)
theorem dX7_readWalker_358 : decode cX7_readWalker 358 = .ok (.return_, 1) := dk_177 (dk_at dksX7_readWalker_15 8 rfl rfl)
abbrev cX7_readSeen : ByteArray := prog_19_method_35_code
def yX7_readSeen : MethodName := ⟨RX7, "readSeen", "()V"⟩
def dkwX7_readSeen_5 : List UInt8 := [181, 1, 67, 177]
abbrev dktX7_readSeen_5 : List UInt8 := dkwX7_readSeen_5 ++ []
def dkwX7_readSeen_4 : List UInt8 := [180, 1, 72, 42, 180, 0, 147, 180, 1, 67, 27, 79, 42, 180, 0, 147, 89, 180, 1, 67, 4, 96]
abbrev dktX7_readSeen_4 : List UInt8 := dkwX7_readSeen_4 ++ dktX7_readSeen_5
def dkwX7_readSeen_3 : List UInt8 := [8, 42, 180, 0, 147, 180, 1, 67, 104, 28, 96, 29, 79, 132, 2, 1, 167, 255, 192, 42, 180, 0, 147]
abbrev dktX7_readSeen_3 : List UInt8 := dkwX7_readSeen_3 ++ dktX7_readSeen_4
def dkwX7_readSeen_2 : List UInt8 := [3, 17, 3, 231, 182, 0, 126, 62, 42, 180, 0, 68, 8, 160, 0, 4, 177, 42, 180, 0, 147, 180, 1, 70]
abbrev dktX7_readSeen_2 : List UInt8 := dkwX7_readSeen_2 ++ dktX7_readSeen_3
def dkwX7_readSeen_1 : List UInt8 := [28, 8, 162, 0, 65, 28, 158, 0, 17, 42, 16, 44, 182, 0, 187, 154, 0, 8, 42, 4, 182, 0, 114, 42]
abbrev dktX7_readSeen_1 : List UInt8 := dkwX7_readSeen_1 ++ dktX7_readSeen_2
def dkwX7_readSeen_0 : List UInt8 := [42, 42, 180, 0, 147, 180, 1, 67, 7, 182, 0, 222, 42, 4, 182, 1, 11, 60, 42, 182, 0, 111, 3, 61]
abbrev dktX7_readSeen_0 : List UInt8 := dkwX7_readSeen_0 ++ dktX7_readSeen_1
theorem dksX7_readSeen_0 : cX7_readSeen.data.toList.drop 0 = dktX7_readSeen_0 := by decide +kernel
theorem dksX7_readSeen_1 : cX7_readSeen.data.toList.drop 24 = dktX7_readSeen_1 := dk_seg dksX7_readSeen_0 24 rfl rfl
theorem dksX7_readSeen_2 : cX7_readSeen.data.toList.drop 48 = dktX7_readSeen_2 := dk_seg dksX7_readSeen_1 24 rfl rfl
theorem dksX7_readSeen_3 : cX7_readSeen.data.toList.drop 72 = dktX7_readSeen_3 := dk_seg dksX7_readSeen_2 24 rfl rfl
theorem dksX7_readSeen_4 : cX7_readSeen.data.toList.drop 95 = dktX7_readSeen_4 := dk_seg dksX7_readSeen_3 23 rfl rfl
theorem dksX7_readSeen_5 : cX7_readSeen.data.toList.drop 117 = dktX7_readSeen_5 := dk_seg dksX7_readSeen_4 22 rfl rfl
theorem dX7_readSeen_0 : decode cX7_readSeen 0 = .ok (.aload_n 0, 1) := dk_42 (dk_at dksX7_readSeen_0 0 rfl rfl)
theorem dX7_readSeen_1 : decode cX7_readSeen 1 = .ok (.aload_n 0, 1) := dk_42 (dk_at dksX7_readSeen_0 1 rfl rfl)
theorem dX7_readSeen_2 : decode cX7_readSeen 2 = .ok (.getfield 147, 3) := dk_180 0 147 (dk_at dksX7_readSeen_0 2 rfl rfl)
theorem dX7_readSeen_5 : decode cX7_readSeen 5 = .ok (.getfield 323, 3) := dk_180 1 67 (dk_at dksX7_readSeen_0 5 rfl rfl)
theorem dX7_readSeen_8 : decode cX7_readSeen 8 = .ok (.iconst 4, 1) := dk_7 (dk_at dksX7_readSeen_0 8 rfl rfl)
theorem dX7_readSeen_9 : decode cX7_readSeen 9 = .ok (.invokevirtual 222, 3) := dk_182 0 222 (dk_at dksX7_readSeen_0 9 rfl rfl)
theorem dX7_readSeen_12 : decode cX7_readSeen 12 = .ok (.aload_n 0, 1) := dk_42 (dk_at dksX7_readSeen_0 12 rfl rfl)
theorem dX7_readSeen_13 : decode cX7_readSeen 13 = .ok (.iconst 1, 1) := dk_4 (dk_at dksX7_readSeen_0 13 rfl rfl)
theorem dX7_readSeen_14 : decode cX7_readSeen 14 = .ok (.invokevirtual 267, 3) := dk_182 1 11 (dk_at dksX7_readSeen_0 14 rfl rfl)
theorem dX7_readSeen_17 : decode cX7_readSeen 17 = .ok (.istore_n 1, 1) := dk_60 (dk_at dksX7_readSeen_0 17 rfl rfl)
theorem dX7_readSeen_18 : decode cX7_readSeen 18 = .ok (.aload_n 0, 1) := dk_42 (dk_at dksX7_readSeen_0 18 rfl rfl)
theorem dX7_readSeen_19 : decode cX7_readSeen 19 = .ok (.invokevirtual 111, 3) := dk_182 0 111 (dk_at dksX7_readSeen_0 19 rfl rfl)
theorem dX7_readSeen_22 : decode cX7_readSeen 22 = .ok (.iconst 0, 1) := dk_3 (dk_at dksX7_readSeen_0 22 rfl rfl)
theorem dX7_readSeen_23 : decode cX7_readSeen 23 = .ok (.istore_n 2, 1) := dk_61 (dk_at dksX7_readSeen_0 23 rfl rfl)
theorem dX7_readSeen_24 : decode cX7_readSeen 24 = .ok (.iload_n 2, 1) := dk_28 (dk_at dksX7_readSeen_1 0 rfl rfl)
theorem dX7_readSeen_25 : decode cX7_readSeen 25 = .ok (.iconst 5, 1) := dk_8 (dk_at dksX7_readSeen_1 1 rfl rfl)
theorem dX7_readSeen_26 : decode cX7_readSeen 26 = .ok (.if_icmp .ge 65, 3) := dk_162 0 65 (dk_at dksX7_readSeen_1 2 rfl rfl)
theorem dX7_readSeen_29 : decode cX7_readSeen 29 = .ok (.iload_n 2, 1) := dk_28 (dk_at dksX7_readSeen_1 5 rfl rfl)
theorem dX7_readSeen_30 : decode cX7_readSeen 30 = .ok (.ifCond .le 17, 3) := dk_158 0 17 (dk_at dksX7_readSeen_1 6 rfl rfl)
theorem dX7_readSeen_33 : decode cX7_readSeen 33 = .ok (.aload_n 0, 1) := dk_42 (dk_at dksX7_readSeen_1 9 rfl rfl)
theorem dX7_readSeen_34 : decode cX7_readSeen 34 = .ok (.bipush 44, 2) := dk_16 44 (dk_at dksX7_readSeen_1 10 rfl rfl)
theorem dX7_readSeen_36 : decode cX7_readSeen 36 = .ok (.invokevirtual 187, 3) := dk_182 0 187 (dk_at dksX7_readSeen_1 12 rfl rfl)
theorem dX7_readSeen_39 : decode cX7_readSeen 39 = .ok (.ifCond .ne 8, 3) := dk_154 0 8 (dk_at dksX7_readSeen_1 15 rfl rfl)
theorem dX7_readSeen_42 : decode cX7_readSeen 42 = .ok (.aload_n 0, 1) := dk_42 (dk_at dksX7_readSeen_1 18 rfl rfl)
theorem dX7_readSeen_43 : decode cX7_readSeen 43 = .ok (.iconst 1, 1) := dk_4 (dk_at dksX7_readSeen_1 19 rfl rfl)
theorem dX7_readSeen_44 : decode cX7_readSeen 44 = .ok (.invokevirtual 114, 3) := dk_182 0 114 (dk_at dksX7_readSeen_1 20 rfl rfl)
theorem dX7_readSeen_47 : decode cX7_readSeen 47 = .ok (.aload_n 0, 1) := dk_42 (dk_at dksX7_readSeen_1 23 rfl rfl)
theorem dX7_readSeen_48 : decode cX7_readSeen 48 = .ok (.iconst 0, 1) := dk_3 (dk_at dksX7_readSeen_2 0 rfl rfl)
theorem dX7_readSeen_49 : decode cX7_readSeen 49 = .ok (.sipush 999, 3) := dk_17 3 231 (dk_at dksX7_readSeen_2 1 rfl rfl)
theorem dX7_readSeen_52 : decode cX7_readSeen 52 = .ok (.invokevirtual 126, 3) := dk_182 0 126 (dk_at dksX7_readSeen_2 4 rfl rfl)
theorem dX7_readSeen_55 : decode cX7_readSeen 55 = .ok (.istore_n 3, 1) := dk_62 (dk_at dksX7_readSeen_2 7 rfl rfl)
theorem dX7_readSeen_56 : decode cX7_readSeen 56 = .ok (.aload_n 0, 1) := dk_42 (dk_at dksX7_readSeen_2 8 rfl rfl)
theorem dX7_readSeen_57 : decode cX7_readSeen 57 = .ok (.getfield 68, 3) := dk_180 0 68 (dk_at dksX7_readSeen_2 9 rfl rfl)
theorem dX7_readSeen_60 : decode cX7_readSeen 60 = .ok (.iconst 5, 1) := dk_8 (dk_at dksX7_readSeen_2 12 rfl rfl)
theorem dX7_readSeen_61 : decode cX7_readSeen 61 = .ok (.if_icmp .ne 4, 3) := dk_160 0 4 (dk_at dksX7_readSeen_2 13 rfl rfl)
theorem dX7_readSeen_64 : decode cX7_readSeen 64 = .ok (.return_, 1) := dk_177 (dk_at dksX7_readSeen_2 16 rfl rfl)
theorem dX7_readSeen_65 : decode cX7_readSeen 65 = .ok (.aload_n 0, 1) := dk_42 (dk_at dksX7_readSeen_2 17 rfl rfl)
theorem dX7_readSeen_66 : decode cX7_readSeen 66 = .ok (.getfield 147, 3) := dk_180 0 147 (dk_at dksX7_readSeen_2 18 rfl rfl)
theorem dX7_readSeen_69 : decode cX7_readSeen 69 = .ok (.getfield 326, 3) := dk_180 1 70 (dk_at dksX7_readSeen_2 21 rfl rfl)
theorem dX7_readSeen_72 : decode cX7_readSeen 72 = .ok (.iconst 5, 1) := dk_8 (dk_at dksX7_readSeen_3 0 rfl rfl)
theorem dX7_readSeen_73 : decode cX7_readSeen 73 = .ok (.aload_n 0, 1) := dk_42 (dk_at dksX7_readSeen_3 1 rfl rfl)
theorem dX7_readSeen_74 : decode cX7_readSeen 74 = .ok (.getfield 147, 3) := dk_180 0 147 (dk_at dksX7_readSeen_3 2 rfl rfl)
theorem dX7_readSeen_77 : decode cX7_readSeen 77 = .ok (.getfield 323, 3) := dk_180 1 67 (dk_at dksX7_readSeen_3 5 rfl rfl)
theorem dX7_readSeen_80 : decode cX7_readSeen 80 = .ok (.imul, 1) := dk_104 (dk_at dksX7_readSeen_3 8 rfl rfl)
theorem dX7_readSeen_81 : decode cX7_readSeen 81 = .ok (.iload_n 2, 1) := dk_28 (dk_at dksX7_readSeen_3 9 rfl rfl)
theorem dX7_readSeen_82 : decode cX7_readSeen 82 = .ok (.iadd, 1) := dk_96 (dk_at dksX7_readSeen_3 10 rfl rfl)
theorem dX7_readSeen_83 : decode cX7_readSeen 83 = .ok (.iload_n 3, 1) := dk_29 (dk_at dksX7_readSeen_3 11 rfl rfl)
theorem dX7_readSeen_84 : decode cX7_readSeen 84 = .ok (.iastore, 1) := dk_79 (dk_at dksX7_readSeen_3 12 rfl rfl)
theorem dX7_readSeen_85 : decode cX7_readSeen 85 = .ok (.iinc 2 1, 3) := dk_132 2 1 (dk_at dksX7_readSeen_3 13 rfl rfl)
theorem dX7_readSeen_88 : decode cX7_readSeen 88 = .ok (.goto (-64), 3) := dk_167 255 192 (dk_at dksX7_readSeen_3 16 rfl rfl)
theorem dX7_readSeen_91 : decode cX7_readSeen 91 = .ok (.aload_n 0, 1) := dk_42 (dk_at dksX7_readSeen_3 19 rfl rfl)
theorem dX7_readSeen_92 : decode cX7_readSeen 92 = .ok (.getfield 147, 3) := dk_180 0 147 (dk_at dksX7_readSeen_3 20 rfl rfl)
theorem dX7_readSeen_95 : decode cX7_readSeen 95 = .ok (.getfield 328, 3) := dk_180 1 72 (dk_at dksX7_readSeen_4 0 rfl rfl)
theorem dX7_readSeen_98 : decode cX7_readSeen 98 = .ok (.aload_n 0, 1) := dk_42 (dk_at dksX7_readSeen_4 3 rfl rfl)
theorem dX7_readSeen_99 : decode cX7_readSeen 99 = .ok (.getfield 147, 3) := dk_180 0 147 (dk_at dksX7_readSeen_4 4 rfl rfl)
theorem dX7_readSeen_102 : decode cX7_readSeen 102 = .ok (.getfield 323, 3) := dk_180 1 67 (dk_at dksX7_readSeen_4 7 rfl rfl)
theorem dX7_readSeen_105 : decode cX7_readSeen 105 = .ok (.iload_n 1, 1) := dk_27 (dk_at dksX7_readSeen_4 10 rfl rfl)
theorem dX7_readSeen_106 : decode cX7_readSeen 106 = .ok (.iastore, 1) := dk_79 (dk_at dksX7_readSeen_4 11 rfl rfl)
theorem dX7_readSeen_107 : decode cX7_readSeen 107 = .ok (.aload_n 0, 1) := dk_42 (dk_at dksX7_readSeen_4 12 rfl rfl)
theorem dX7_readSeen_108 : decode cX7_readSeen 108 = .ok (.getfield 147, 3) := dk_180 0 147 (dk_at dksX7_readSeen_4 13 rfl rfl)
theorem dX7_readSeen_111 : decode cX7_readSeen 111 = .ok (.dup, 1) := dk_89 (dk_at dksX7_readSeen_4 16 rfl rfl)
theorem dX7_readSeen_112 : decode cX7_readSeen 112 = .ok (.getfield 323, 3) := dk_180 1 67 (dk_at dksX7_readSeen_4 17 rfl rfl)
theorem dX7_readSeen_115 : decode cX7_readSeen 115 = .ok (.iconst 1, 1) := dk_4 (dk_at dksX7_readSeen_4 20 rfl rfl)
theorem dX7_readSeen_116 : decode cX7_readSeen 116 = .ok (.iadd, 1) := dk_96 (dk_at dksX7_readSeen_4 21 rfl rfl)
theorem dX7_readSeen_117 : decode cX7_readSeen 117 = .ok (.putfield 323, 3) := dk_181 1 67 (dk_at dksX7_readSeen_5 0 rfl rfl)
theorem dX7_readSeen_120 : decode cX7_readSeen 120 = .ok (.return_, 1) := dk_177 (dk_at dksX7_readSeen_5 3 rfl rfl)
abbrev cX7_eatsSign : ByteArray := prog_19_method_18_code
def yX7_eatsSign : MethodName := ⟨RX7, "eatsSign", "(I)Z"⟩
def dkwX7_eatsSign_1 : List UInt8 := [153, 0, 7, 42, 182, 0, 111, 28, 172]
abbrev dktX7_eatsSign_1 : List UInt8 := dkwX7_eatsSign_1 ++ []
def dkwX7_eatsSign_0 : List UInt8 := [42, 180, 0, 68, 7, 160, 0, 15, 42, 180, 0, 80, 27, 160, 0, 7, 4, 167, 0, 4, 3, 61, 28]
abbrev dktX7_eatsSign_0 : List UInt8 := dkwX7_eatsSign_0 ++ dktX7_eatsSign_1
theorem dksX7_eatsSign_0 : cX7_eatsSign.data.toList.drop 0 = dktX7_eatsSign_0 := by decide +kernel
theorem dksX7_eatsSign_1 : cX7_eatsSign.data.toList.drop 23 = dktX7_eatsSign_1 := dk_seg dksX7_eatsSign_0 23 rfl rfl
theorem dX7_eatsSign_0 : decode cX7_eatsSign 0 = .ok (.aload_n 0, 1) := dk_42 (dk_at dksX7_eatsSign_0 0 rfl rfl)
theorem dX7_eatsSign_1 : decode cX7_eatsSign 1 = .ok (.getfield 68, 3) := dk_180 0 68 (dk_at dksX7_eatsSign_0 1 rfl rfl)
theorem dX7_eatsSign_4 : decode cX7_eatsSign 4 = .ok (.iconst 4, 1) := dk_7 (dk_at dksX7_eatsSign_0 4 rfl rfl)
theorem dX7_eatsSign_5 : decode cX7_eatsSign 5 = .ok (.if_icmp .ne 15, 3) := dk_160 0 15 (dk_at dksX7_eatsSign_0 5 rfl rfl)
theorem dX7_eatsSign_8 : decode cX7_eatsSign 8 = .ok (.aload_n 0, 1) := dk_42 (dk_at dksX7_eatsSign_0 8 rfl rfl)
theorem dX7_eatsSign_9 : decode cX7_eatsSign 9 = .ok (.getfield 80, 3) := dk_180 0 80 (dk_at dksX7_eatsSign_0 9 rfl rfl)
theorem dX7_eatsSign_12 : decode cX7_eatsSign 12 = .ok (.iload_n 1, 1) := dk_27 (dk_at dksX7_eatsSign_0 12 rfl rfl)
theorem dX7_eatsSign_13 : decode cX7_eatsSign 13 = .ok (.if_icmp .ne 7, 3) := dk_160 0 7 (dk_at dksX7_eatsSign_0 13 rfl rfl)
theorem dX7_eatsSign_16 : decode cX7_eatsSign 16 = .ok (.iconst 1, 1) := dk_4 (dk_at dksX7_eatsSign_0 16 rfl rfl)
theorem dX7_eatsSign_17 : decode cX7_eatsSign 17 = .ok (.goto 4, 3) := dk_167 0 4 (dk_at dksX7_eatsSign_0 17 rfl rfl)
theorem dX7_eatsSign_20 : decode cX7_eatsSign 20 = .ok (.iconst 0, 1) := dk_3 (dk_at dksX7_eatsSign_0 20 rfl rfl)
theorem dX7_eatsSign_21 : decode cX7_eatsSign 21 = .ok (.istore_n 2, 1) := dk_61 (dk_at dksX7_eatsSign_0 21 rfl rfl)
theorem dX7_eatsSign_22 : decode cX7_eatsSign 22 = .ok (.iload_n 2, 1) := dk_28 (dk_at dksX7_eatsSign_0 22 rfl rfl)
theorem dX7_eatsSign_23 : decode cX7_eatsSign 23 = .ok (.ifCond .eq 7, 3) := dk_153 0 7 (dk_at dksX7_eatsSign_1 0 rfl rfl)
theorem dX7_eatsSign_26 : decode cX7_eatsSign 26 = .ok (.aload_n 0, 1) := dk_42 (dk_at dksX7_eatsSign_1 3 rfl rfl)
theorem dX7_eatsSign_27 : decode cX7_eatsSign 27 = .ok (.invokevirtual 111, 3) := dk_182 0 111 (dk_at dksX7_eatsSign_1 4 rfl rfl)
theorem dX7_eatsSign_30 : decode cX7_eatsSign 30 = .ok (.iload_n 2, 1) := dk_28 (dk_at dksX7_eatsSign_1 7 rfl rfl)
theorem dX7_eatsSign_31 : decode cX7_eatsSign 31 = .ok (.ireturn, 1) := dk_172 (dk_at dksX7_eatsSign_1 8 rfl rfl)
abbrev cX7_good : ByteArray := prog_19_method_6_code
def yX7_good : MethodName := ⟨RX7, "good", "(I)I"⟩
def dkwX7_good_0 : List UInt8 := [42, 3, 181, 0, 43, 42, 2, 181, 0, 9, 27, 172]
abbrev dktX7_good_0 : List UInt8 := dkwX7_good_0 ++ []
theorem dksX7_good_0 : cX7_good.data.toList.drop 0 = dktX7_good_0 := by decide +kernel
theorem dX7_good_0 : decode cX7_good 0 = .ok (.aload_n 0, 1) := dk_42 (dk_at dksX7_good_0 0 rfl rfl)
theorem dX7_good_1 : decode cX7_good 1 = .ok (.iconst 0, 1) := dk_3 (dk_at dksX7_good_0 1 rfl rfl)
theorem dX7_good_2 : decode cX7_good 2 = .ok (.putfield 43, 3) := dk_181 0 43 (dk_at dksX7_good_0 2 rfl rfl)
theorem dX7_good_5 : decode cX7_good 5 = .ok (.aload_n 0, 1) := dk_42 (dk_at dksX7_good_0 5 rfl rfl)
theorem dX7_good_6 : decode cX7_good 6 = .ok (.iconst (-1), 1) := dk_2 (dk_at dksX7_good_0 6 rfl rfl)
theorem dX7_good_7 : decode cX7_good 7 = .ok (.putfield 9, 3) := dk_181 0 9 (dk_at dksX7_good_0 7 rfl rfl)
theorem dX7_good_10 : decode cX7_good 10 = .ok (.iload_n 1, 1) := dk_27 (dk_at dksX7_good_0 10 rfl rfl)
theorem dX7_good_11 : decode cX7_good 11 = .ok (.ireturn, 1) := dk_172 (dk_at dksX7_good_0 11 rfl rfl)
abbrev cX7_fault : ByteArray := prog_19_method_38_code
def yX7_fault : MethodName := ⟨RX7, "fault", "()I"⟩
def dkwX7_fault_0 : List UInt8 := [42, 3, 181, 0, 40, 42, 180, 0, 97, 172]
abbrev dktX7_fault_0 : List UInt8 := dkwX7_fault_0 ++ []
theorem dksX7_fault_0 : cX7_fault.data.toList.drop 0 = dktX7_fault_0 := by decide +kernel
theorem dX7_fault_0 : decode cX7_fault 0 = .ok (.aload_n 0, 1) := dk_42 (dk_at dksX7_fault_0 0 rfl rfl)
theorem dX7_fault_1 : decode cX7_fault 1 = .ok (.iconst 0, 1) := dk_3 (dk_at dksX7_fault_0 1 rfl rfl)
theorem dX7_fault_2 : decode cX7_fault 2 = .ok (.putfield 40, 3) := dk_181 0 40 (dk_at dksX7_fault_0 2 rfl rfl)
theorem dX7_fault_5 : decode cX7_fault 5 = .ok (.aload_n 0, 1) := dk_42 (dk_at dksX7_fault_0 5 rfl rfl)
theorem dX7_fault_6 : decode cX7_fault 6 = .ok (.getfield 97, 3) := dk_180 0 97 (dk_at dksX7_fault_0 6 rfl rfl)
theorem dX7_fault_9 : decode cX7_fault 9 = .ok (.ireturn, 1) := dk_172 (dk_at dksX7_fault_0 9 rfl rfl)
abbrev cX7_where : ByteArray := prog_19_method_39_code
def yX7_where : MethodName := ⟨RX7, "where", "()I"⟩
def dkwX7_where_0 : List UInt8 := [42, 3, 181, 0, 40, 42, 180, 0, 9, 172]
abbrev dktX7_where_0 : List UInt8 := dkwX7_where_0 ++ []
theorem dksX7_where_0 : cX7_where.data.toList.drop 0 = dktX7_where_0 := by decide +kernel
theorem dX7_where_0 : decode cX7_where 0 = .ok (.aload_n 0, 1) := dk_42 (dk_at dksX7_where_0 0 rfl rfl)
theorem dX7_where_1 : decode cX7_where 1 = .ok (.iconst 0, 1) := dk_3 (dk_at dksX7_where_0 1 rfl rfl)
theorem dX7_where_2 : decode cX7_where 2 = .ok (.putfield 40, 3) := dk_181 0 40 (dk_at dksX7_where_0 2 rfl rfl)
theorem dX7_where_5 : decode cX7_where 5 = .ok (.aload_n 0, 1) := dk_42 (dk_at dksX7_where_0 5 rfl rfl)
theorem dX7_where_6 : decode cX7_where 6 = .ok (.getfield 9, 3) := dk_180 0 9 (dk_at dksX7_where_0 6 rfl rfl)
theorem dX7_where_9 : decode cX7_where 9 = .ok (.ireturn, 1) := dk_172 (dk_at dksX7_where_0 9 rfl rfl)
abbrev cX7_face : ByteArray := prog_19_method_51_code
def yX7_face : MethodName := ⟨RX7, "face", "(IIIIIIZ)J"⟩
def dkwX7_face_2 : List UInt8 := [42, 42, 27, 28, 29, 21, 4, 21, 5, 21, 6, 182, 1, 123, 20, 1, 131, 21, 7, 182, 1, 133, 173]
abbrev dktX7_face_2 : List UInt8 := dkwX7_face_2 ++ []
def dkwX7_face_1 : List UInt8 := [182, 1, 127, 167, 0, 4, 4, 54, 8, 21, 8, 158, 0, 13, 42, 21, 8, 182, 0, 46, 133, 167, 0, 25]
abbrev dktX7_face_1 : List UInt8 := dkwX7_face_1 ++ dktX7_face_2
def dkwX7_face_0 : List UInt8 := [42, 3, 181, 0, 40, 21, 6, 3, 7, 184, 0, 118, 153, 0, 17, 42, 27, 28, 29, 21, 4, 21, 5]
abbrev dktX7_face_0 : List UInt8 := dkwX7_face_0 ++ dktX7_face_1
theorem dksX7_face_0 : cX7_face.data.toList.drop 0 = dktX7_face_0 := by decide +kernel
theorem dksX7_face_1 : cX7_face.data.toList.drop 23 = dktX7_face_1 := dk_seg dksX7_face_0 23 rfl rfl
theorem dksX7_face_2 : cX7_face.data.toList.drop 47 = dktX7_face_2 := dk_seg dksX7_face_1 24 rfl rfl
theorem dX7_face_0 : decode cX7_face 0 = .ok (.aload_n 0, 1) := dk_42 (dk_at dksX7_face_0 0 rfl rfl)
theorem dX7_face_1 : decode cX7_face 1 = .ok (.iconst 0, 1) := dk_3 (dk_at dksX7_face_0 1 rfl rfl)
theorem dX7_face_2 : decode cX7_face 2 = .ok (.putfield 40, 3) := dk_181 0 40 (dk_at dksX7_face_0 2 rfl rfl)
theorem dX7_face_5 : decode cX7_face 5 = .ok (.iload 6, 2) := dk_21 6 (dk_at dksX7_face_0 5 rfl rfl)
theorem dX7_face_7 : decode cX7_face 7 = .ok (.iconst 0, 1) := dk_3 (dk_at dksX7_face_0 7 rfl rfl)
theorem dX7_face_8 : decode cX7_face 8 = .ok (.iconst 4, 1) := dk_7 (dk_at dksX7_face_0 8 rfl rfl)
theorem dX7_face_9 : decode cX7_face 9 = .ok (.invokestatic 118, 3) := dk_184 0 118 (dk_at dksX7_face_0 9 rfl rfl)
theorem dX7_face_12 : decode cX7_face 12 = .ok (.ifCond .eq 17, 3) := dk_153 0 17 (dk_at dksX7_face_0 12 rfl rfl)
theorem dX7_face_15 : decode cX7_face 15 = .ok (.aload_n 0, 1) := dk_42 (dk_at dksX7_face_0 15 rfl rfl)
theorem dX7_face_16 : decode cX7_face 16 = .ok (.iload_n 1, 1) := dk_27 (dk_at dksX7_face_0 16 rfl rfl)
theorem dX7_face_17 : decode cX7_face 17 = .ok (.iload_n 2, 1) := dk_28 (dk_at dksX7_face_0 17 rfl rfl)
theorem dX7_face_18 : decode cX7_face 18 = .ok (.iload_n 3, 1) := dk_29 (dk_at dksX7_face_0 18 rfl rfl)
theorem dX7_face_19 : decode cX7_face 19 = .ok (.iload 4, 2) := dk_21 4 (dk_at dksX7_face_0 19 rfl rfl)
theorem dX7_face_21 : decode cX7_face 21 = .ok (.iload 5, 2) := dk_21 5 (dk_at dksX7_face_0 21 rfl rfl)
theorem dX7_face_23 : decode cX7_face 23 = .ok (.invokevirtual 383, 3) := dk_182 1 127 (dk_at dksX7_face_1 0 rfl rfl)
theorem dX7_face_26 : decode cX7_face 26 = .ok (.goto 4, 3) := dk_167 0 4 (dk_at dksX7_face_1 3 rfl rfl)
theorem dX7_face_29 : decode cX7_face 29 = .ok (.iconst 1, 1) := dk_4 (dk_at dksX7_face_1 6 rfl rfl)
theorem dX7_face_30 : decode cX7_face 30 = .ok (.istore 8, 2) := dk_54 8 (dk_at dksX7_face_1 7 rfl rfl)
theorem dX7_face_32 : decode cX7_face 32 = .ok (.iload 8, 2) := dk_21 8 (dk_at dksX7_face_1 9 rfl rfl)
theorem dX7_face_34 : decode cX7_face 34 = .ok (.ifCond .le 13, 3) := dk_158 0 13 (dk_at dksX7_face_1 11 rfl rfl)
theorem dX7_face_37 : decode cX7_face 37 = .ok (.aload_n 0, 1) := dk_42 (dk_at dksX7_face_1 14 rfl rfl)
theorem dX7_face_38 : decode cX7_face 38 = .ok (.iload 8, 2) := dk_21 8 (dk_at dksX7_face_1 15 rfl rfl)
theorem dX7_face_40 : decode cX7_face 40 = .ok (.invokevirtual 46, 3) := dk_182 0 46 (dk_at dksX7_face_1 17 rfl rfl)
theorem dX7_face_43 : decode cX7_face 43 = .ok (.i2l, 1) := dk_133 (dk_at dksX7_face_1 20 rfl rfl)
theorem dX7_face_44 : decode cX7_face 44 = .ok (.goto 25, 3) := dk_167 0 25 (dk_at dksX7_face_1 21 rfl rfl)
theorem dX7_face_47 : decode cX7_face 47 = .ok (.aload_n 0, 1) := dk_42 (dk_at dksX7_face_2 0 rfl rfl)
theorem dX7_face_48 : decode cX7_face 48 = .ok (.aload_n 0, 1) := dk_42 (dk_at dksX7_face_2 1 rfl rfl)
theorem dX7_face_49 : decode cX7_face 49 = .ok (.iload_n 1, 1) := dk_27 (dk_at dksX7_face_2 2 rfl rfl)
theorem dX7_face_50 : decode cX7_face 50 = .ok (.iload_n 2, 1) := dk_28 (dk_at dksX7_face_2 3 rfl rfl)
theorem dX7_face_51 : decode cX7_face 51 = .ok (.iload_n 3, 1) := dk_29 (dk_at dksX7_face_2 4 rfl rfl)
theorem dX7_face_52 : decode cX7_face 52 = .ok (.iload 4, 2) := dk_21 4 (dk_at dksX7_face_2 5 rfl rfl)
theorem dX7_face_54 : decode cX7_face 54 = .ok (.iload 5, 2) := dk_21 5 (dk_at dksX7_face_2 7 rfl rfl)
theorem dX7_face_56 : decode cX7_face 56 = .ok (.iload 6, 2) := dk_21 6 (dk_at dksX7_face_2 9 rfl rfl)
theorem dX7_face_58 : decode cX7_face 58 = .ok (.invokevirtual 379, 3) := dk_182 1 123 (dk_at dksX7_face_2 11 rfl rfl)
theorem dX7_face_61 : decode cX7_face 61 = .ok (.ldc2_w 387, 3) := dk_20 1 131 (dk_at dksX7_face_2 14 rfl rfl)
theorem dX7_face_64 : decode cX7_face 64 = .ok (.iload 7, 2) := dk_21 7 (dk_at dksX7_face_2 17 rfl rfl)
theorem dX7_face_66 : decode cX7_face 66 = .ok (.invokevirtual 389, 3) := dk_182 1 133 (dk_at dksX7_face_2 19 rfl rfl)
theorem dX7_face_69 : decode cX7_face 69 = .ok (.lreturn, 1) := dk_173 (dk_at dksX7_face_2 22 rfl rfl)
abbrev cX7_refuses : ByteArray := prog_19_method_45_code
def yX7_refuses : MethodName := ⟨RX7, "refuses", "(IIIII)I"⟩
def dkwX7_refuses_2 : List UInt8 := [3, 167, 0, 4, 5, 172]
abbrev dktX7_refuses_2 : List UInt8 := dkwX7_refuses_2 ++ []
def dkwX7_refuses_1 : List UInt8 := [153, 0, 12, 42, 21, 4, 182, 1, 96, 154, 0, 5, 4, 172, 42, 27, 21, 5, 182, 1, 99, 153, 0, 7]
abbrev dktX7_refuses_1 : List UInt8 := dkwX7_refuses_1 ++ dktX7_refuses_2
def dkwX7_refuses_0 : List UInt8 := [42, 27, 182, 1, 90, 153, 0, 29, 42, 28, 182, 1, 93, 153, 0, 21, 29, 3, 4, 184, 0, 118]
abbrev dktX7_refuses_0 : List UInt8 := dkwX7_refuses_0 ++ dktX7_refuses_1
theorem dksX7_refuses_0 : cX7_refuses.data.toList.drop 0 = dktX7_refuses_0 := by decide +kernel
theorem dksX7_refuses_1 : cX7_refuses.data.toList.drop 22 = dktX7_refuses_1 := dk_seg dksX7_refuses_0 22 rfl rfl
theorem dksX7_refuses_2 : cX7_refuses.data.toList.drop 46 = dktX7_refuses_2 := dk_seg dksX7_refuses_1 24 rfl rfl
theorem dX7_refuses_0 : decode cX7_refuses 0 = .ok (.aload_n 0, 1) := dk_42 (dk_at dksX7_refuses_0 0 rfl rfl)
theorem dX7_refuses_1 : decode cX7_refuses 1 = .ok (.iload_n 1, 1) := dk_27 (dk_at dksX7_refuses_0 1 rfl rfl)
theorem dX7_refuses_2 : decode cX7_refuses 2 = .ok (.invokevirtual 346, 3) := dk_182 1 90 (dk_at dksX7_refuses_0 2 rfl rfl)
theorem dX7_refuses_5 : decode cX7_refuses 5 = .ok (.ifCond .eq 29, 3) := dk_153 0 29 (dk_at dksX7_refuses_0 5 rfl rfl)
theorem dX7_refuses_8 : decode cX7_refuses 8 = .ok (.aload_n 0, 1) := dk_42 (dk_at dksX7_refuses_0 8 rfl rfl)
theorem dX7_refuses_9 : decode cX7_refuses 9 = .ok (.iload_n 2, 1) := dk_28 (dk_at dksX7_refuses_0 9 rfl rfl)
theorem dX7_refuses_10 : decode cX7_refuses 10 = .ok (.invokevirtual 349, 3) := dk_182 1 93 (dk_at dksX7_refuses_0 10 rfl rfl)
theorem dX7_refuses_13 : decode cX7_refuses 13 = .ok (.ifCond .eq 21, 3) := dk_153 0 21 (dk_at dksX7_refuses_0 13 rfl rfl)
theorem dX7_refuses_16 : decode cX7_refuses 16 = .ok (.iload_n 3, 1) := dk_29 (dk_at dksX7_refuses_0 16 rfl rfl)
theorem dX7_refuses_17 : decode cX7_refuses 17 = .ok (.iconst 0, 1) := dk_3 (dk_at dksX7_refuses_0 17 rfl rfl)
theorem dX7_refuses_18 : decode cX7_refuses 18 = .ok (.iconst 1, 1) := dk_4 (dk_at dksX7_refuses_0 18 rfl rfl)
theorem dX7_refuses_19 : decode cX7_refuses 19 = .ok (.invokestatic 118, 3) := dk_184 0 118 (dk_at dksX7_refuses_0 19 rfl rfl)
theorem dX7_refuses_22 : decode cX7_refuses 22 = .ok (.ifCond .eq 12, 3) := dk_153 0 12 (dk_at dksX7_refuses_1 0 rfl rfl)
theorem dX7_refuses_25 : decode cX7_refuses 25 = .ok (.aload_n 0, 1) := dk_42 (dk_at dksX7_refuses_1 3 rfl rfl)
theorem dX7_refuses_26 : decode cX7_refuses 26 = .ok (.iload 4, 2) := dk_21 4 (dk_at dksX7_refuses_1 4 rfl rfl)
theorem dX7_refuses_28 : decode cX7_refuses 28 = .ok (.invokevirtual 352, 3) := dk_182 1 96 (dk_at dksX7_refuses_1 6 rfl rfl)
theorem dX7_refuses_31 : decode cX7_refuses 31 = .ok (.ifCond .ne 5, 3) := dk_154 0 5 (dk_at dksX7_refuses_1 9 rfl rfl)
theorem dX7_refuses_34 : decode cX7_refuses 34 = .ok (.iconst 1, 1) := dk_4 (dk_at dksX7_refuses_1 12 rfl rfl)
theorem dX7_refuses_35 : decode cX7_refuses 35 = .ok (.ireturn, 1) := dk_172 (dk_at dksX7_refuses_1 13 rfl rfl)
theorem dX7_refuses_36 : decode cX7_refuses 36 = .ok (.aload_n 0, 1) := dk_42 (dk_at dksX7_refuses_1 14 rfl rfl)
theorem dX7_refuses_37 : decode cX7_refuses 37 = .ok (.iload_n 1, 1) := dk_27 (dk_at dksX7_refuses_1 15 rfl rfl)
theorem dX7_refuses_38 : decode cX7_refuses 38 = .ok (.iload 5, 2) := dk_21 5 (dk_at dksX7_refuses_1 16 rfl rfl)
theorem dX7_refuses_40 : decode cX7_refuses 40 = .ok (.invokevirtual 355, 3) := dk_182 1 99 (dk_at dksX7_refuses_1 18 rfl rfl)
theorem dX7_refuses_43 : decode cX7_refuses 43 = .ok (.ifCond .eq 7, 3) := dk_153 0 7 (dk_at dksX7_refuses_1 21 rfl rfl)
theorem dX7_refuses_46 : decode cX7_refuses 46 = .ok (.iconst 0, 1) := dk_3 (dk_at dksX7_refuses_2 0 rfl rfl)
theorem dX7_refuses_47 : decode cX7_refuses 47 = .ok (.goto 4, 3) := dk_167 0 4 (dk_at dksX7_refuses_2 1 rfl rfl)
theorem dX7_refuses_50 : decode cX7_refuses 50 = .ok (.iconst 2, 1) := dk_5 (dk_at dksX7_refuses_2 4 rfl rfl)
theorem dX7_refuses_51 : decode cX7_refuses 51 = .ok (.ireturn, 1) := dk_172 (dk_at dksX7_refuses_2 5 rfl rfl)
abbrev cX7_isWalker : ByteArray := prog_19_method_40_code
def yX7_isWalker : MethodName := ⟨RX7, "isWalker", "(I)Z"⟩
def dkwX7_isWalker_1 : List UInt8 := [167, 0, 4, 3, 172]
abbrev dktX7_isWalker_1 : List UInt8 := dkwX7_isWalker_1 ++ []
def dkwX7_isWalker_0 : List UInt8 := [42, 180, 1, 82, 198, 0, 22, 27, 155, 0, 18, 27, 42, 180, 1, 82, 180, 0, 193, 162, 0, 7, 4]
abbrev dktX7_isWalker_0 : List UInt8 := dkwX7_isWalker_0 ++ dktX7_isWalker_1
theorem dksX7_isWalker_0 : cX7_isWalker.data.toList.drop 0 = dktX7_isWalker_0 := by decide +kernel
theorem dksX7_isWalker_1 : cX7_isWalker.data.toList.drop 23 = dktX7_isWalker_1 := dk_seg dksX7_isWalker_0 23 rfl rfl
theorem dX7_isWalker_0 : decode cX7_isWalker 0 = .ok (.aload_n 0, 1) := dk_42 (dk_at dksX7_isWalker_0 0 rfl rfl)
theorem dX7_isWalker_1 : decode cX7_isWalker 1 = .ok (.getfield 338, 3) := dk_180 1 82 (dk_at dksX7_isWalker_0 1 rfl rfl)
theorem dX7_isWalker_4 : decode cX7_isWalker 4 = .ok (.ifnull 22, 3) := dk_198 0 22 (dk_at dksX7_isWalker_0 4 rfl rfl)
theorem dX7_isWalker_7 : decode cX7_isWalker 7 = .ok (.iload_n 1, 1) := dk_27 (dk_at dksX7_isWalker_0 7 rfl rfl)
theorem dX7_isWalker_8 : decode cX7_isWalker 8 = .ok (.ifCond .lt 18, 3) := dk_155 0 18 (dk_at dksX7_isWalker_0 8 rfl rfl)
theorem dX7_isWalker_11 : decode cX7_isWalker 11 = .ok (.iload_n 1, 1) := dk_27 (dk_at dksX7_isWalker_0 11 rfl rfl)
theorem dX7_isWalker_12 : decode cX7_isWalker 12 = .ok (.aload_n 0, 1) := dk_42 (dk_at dksX7_isWalker_0 12 rfl rfl)
theorem dX7_isWalker_13 : decode cX7_isWalker 13 = .ok (.getfield 338, 3) := dk_180 1 82 (dk_at dksX7_isWalker_0 13 rfl rfl)
theorem dX7_isWalker_16 : decode cX7_isWalker 16 = .ok (.getfield 193, 3) := dk_180 0 193 (dk_at dksX7_isWalker_0 16 rfl rfl)
theorem dX7_isWalker_19 : decode cX7_isWalker 19 = .ok (.if_icmp .ge 7, 3) := dk_162 0 7 (dk_at dksX7_isWalker_0 19 rfl rfl)
theorem dX7_isWalker_22 : decode cX7_isWalker 22 = .ok (.iconst 1, 1) := dk_4 (dk_at dksX7_isWalker_0 22 rfl rfl)
theorem dX7_isWalker_23 : decode cX7_isWalker 23 = .ok (.goto 4, 3) := dk_167 0 4 (dk_at dksX7_isWalker_1 0 rfl rfl)
theorem dX7_isWalker_26 : decode cX7_isWalker 26 = .ok (.iconst 0, 1) := dk_3 (dk_at dksX7_isWalker_1 3 rfl rfl)
theorem dX7_isWalker_27 : decode cX7_isWalker 27 = .ok (.ireturn, 1) := dk_172 (dk_at dksX7_isWalker_1 4 rfl rfl)
abbrev cX7_isRoad : ByteArray := prog_19_method_41_code
def yX7_isRoad : MethodName := ⟨RX7, "isRoad", "(I)Z"⟩
def dkwX7_isRoad_1 : List UInt8 := [167, 0, 4, 3, 172]
abbrev dktX7_isRoad_1 : List UInt8 := dkwX7_isRoad_1 ++ []
def dkwX7_isRoad_0 : List UInt8 := [42, 180, 1, 82, 198, 0, 22, 27, 155, 0, 18, 27, 42, 180, 1, 82, 180, 1, 8, 162, 0, 7, 4]
abbrev dktX7_isRoad_0 : List UInt8 := dkwX7_isRoad_0 ++ dktX7_isRoad_1
theorem dksX7_isRoad_0 : cX7_isRoad.data.toList.drop 0 = dktX7_isRoad_0 := by decide +kernel
theorem dksX7_isRoad_1 : cX7_isRoad.data.toList.drop 23 = dktX7_isRoad_1 := dk_seg dksX7_isRoad_0 23 rfl rfl
theorem dX7_isRoad_0 : decode cX7_isRoad 0 = .ok (.aload_n 0, 1) := dk_42 (dk_at dksX7_isRoad_0 0 rfl rfl)
theorem dX7_isRoad_1 : decode cX7_isRoad 1 = .ok (.getfield 338, 3) := dk_180 1 82 (dk_at dksX7_isRoad_0 1 rfl rfl)
theorem dX7_isRoad_4 : decode cX7_isRoad 4 = .ok (.ifnull 22, 3) := dk_198 0 22 (dk_at dksX7_isRoad_0 4 rfl rfl)
theorem dX7_isRoad_7 : decode cX7_isRoad 7 = .ok (.iload_n 1, 1) := dk_27 (dk_at dksX7_isRoad_0 7 rfl rfl)
theorem dX7_isRoad_8 : decode cX7_isRoad 8 = .ok (.ifCond .lt 18, 3) := dk_155 0 18 (dk_at dksX7_isRoad_0 8 rfl rfl)
theorem dX7_isRoad_11 : decode cX7_isRoad 11 = .ok (.iload_n 1, 1) := dk_27 (dk_at dksX7_isRoad_0 11 rfl rfl)
theorem dX7_isRoad_12 : decode cX7_isRoad 12 = .ok (.aload_n 0, 1) := dk_42 (dk_at dksX7_isRoad_0 12 rfl rfl)
theorem dX7_isRoad_13 : decode cX7_isRoad 13 = .ok (.getfield 338, 3) := dk_180 1 82 (dk_at dksX7_isRoad_0 13 rfl rfl)
theorem dX7_isRoad_16 : decode cX7_isRoad 16 = .ok (.getfield 264, 3) := dk_180 1 8 (dk_at dksX7_isRoad_0 16 rfl rfl)
theorem dX7_isRoad_19 : decode cX7_isRoad 19 = .ok (.if_icmp .ge 7, 3) := dk_162 0 7 (dk_at dksX7_isRoad_0 19 rfl rfl)
theorem dX7_isRoad_22 : decode cX7_isRoad 22 = .ok (.iconst 1, 1) := dk_4 (dk_at dksX7_isRoad_0 22 rfl rfl)
theorem dX7_isRoad_23 : decode cX7_isRoad 23 = .ok (.goto 4, 3) := dk_167 0 4 (dk_at dksX7_isRoad_1 0 rfl rfl)
theorem dX7_isRoad_26 : decode cX7_isRoad 26 = .ok (.iconst 0, 1) := dk_3 (dk_at dksX7_isRoad_1 3 rfl rfl)
theorem dX7_isRoad_27 : decode cX7_isRoad 27 = .ok (.ireturn, 1) := dk_172 (dk_at dksX7_isRoad_1 4 rfl rfl)
abbrev cX7_isHour : ByteArray := prog_19_method_43_code
def yX7_isHour : MethodName := ⟨RX7, "isHour", "(I)Z"⟩
def dkwX7_isHour_1 : List UInt8 := [167, 0, 4, 3, 172]
abbrev dktX7_isHour_1 : List UInt8 := dkwX7_isHour_1 ++ []
def dkwX7_isHour_0 : List UInt8 := [42, 180, 1, 82, 198, 0, 22, 27, 155, 0, 18, 27, 42, 180, 1, 82, 180, 0, 219, 162, 0, 7, 4]
abbrev dktX7_isHour_0 : List UInt8 := dkwX7_isHour_0 ++ dktX7_isHour_1
theorem dksX7_isHour_0 : cX7_isHour.data.toList.drop 0 = dktX7_isHour_0 := by decide +kernel
theorem dksX7_isHour_1 : cX7_isHour.data.toList.drop 23 = dktX7_isHour_1 := dk_seg dksX7_isHour_0 23 rfl rfl
theorem dX7_isHour_0 : decode cX7_isHour 0 = .ok (.aload_n 0, 1) := dk_42 (dk_at dksX7_isHour_0 0 rfl rfl)
theorem dX7_isHour_1 : decode cX7_isHour 1 = .ok (.getfield 338, 3) := dk_180 1 82 (dk_at dksX7_isHour_0 1 rfl rfl)
theorem dX7_isHour_4 : decode cX7_isHour 4 = .ok (.ifnull 22, 3) := dk_198 0 22 (dk_at dksX7_isHour_0 4 rfl rfl)
theorem dX7_isHour_7 : decode cX7_isHour 7 = .ok (.iload_n 1, 1) := dk_27 (dk_at dksX7_isHour_0 7 rfl rfl)
theorem dX7_isHour_8 : decode cX7_isHour 8 = .ok (.ifCond .lt 18, 3) := dk_155 0 18 (dk_at dksX7_isHour_0 8 rfl rfl)
theorem dX7_isHour_11 : decode cX7_isHour 11 = .ok (.iload_n 1, 1) := dk_27 (dk_at dksX7_isHour_0 11 rfl rfl)
theorem dX7_isHour_12 : decode cX7_isHour 12 = .ok (.aload_n 0, 1) := dk_42 (dk_at dksX7_isHour_0 12 rfl rfl)
theorem dX7_isHour_13 : decode cX7_isHour 13 = .ok (.getfield 338, 3) := dk_180 1 82 (dk_at dksX7_isHour_0 13 rfl rfl)
theorem dX7_isHour_16 : decode cX7_isHour 16 = .ok (.getfield 219, 3) := dk_180 0 219 (dk_at dksX7_isHour_0 16 rfl rfl)
theorem dX7_isHour_19 : decode cX7_isHour 19 = .ok (.if_icmp .ge 7, 3) := dk_162 0 7 (dk_at dksX7_isHour_0 19 rfl rfl)
theorem dX7_isHour_22 : decode cX7_isHour 22 = .ok (.iconst 1, 1) := dk_4 (dk_at dksX7_isHour_0 22 rfl rfl)
theorem dX7_isHour_23 : decode cX7_isHour 23 = .ok (.goto 4, 3) := dk_167 0 4 (dk_at dksX7_isHour_1 0 rfl rfl)
theorem dX7_isHour_26 : decode cX7_isHour 26 = .ok (.iconst 0, 1) := dk_3 (dk_at dksX7_isHour_1 3 rfl rfl)
theorem dX7_isHour_27 : decode cX7_isHour 27 = .ok (.ireturn, 1) := dk_172 (dk_at dksX7_isHour_1 4 rfl rfl)
abbrev cX7_isSpeed : ByteArray := prog_19_method_44_code
def yX7_isSpeed : MethodName := ⟨RX7, "isSpeed", "(II)Z"⟩
def dkwX7_isSpeed_0 : List UInt8 := [28, 42, 180, 1, 82, 180, 1, 61, 27, 46, 42, 180, 1, 82, 180, 1, 64, 27, 46, 184, 0, 118, 172]
abbrev dktX7_isSpeed_0 : List UInt8 := dkwX7_isSpeed_0 ++ []
theorem dksX7_isSpeed_0 : cX7_isSpeed.data.toList.drop 0 = dktX7_isSpeed_0 := by decide +kernel
theorem dX7_isSpeed_0 : decode cX7_isSpeed 0 = .ok (.iload_n 2, 1) := dk_28 (dk_at dksX7_isSpeed_0 0 rfl rfl)
theorem dX7_isSpeed_1 : decode cX7_isSpeed 1 = .ok (.aload_n 0, 1) := dk_42 (dk_at dksX7_isSpeed_0 1 rfl rfl)
theorem dX7_isSpeed_2 : decode cX7_isSpeed 2 = .ok (.getfield 338, 3) := dk_180 1 82 (dk_at dksX7_isSpeed_0 2 rfl rfl)
theorem dX7_isSpeed_5 : decode cX7_isSpeed 5 = .ok (.getfield 317, 3) := dk_180 1 61 (dk_at dksX7_isSpeed_0 5 rfl rfl)
theorem dX7_isSpeed_8 : decode cX7_isSpeed 8 = .ok (.iload_n 1, 1) := dk_27 (dk_at dksX7_isSpeed_0 8 rfl rfl)
theorem dX7_isSpeed_9 : decode cX7_isSpeed 9 = .ok (.iaload, 1) := dk_46 (dk_at dksX7_isSpeed_0 9 rfl rfl)
theorem dX7_isSpeed_10 : decode cX7_isSpeed 10 = .ok (.aload_n 0, 1) := dk_42 (dk_at dksX7_isSpeed_0 10 rfl rfl)
theorem dX7_isSpeed_11 : decode cX7_isSpeed 11 = .ok (.getfield 338, 3) := dk_180 1 82 (dk_at dksX7_isSpeed_0 11 rfl rfl)
theorem dX7_isSpeed_14 : decode cX7_isSpeed 14 = .ok (.getfield 320, 3) := dk_180 1 64 (dk_at dksX7_isSpeed_0 14 rfl rfl)
theorem dX7_isSpeed_17 : decode cX7_isSpeed 17 = .ok (.iload_n 1, 1) := dk_27 (dk_at dksX7_isSpeed_0 17 rfl rfl)
theorem dX7_isSpeed_18 : decode cX7_isSpeed 18 = .ok (.iaload, 1) := dk_46 (dk_at dksX7_isSpeed_0 18 rfl rfl)
theorem dX7_isSpeed_19 : decode cX7_isSpeed 19 = .ok (.invokestatic 118, 3) := dk_184 0 118 (dk_at dksX7_isSpeed_0 19 rfl rfl)
theorem dX7_isSpeed_22 : decode cX7_isSpeed 22 = .ok (.ireturn, 1) := dk_172 (dk_at dksX7_isSpeed_0 22 rfl rfl)
abbrev cX7_partsOf : ByteArray := prog_19_method_49_code
def yX7_partsOf : MethodName := ⟨RX7, "partsOf", "(IIIIII)J"⟩
def dkwX7_partsOf_1 : List UInt8 := [46, 42, 180, 1, 82, 180, 1, 26, 28, 46, 100, 133, 105, 17, 9, 216, 21, 5, 108, 133, 105, 173]
abbrev dktX7_partsOf_1 : List UInt8 := dkwX7_partsOf_1 ++ []
def dkwX7_partsOf_0 : List UInt8 := [42, 27, 28, 29, 21, 4, 21, 5, 21, 6, 3, 3, 182, 1, 119, 133, 42, 180, 1, 82, 180, 1, 23, 28]
abbrev dktX7_partsOf_0 : List UInt8 := dkwX7_partsOf_0 ++ dktX7_partsOf_1
theorem dksX7_partsOf_0 : cX7_partsOf.data.toList.drop 0 = dktX7_partsOf_0 := by decide +kernel
theorem dksX7_partsOf_1 : cX7_partsOf.data.toList.drop 24 = dktX7_partsOf_1 := dk_seg dksX7_partsOf_0 24 rfl rfl
theorem dX7_partsOf_0 : decode cX7_partsOf 0 = .ok (.aload_n 0, 1) := dk_42 (dk_at dksX7_partsOf_0 0 rfl rfl)
theorem dX7_partsOf_1 : decode cX7_partsOf 1 = .ok (.iload_n 1, 1) := dk_27 (dk_at dksX7_partsOf_0 1 rfl rfl)
theorem dX7_partsOf_2 : decode cX7_partsOf 2 = .ok (.iload_n 2, 1) := dk_28 (dk_at dksX7_partsOf_0 2 rfl rfl)
theorem dX7_partsOf_3 : decode cX7_partsOf 3 = .ok (.iload_n 3, 1) := dk_29 (dk_at dksX7_partsOf_0 3 rfl rfl)
theorem dX7_partsOf_4 : decode cX7_partsOf 4 = .ok (.iload 4, 2) := dk_21 4 (dk_at dksX7_partsOf_0 4 rfl rfl)
theorem dX7_partsOf_6 : decode cX7_partsOf 6 = .ok (.iload 5, 2) := dk_21 5 (dk_at dksX7_partsOf_0 6 rfl rfl)
theorem dX7_partsOf_8 : decode cX7_partsOf 8 = .ok (.iload 6, 2) := dk_21 6 (dk_at dksX7_partsOf_0 8 rfl rfl)
theorem dX7_partsOf_10 : decode cX7_partsOf 10 = .ok (.iconst 0, 1) := dk_3 (dk_at dksX7_partsOf_0 10 rfl rfl)
theorem dX7_partsOf_11 : decode cX7_partsOf 11 = .ok (.iconst 0, 1) := dk_3 (dk_at dksX7_partsOf_0 11 rfl rfl)
theorem dX7_partsOf_12 : decode cX7_partsOf 12 = .ok (.invokevirtual 375, 3) := dk_182 1 119 (dk_at dksX7_partsOf_0 12 rfl rfl)
theorem dX7_partsOf_15 : decode cX7_partsOf 15 = .ok (.i2l, 1) := dk_133 (dk_at dksX7_partsOf_0 15 rfl rfl)
theorem dX7_partsOf_16 : decode cX7_partsOf 16 = .ok (.aload_n 0, 1) := dk_42 (dk_at dksX7_partsOf_0 16 rfl rfl)
theorem dX7_partsOf_17 : decode cX7_partsOf 17 = .ok (.getfield 338, 3) := dk_180 1 82 (dk_at dksX7_partsOf_0 17 rfl rfl)
theorem dX7_partsOf_20 : decode cX7_partsOf 20 = .ok (.getfield 279, 3) := dk_180 1 23 (dk_at dksX7_partsOf_0 20 rfl rfl)
theorem dX7_partsOf_23 : decode cX7_partsOf 23 = .ok (.iload_n 2, 1) := dk_28 (dk_at dksX7_partsOf_0 23 rfl rfl)
theorem dX7_partsOf_24 : decode cX7_partsOf 24 = .ok (.iaload, 1) := dk_46 (dk_at dksX7_partsOf_1 0 rfl rfl)
theorem dX7_partsOf_25 : decode cX7_partsOf 25 = .ok (.aload_n 0, 1) := dk_42 (dk_at dksX7_partsOf_1 1 rfl rfl)
theorem dX7_partsOf_26 : decode cX7_partsOf 26 = .ok (.getfield 338, 3) := dk_180 1 82 (dk_at dksX7_partsOf_1 2 rfl rfl)
theorem dX7_partsOf_29 : decode cX7_partsOf 29 = .ok (.getfield 282, 3) := dk_180 1 26 (dk_at dksX7_partsOf_1 5 rfl rfl)
theorem dX7_partsOf_32 : decode cX7_partsOf 32 = .ok (.iload_n 2, 1) := dk_28 (dk_at dksX7_partsOf_1 8 rfl rfl)
theorem dX7_partsOf_33 : decode cX7_partsOf 33 = .ok (.iaload, 1) := dk_46 (dk_at dksX7_partsOf_1 9 rfl rfl)
theorem dX7_partsOf_34 : decode cX7_partsOf 34 = .ok (.isub, 1) := dk_100 (dk_at dksX7_partsOf_1 10 rfl rfl)
theorem dX7_partsOf_35 : decode cX7_partsOf 35 = .ok (.i2l, 1) := dk_133 (dk_at dksX7_partsOf_1 11 rfl rfl)
theorem dX7_partsOf_36 : decode cX7_partsOf 36 = .ok (.lmul, 1) := dk_105 (dk_at dksX7_partsOf_1 12 rfl rfl)
theorem dX7_partsOf_37 : decode cX7_partsOf 37 = .ok (.sipush 2520, 3) := dk_17 9 216 (dk_at dksX7_partsOf_1 13 rfl rfl)
theorem dX7_partsOf_40 : decode cX7_partsOf 40 = .ok (.iload 5, 2) := dk_21 5 (dk_at dksX7_partsOf_1 16 rfl rfl)
theorem dX7_partsOf_42 : decode cX7_partsOf 42 = .ok (.idiv, 1) := dk_108 (dk_at dksX7_partsOf_1 18 rfl rfl)
theorem dX7_partsOf_43 : decode cX7_partsOf 43 = .ok (.i2l, 1) := dk_133 (dk_at dksX7_partsOf_1 19 rfl rfl)
theorem dX7_partsOf_44 : decode cX7_partsOf 44 = .ok (.lmul, 1) := dk_105 (dk_at dksX7_partsOf_1 20 rfl rfl)
theorem dX7_partsOf_45 : decode cX7_partsOf 45 = .ok (.lreturn, 1) := dk_173 (dk_at dksX7_partsOf_1 21 rfl rfl)
abbrev cX7_inTime : ByteArray := prog_19_method_48_code
def yX7_inTime : MethodName := ⟨RX7, "inTime", "(IIIIIIII)I"⟩
def dkwX7_inTime_10 : List UInt8 := [156, 0, 22, 21, 9, 21, 11, 116, 104, 42, 180, 1, 82, 180, 1, 58, 27, 46, 104, 167, 0, 4, 3, 172]
abbrev dktX7_inTime_10 : List UInt8 := dkwX7_inTime_10 ++ []
def dkwX7_inTime_9 : List UInt8 := [21, 9, 21, 11, 104, 42, 180, 1, 82, 180, 1, 58, 27, 46, 104, 167, 0, 4, 3, 172, 21, 11]
abbrev dktX7_inTime_9 : List UInt8 := dkwX7_inTime_9 ++ dktX7_inTime_10
def dkwX7_inTime_8 : List UInt8 := [180, 1, 82, 180, 1, 55, 27, 46, 21, 8, 184, 1, 116, 104, 167, 0, 4, 3, 172, 21, 11, 158, 0, 21]
abbrev dktX7_inTime_8 : List UInt8 := dkwX7_inTime_8 ++ dktX7_inTime_9
def dkwX7_inTime_7 : List UInt8 := [21, 7, 184, 1, 116, 104, 167, 0, 4, 3, 172, 21, 10, 156, 0, 27, 21, 9, 21, 10, 116, 104, 42]
abbrev dktX7_inTime_7 : List UInt8 := dkwX7_inTime_7 ++ dktX7_inTime_8
def dkwX7_inTime_6 : List UInt8 := [42, 180, 1, 82, 180, 1, 55, 27, 46, 21, 12, 153, 0, 8, 21, 13, 167, 0, 4, 3, 184, 1, 116]
abbrev dktX7_inTime_6 : List UInt8 := dkwX7_inTime_6 ++ dktX7_inTime_7
def dkwX7_inTime_5 : List UInt8 := [153, 0, 7, 3, 167, 0, 5, 21, 13, 184, 1, 116, 104, 172, 21, 10, 158, 0, 40, 21, 9, 21, 10, 104]
abbrev dktX7_inTime_5 : List UInt8 := dkwX7_inTime_5 ++ dktX7_inTime_6
def dkwX7_inTime_4 : List UInt8 := [21, 9, 42, 180, 1, 82, 180, 0, 239, 21, 4, 46, 104, 42, 180, 1, 82, 180, 1, 52, 27, 46, 21, 12]
abbrev dktX7_inTime_4 : List UInt8 := dkwX7_inTime_4 ++ dktX7_inTime_5
def dkwX7_inTime_3 : List UInt8 := [170, 0, 0, 0, 0, 168, 0, 0, 0, 0, 0, 0, 0, 3, 0, 0, 0, 30, 0, 0, 0, 68, 0, 0, 0, 112, 0, 0, 0, 143]
abbrev dktX7_inTime_3 : List UInt8 := dkwX7_inTime_3 ++ dktX7_inTime_4
def dkwX7_inTime_2 : List UInt8 := [21, 4, 21, 5, 182, 1, 112, 54, 12, 42, 180, 1, 82, 27, 182, 1, 103, 54, 13, 21, 6]
abbrev dktX7_inTime_2 : List UInt8 := dkwX7_inTime_2 ++ dktX7_inTime_3
def dkwX7_inTime_1 : List UInt8 := [182, 1, 105, 100, 54, 10, 42, 180, 1, 82, 28, 29, 21, 4, 182, 1, 109, 54, 11, 42, 27, 28, 29]
abbrev dktX7_inTime_1 : List UInt8 := dkwX7_inTime_1 ++ dktX7_inTime_2
def dkwX7_inTime_0 : List UInt8 := [42, 180, 1, 82, 180, 0, 237, 21, 4, 46, 54, 9, 21, 5, 42, 180, 1, 82, 28, 29, 21, 4]
abbrev dktX7_inTime_0 : List UInt8 := dkwX7_inTime_0 ++ dktX7_inTime_1
theorem dksX7_inTime_0 : cX7_inTime.data.toList.drop 0 = dktX7_inTime_0 := by decide +kernel
theorem dksX7_inTime_1 : cX7_inTime.data.toList.drop 22 = dktX7_inTime_1 := dk_seg dksX7_inTime_0 22 rfl rfl
theorem dksX7_inTime_2 : cX7_inTime.data.toList.drop 45 = dktX7_inTime_2 := dk_seg dksX7_inTime_1 23 rfl rfl
theorem dksX7_inTime_3 : cX7_inTime.data.toList.drop 66 = dktX7_inTime_3 := dk_seg dksX7_inTime_2 21 rfl rfl
theorem dksX7_inTime_4 : cX7_inTime.data.toList.drop 96 = dktX7_inTime_4 := dk_seg dksX7_inTime_3 30 rfl rfl
theorem dksX7_inTime_5 : cX7_inTime.data.toList.drop 120 = dktX7_inTime_5 := dk_seg dksX7_inTime_4 24 rfl rfl
theorem dksX7_inTime_6 : cX7_inTime.data.toList.drop 144 = dktX7_inTime_6 := dk_seg dksX7_inTime_5 24 rfl rfl
theorem dksX7_inTime_7 : cX7_inTime.data.toList.drop 167 = dktX7_inTime_7 := dk_seg dksX7_inTime_6 23 rfl rfl
theorem dksX7_inTime_8 : cX7_inTime.data.toList.drop 190 = dktX7_inTime_8 := dk_seg dksX7_inTime_7 23 rfl rfl
theorem dksX7_inTime_9 : cX7_inTime.data.toList.drop 214 = dktX7_inTime_9 := dk_seg dksX7_inTime_8 24 rfl rfl
theorem dksX7_inTime_10 : cX7_inTime.data.toList.drop 236 = dktX7_inTime_10 := dk_seg dksX7_inTime_9 22 rfl rfl
theorem dX7_inTime_0 : decode cX7_inTime 0 = .ok (.aload_n 0, 1) := dk_42 (dk_at dksX7_inTime_0 0 rfl rfl)
theorem dX7_inTime_1 : decode cX7_inTime 1 = .ok (.getfield 338, 3) := dk_180 1 82 (dk_at dksX7_inTime_0 1 rfl rfl)
theorem dX7_inTime_4 : decode cX7_inTime 4 = .ok (.getfield 237, 3) := dk_180 0 237 (dk_at dksX7_inTime_0 4 rfl rfl)
theorem dX7_inTime_7 : decode cX7_inTime 7 = .ok (.iload 4, 2) := dk_21 4 (dk_at dksX7_inTime_0 7 rfl rfl)
theorem dX7_inTime_9 : decode cX7_inTime 9 = .ok (.iaload, 1) := dk_46 (dk_at dksX7_inTime_0 9 rfl rfl)
theorem dX7_inTime_10 : decode cX7_inTime 10 = .ok (.istore 9, 2) := dk_54 9 (dk_at dksX7_inTime_0 10 rfl rfl)
theorem dX7_inTime_12 : decode cX7_inTime 12 = .ok (.iload 5, 2) := dk_21 5 (dk_at dksX7_inTime_0 12 rfl rfl)
theorem dX7_inTime_14 : decode cX7_inTime 14 = .ok (.aload_n 0, 1) := dk_42 (dk_at dksX7_inTime_0 14 rfl rfl)
theorem dX7_inTime_15 : decode cX7_inTime 15 = .ok (.getfield 338, 3) := dk_180 1 82 (dk_at dksX7_inTime_0 15 rfl rfl)
theorem dX7_inTime_18 : decode cX7_inTime 18 = .ok (.iload_n 2, 1) := dk_28 (dk_at dksX7_inTime_0 18 rfl rfl)
theorem dX7_inTime_19 : decode cX7_inTime 19 = .ok (.iload_n 3, 1) := dk_29 (dk_at dksX7_inTime_0 19 rfl rfl)
theorem dX7_inTime_20 : decode cX7_inTime 20 = .ok (.iload 4, 2) := dk_21 4 (dk_at dksX7_inTime_0 20 rfl rfl)
theorem dX7_inTime_22 : decode cX7_inTime 22 = .ok (.invokevirtual 361, 3) := dk_182 1 105 (dk_at dksX7_inTime_1 0 rfl rfl)
theorem dX7_inTime_25 : decode cX7_inTime 25 = .ok (.isub, 1) := dk_100 (dk_at dksX7_inTime_1 3 rfl rfl)
theorem dX7_inTime_26 : decode cX7_inTime 26 = .ok (.istore 10, 2) := dk_54 10 (dk_at dksX7_inTime_1 4 rfl rfl)
theorem dX7_inTime_28 : decode cX7_inTime 28 = .ok (.aload_n 0, 1) := dk_42 (dk_at dksX7_inTime_1 6 rfl rfl)
theorem dX7_inTime_29 : decode cX7_inTime 29 = .ok (.getfield 338, 3) := dk_180 1 82 (dk_at dksX7_inTime_1 7 rfl rfl)
theorem dX7_inTime_32 : decode cX7_inTime 32 = .ok (.iload_n 2, 1) := dk_28 (dk_at dksX7_inTime_1 10 rfl rfl)
theorem dX7_inTime_33 : decode cX7_inTime 33 = .ok (.iload_n 3, 1) := dk_29 (dk_at dksX7_inTime_1 11 rfl rfl)
theorem dX7_inTime_34 : decode cX7_inTime 34 = .ok (.iload 4, 2) := dk_21 4 (dk_at dksX7_inTime_1 12 rfl rfl)
theorem dX7_inTime_36 : decode cX7_inTime 36 = .ok (.invokevirtual 365, 3) := dk_182 1 109 (dk_at dksX7_inTime_1 14 rfl rfl)
theorem dX7_inTime_39 : decode cX7_inTime 39 = .ok (.istore 11, 2) := dk_54 11 (dk_at dksX7_inTime_1 17 rfl rfl)
theorem dX7_inTime_41 : decode cX7_inTime 41 = .ok (.aload_n 0, 1) := dk_42 (dk_at dksX7_inTime_1 19 rfl rfl)
theorem dX7_inTime_42 : decode cX7_inTime 42 = .ok (.iload_n 1, 1) := dk_27 (dk_at dksX7_inTime_1 20 rfl rfl)
theorem dX7_inTime_43 : decode cX7_inTime 43 = .ok (.iload_n 2, 1) := dk_28 (dk_at dksX7_inTime_1 21 rfl rfl)
theorem dX7_inTime_44 : decode cX7_inTime 44 = .ok (.iload_n 3, 1) := dk_29 (dk_at dksX7_inTime_1 22 rfl rfl)
theorem dX7_inTime_45 : decode cX7_inTime 45 = .ok (.iload 4, 2) := dk_21 4 (dk_at dksX7_inTime_2 0 rfl rfl)
theorem dX7_inTime_47 : decode cX7_inTime 47 = .ok (.iload 5, 2) := dk_21 5 (dk_at dksX7_inTime_2 2 rfl rfl)
theorem dX7_inTime_49 : decode cX7_inTime 49 = .ok (.invokevirtual 368, 3) := dk_182 1 112 (dk_at dksX7_inTime_2 4 rfl rfl)
theorem dX7_inTime_52 : decode cX7_inTime 52 = .ok (.istore 12, 2) := dk_54 12 (dk_at dksX7_inTime_2 7 rfl rfl)
theorem dX7_inTime_54 : decode cX7_inTime 54 = .ok (.aload_n 0, 1) := dk_42 (dk_at dksX7_inTime_2 9 rfl rfl)
theorem dX7_inTime_55 : decode cX7_inTime 55 = .ok (.getfield 338, 3) := dk_180 1 82 (dk_at dksX7_inTime_2 10 rfl rfl)
theorem dX7_inTime_58 : decode cX7_inTime 58 = .ok (.iload_n 1, 1) := dk_27 (dk_at dksX7_inTime_2 13 rfl rfl)
theorem dX7_inTime_59 : decode cX7_inTime 59 = .ok (.invokevirtual 359, 3) := dk_182 1 103 (dk_at dksX7_inTime_2 14 rfl rfl)
theorem dX7_inTime_62 : decode cX7_inTime 62 = .ok (.istore 13, 2) := dk_54 13 (dk_at dksX7_inTime_2 17 rfl rfl)
theorem dX7_inTime_64 : decode cX7_inTime 64 = .ok (.iload 6, 2) := dk_21 6 (dk_at dksX7_inTime_2 19 rfl rfl)
theorem dX7_inTime_66 : decode cX7_inTime 66 = .ok (.tableswitch 168 0 3 #[30, 68, 112, 143], 30) := by decide +kernel
theorem dX7_inTime_96 : decode cX7_inTime 96 = .ok (.iload 9, 2) := dk_21 9 (dk_at dksX7_inTime_4 0 rfl rfl)
theorem dX7_inTime_98 : decode cX7_inTime 98 = .ok (.aload_n 0, 1) := dk_42 (dk_at dksX7_inTime_4 2 rfl rfl)
theorem dX7_inTime_99 : decode cX7_inTime 99 = .ok (.getfield 338, 3) := dk_180 1 82 (dk_at dksX7_inTime_4 3 rfl rfl)
theorem dX7_inTime_102 : decode cX7_inTime 102 = .ok (.getfield 239, 3) := dk_180 0 239 (dk_at dksX7_inTime_4 6 rfl rfl)
theorem dX7_inTime_105 : decode cX7_inTime 105 = .ok (.iload 4, 2) := dk_21 4 (dk_at dksX7_inTime_4 9 rfl rfl)
theorem dX7_inTime_107 : decode cX7_inTime 107 = .ok (.iaload, 1) := dk_46 (dk_at dksX7_inTime_4 11 rfl rfl)
theorem dX7_inTime_108 : decode cX7_inTime 108 = .ok (.imul, 1) := dk_104 (dk_at dksX7_inTime_4 12 rfl rfl)
theorem dX7_inTime_109 : decode cX7_inTime 109 = .ok (.aload_n 0, 1) := dk_42 (dk_at dksX7_inTime_4 13 rfl rfl)
theorem dX7_inTime_110 : decode cX7_inTime 110 = .ok (.getfield 338, 3) := dk_180 1 82 (dk_at dksX7_inTime_4 14 rfl rfl)
theorem dX7_inTime_113 : decode cX7_inTime 113 = .ok (.getfield 308, 3) := dk_180 1 52 (dk_at dksX7_inTime_4 17 rfl rfl)
theorem dX7_inTime_116 : decode cX7_inTime 116 = .ok (.iload_n 1, 1) := dk_27 (dk_at dksX7_inTime_4 20 rfl rfl)
theorem dX7_inTime_117 : decode cX7_inTime 117 = .ok (.iaload, 1) := dk_46 (dk_at dksX7_inTime_4 21 rfl rfl)
theorem dX7_inTime_118 : decode cX7_inTime 118 = .ok (.iload 12, 2) := dk_21 12 (dk_at dksX7_inTime_4 22 rfl rfl)
theorem dX7_inTime_120 : decode cX7_inTime 120 = .ok (.ifCond .eq 7, 3) := dk_153 0 7 (dk_at dksX7_inTime_5 0 rfl rfl)
theorem dX7_inTime_123 : decode cX7_inTime 123 = .ok (.iconst 0, 1) := dk_3 (dk_at dksX7_inTime_5 3 rfl rfl)
theorem dX7_inTime_124 : decode cX7_inTime 124 = .ok (.goto 5, 3) := dk_167 0 5 (dk_at dksX7_inTime_5 4 rfl rfl)
theorem dX7_inTime_127 : decode cX7_inTime 127 = .ok (.iload 13, 2) := dk_21 13 (dk_at dksX7_inTime_5 7 rfl rfl)
theorem dX7_inTime_129 : decode cX7_inTime 129 = .ok (.invokestatic 372, 3) := dk_184 1 116 (dk_at dksX7_inTime_5 9 rfl rfl)
theorem dX7_inTime_132 : decode cX7_inTime 132 = .ok (.imul, 1) := dk_104 (dk_at dksX7_inTime_5 12 rfl rfl)
theorem dX7_inTime_133 : decode cX7_inTime 133 = .ok (.ireturn, 1) := dk_172 (dk_at dksX7_inTime_5 13 rfl rfl)
theorem dX7_inTime_134 : decode cX7_inTime 134 = .ok (.iload 10, 2) := dk_21 10 (dk_at dksX7_inTime_5 14 rfl rfl)
theorem dX7_inTime_136 : decode cX7_inTime 136 = .ok (.ifCond .le 40, 3) := dk_158 0 40 (dk_at dksX7_inTime_5 16 rfl rfl)
theorem dX7_inTime_139 : decode cX7_inTime 139 = .ok (.iload 9, 2) := dk_21 9 (dk_at dksX7_inTime_5 19 rfl rfl)
theorem dX7_inTime_141 : decode cX7_inTime 141 = .ok (.iload 10, 2) := dk_21 10 (dk_at dksX7_inTime_5 21 rfl rfl)
theorem dX7_inTime_143 : decode cX7_inTime 143 = .ok (.imul, 1) := dk_104 (dk_at dksX7_inTime_5 23 rfl rfl)
theorem dX7_inTime_144 : decode cX7_inTime 144 = .ok (.aload_n 0, 1) := dk_42 (dk_at dksX7_inTime_6 0 rfl rfl)
theorem dX7_inTime_145 : decode cX7_inTime 145 = .ok (.getfield 338, 3) := dk_180 1 82 (dk_at dksX7_inTime_6 1 rfl rfl)
theorem dX7_inTime_148 : decode cX7_inTime 148 = .ok (.getfield 311, 3) := dk_180 1 55 (dk_at dksX7_inTime_6 4 rfl rfl)
theorem dX7_inTime_151 : decode cX7_inTime 151 = .ok (.iload_n 1, 1) := dk_27 (dk_at dksX7_inTime_6 7 rfl rfl)
theorem dX7_inTime_152 : decode cX7_inTime 152 = .ok (.iaload, 1) := dk_46 (dk_at dksX7_inTime_6 8 rfl rfl)
theorem dX7_inTime_153 : decode cX7_inTime 153 = .ok (.iload 12, 2) := dk_21 12 (dk_at dksX7_inTime_6 9 rfl rfl)
theorem dX7_inTime_155 : decode cX7_inTime 155 = .ok (.ifCond .eq 8, 3) := dk_153 0 8 (dk_at dksX7_inTime_6 11 rfl rfl)
theorem dX7_inTime_158 : decode cX7_inTime 158 = .ok (.iload 13, 2) := dk_21 13 (dk_at dksX7_inTime_6 14 rfl rfl)
theorem dX7_inTime_160 : decode cX7_inTime 160 = .ok (.goto 4, 3) := dk_167 0 4 (dk_at dksX7_inTime_6 16 rfl rfl)
theorem dX7_inTime_163 : decode cX7_inTime 163 = .ok (.iconst 0, 1) := dk_3 (dk_at dksX7_inTime_6 19 rfl rfl)
theorem dX7_inTime_164 : decode cX7_inTime 164 = .ok (.invokestatic 372, 3) := dk_184 1 116 (dk_at dksX7_inTime_6 20 rfl rfl)
theorem dX7_inTime_167 : decode cX7_inTime 167 = .ok (.iload 7, 2) := dk_21 7 (dk_at dksX7_inTime_7 0 rfl rfl)
theorem dX7_inTime_169 : decode cX7_inTime 169 = .ok (.invokestatic 372, 3) := dk_184 1 116 (dk_at dksX7_inTime_7 2 rfl rfl)
theorem dX7_inTime_172 : decode cX7_inTime 172 = .ok (.imul, 1) := dk_104 (dk_at dksX7_inTime_7 5 rfl rfl)
theorem dX7_inTime_173 : decode cX7_inTime 173 = .ok (.goto 4, 3) := dk_167 0 4 (dk_at dksX7_inTime_7 6 rfl rfl)
theorem dX7_inTime_176 : decode cX7_inTime 176 = .ok (.iconst 0, 1) := dk_3 (dk_at dksX7_inTime_7 9 rfl rfl)
theorem dX7_inTime_177 : decode cX7_inTime 177 = .ok (.ireturn, 1) := dk_172 (dk_at dksX7_inTime_7 10 rfl rfl)
theorem dX7_inTime_178 : decode cX7_inTime 178 = .ok (.iload 10, 2) := dk_21 10 (dk_at dksX7_inTime_7 11 rfl rfl)
theorem dX7_inTime_180 : decode cX7_inTime 180 = .ok (.ifCond .ge 27, 3) := dk_156 0 27 (dk_at dksX7_inTime_7 13 rfl rfl)
theorem dX7_inTime_183 : decode cX7_inTime 183 = .ok (.iload 9, 2) := dk_21 9 (dk_at dksX7_inTime_7 16 rfl rfl)
theorem dX7_inTime_185 : decode cX7_inTime 185 = .ok (.iload 10, 2) := dk_21 10 (dk_at dksX7_inTime_7 18 rfl rfl)
theorem dX7_inTime_187 : decode cX7_inTime 187 = .ok (.ineg, 1) := dk_116 (dk_at dksX7_inTime_7 20 rfl rfl)
theorem dX7_inTime_188 : decode cX7_inTime 188 = .ok (.imul, 1) := dk_104 (dk_at dksX7_inTime_7 21 rfl rfl)
theorem dX7_inTime_189 : decode cX7_inTime 189 = .ok (.aload_n 0, 1) := dk_42 (dk_at dksX7_inTime_7 22 rfl rfl)
theorem dX7_inTime_190 : decode cX7_inTime 190 = .ok (.getfield 338, 3) := dk_180 1 82 (dk_at dksX7_inTime_8 0 rfl rfl)
theorem dX7_inTime_193 : decode cX7_inTime 193 = .ok (.getfield 311, 3) := dk_180 1 55 (dk_at dksX7_inTime_8 3 rfl rfl)
theorem dX7_inTime_196 : decode cX7_inTime 196 = .ok (.iload_n 1, 1) := dk_27 (dk_at dksX7_inTime_8 6 rfl rfl)
theorem dX7_inTime_197 : decode cX7_inTime 197 = .ok (.iaload, 1) := dk_46 (dk_at dksX7_inTime_8 7 rfl rfl)
theorem dX7_inTime_198 : decode cX7_inTime 198 = .ok (.iload 8, 2) := dk_21 8 (dk_at dksX7_inTime_8 8 rfl rfl)
theorem dX7_inTime_200 : decode cX7_inTime 200 = .ok (.invokestatic 372, 3) := dk_184 1 116 (dk_at dksX7_inTime_8 10 rfl rfl)
theorem dX7_inTime_203 : decode cX7_inTime 203 = .ok (.imul, 1) := dk_104 (dk_at dksX7_inTime_8 13 rfl rfl)
theorem dX7_inTime_204 : decode cX7_inTime 204 = .ok (.goto 4, 3) := dk_167 0 4 (dk_at dksX7_inTime_8 14 rfl rfl)
theorem dX7_inTime_207 : decode cX7_inTime 207 = .ok (.iconst 0, 1) := dk_3 (dk_at dksX7_inTime_8 17 rfl rfl)
theorem dX7_inTime_208 : decode cX7_inTime 208 = .ok (.ireturn, 1) := dk_172 (dk_at dksX7_inTime_8 18 rfl rfl)
theorem dX7_inTime_209 : decode cX7_inTime 209 = .ok (.iload 11, 2) := dk_21 11 (dk_at dksX7_inTime_8 19 rfl rfl)
theorem dX7_inTime_211 : decode cX7_inTime 211 = .ok (.ifCond .le 21, 3) := dk_158 0 21 (dk_at dksX7_inTime_8 21 rfl rfl)
theorem dX7_inTime_214 : decode cX7_inTime 214 = .ok (.iload 9, 2) := dk_21 9 (dk_at dksX7_inTime_9 0 rfl rfl)
theorem dX7_inTime_216 : decode cX7_inTime 216 = .ok (.iload 11, 2) := dk_21 11 (dk_at dksX7_inTime_9 2 rfl rfl)
theorem dX7_inTime_218 : decode cX7_inTime 218 = .ok (.imul, 1) := dk_104 (dk_at dksX7_inTime_9 4 rfl rfl)
theorem dX7_inTime_219 : decode cX7_inTime 219 = .ok (.aload_n 0, 1) := dk_42 (dk_at dksX7_inTime_9 5 rfl rfl)
theorem dX7_inTime_220 : decode cX7_inTime 220 = .ok (.getfield 338, 3) := dk_180 1 82 (dk_at dksX7_inTime_9 6 rfl rfl)
theorem dX7_inTime_223 : decode cX7_inTime 223 = .ok (.getfield 314, 3) := dk_180 1 58 (dk_at dksX7_inTime_9 9 rfl rfl)
theorem dX7_inTime_226 : decode cX7_inTime 226 = .ok (.iload_n 1, 1) := dk_27 (dk_at dksX7_inTime_9 12 rfl rfl)
theorem dX7_inTime_227 : decode cX7_inTime 227 = .ok (.iaload, 1) := dk_46 (dk_at dksX7_inTime_9 13 rfl rfl)
theorem dX7_inTime_228 : decode cX7_inTime 228 = .ok (.imul, 1) := dk_104 (dk_at dksX7_inTime_9 14 rfl rfl)
theorem dX7_inTime_229 : decode cX7_inTime 229 = .ok (.goto 4, 3) := dk_167 0 4 (dk_at dksX7_inTime_9 15 rfl rfl)
theorem dX7_inTime_232 : decode cX7_inTime 232 = .ok (.iconst 0, 1) := dk_3 (dk_at dksX7_inTime_9 18 rfl rfl)
theorem dX7_inTime_233 : decode cX7_inTime 233 = .ok (.ireturn, 1) := dk_172 (dk_at dksX7_inTime_9 19 rfl rfl)
theorem dX7_inTime_234 : decode cX7_inTime 234 = .ok (.iload 11, 2) := dk_21 11 (dk_at dksX7_inTime_9 20 rfl rfl)
theorem dX7_inTime_236 : decode cX7_inTime 236 = .ok (.ifCond .ge 22, 3) := dk_156 0 22 (dk_at dksX7_inTime_10 0 rfl rfl)
theorem dX7_inTime_239 : decode cX7_inTime 239 = .ok (.iload 9, 2) := dk_21 9 (dk_at dksX7_inTime_10 3 rfl rfl)
theorem dX7_inTime_241 : decode cX7_inTime 241 = .ok (.iload 11, 2) := dk_21 11 (dk_at dksX7_inTime_10 5 rfl rfl)
theorem dX7_inTime_243 : decode cX7_inTime 243 = .ok (.ineg, 1) := dk_116 (dk_at dksX7_inTime_10 7 rfl rfl)
theorem dX7_inTime_244 : decode cX7_inTime 244 = .ok (.imul, 1) := dk_104 (dk_at dksX7_inTime_10 8 rfl rfl)
theorem dX7_inTime_245 : decode cX7_inTime 245 = .ok (.aload_n 0, 1) := dk_42 (dk_at dksX7_inTime_10 9 rfl rfl)
theorem dX7_inTime_246 : decode cX7_inTime 246 = .ok (.getfield 338, 3) := dk_180 1 82 (dk_at dksX7_inTime_10 10 rfl rfl)
theorem dX7_inTime_249 : decode cX7_inTime 249 = .ok (.getfield 314, 3) := dk_180 1 58 (dk_at dksX7_inTime_10 13 rfl rfl)
theorem dX7_inTime_252 : decode cX7_inTime 252 = .ok (.iload_n 1, 1) := dk_27 (dk_at dksX7_inTime_10 16 rfl rfl)
theorem dX7_inTime_253 : decode cX7_inTime 253 = .ok (.iaload, 1) := dk_46 (dk_at dksX7_inTime_10 17 rfl rfl)
theorem dX7_inTime_254 : decode cX7_inTime 254 = .ok (.imul, 1) := dk_104 (dk_at dksX7_inTime_10 18 rfl rfl)
theorem dX7_inTime_255 : decode cX7_inTime 255 = .ok (.goto 4, 3) := dk_167 0 4 (dk_at dksX7_inTime_10 19 rfl rfl)
theorem dX7_inTime_258 : decode cX7_inTime 258 = .ok (.iconst 0, 1) := dk_3 (dk_at dksX7_inTime_10 22 rfl rfl)
theorem dX7_inTime_259 : decode cX7_inTime 259 = .ok (.ireturn, 1) := dk_172 (dk_at dksX7_inTime_10 23 rfl rfl)
abbrev cX7_isForward : ByteArray := prog_19_method_46_code
def yX7_isForward : MethodName := ⟨RX7, "isForward", "(IIIII)Z"⟩
def dkwX7_isForward_7 : List UInt8 := [164, 0, 7, 4, 167, 0, 4, 3, 172]
abbrev dktX7_isForward_7 : List UInt8 := dkwX7_isForward_7 ++ []
def dkwX7_isForward_6 : List UInt8 := [42, 180, 1, 82, 180, 0, 237, 21, 4, 46, 42, 180, 1, 82, 180, 0, 239, 21, 4, 46, 104, 21, 9, 104]
abbrev dktX7_isForward_6 : List UInt8 := dkwX7_isForward_6 ++ dktX7_isForward_7
def dkwX7_isForward_5 : List UInt8 := [153, 0, 55, 21, 7, 158, 0, 50, 42, 180, 1, 82, 180, 0, 237, 21, 4, 46, 21, 7, 104, 21, 8, 104]
abbrev dktX7_isForward_5 : List UInt8 := dkwX7_isForward_5 ++ dktX7_isForward_6
def dkwX7_isForward_4 : List UInt8 := [46, 42, 180, 1, 82, 180, 1, 23, 28, 46, 162, 0, 7, 4, 167, 0, 4, 3, 54, 10, 21, 10]
abbrev dktX7_isForward_4 : List UInt8 := dkwX7_isForward_4 ++ dktX7_isForward_5
def dkwX7_isForward_3 : List UInt8 := [21, 6, 167, 0, 12, 42, 180, 1, 82, 180, 1, 52, 27, 46, 54, 9, 42, 180, 1, 82, 180, 1, 26, 28]
abbrev dktX7_isForward_3 : List UInt8 := dkwX7_isForward_3 ++ dktX7_isForward_4
def dkwX7_isForward_2 : List UInt8 := [180, 1, 82, 180, 1, 55, 27, 46, 54, 8, 21, 6, 42, 180, 1, 82, 180, 1, 52, 27, 46, 162, 0, 8]
abbrev dktX7_isForward_2 : List UInt8 := dkwX7_isForward_2 ++ dktX7_isForward_3
def dkwX7_isForward_1 : List UInt8 := [54, 7, 21, 6, 42, 180, 1, 82, 180, 1, 55, 27, 46, 162, 0, 8, 21, 6, 167, 0, 12, 42]
abbrev dktX7_isForward_1 : List UInt8 := dkwX7_isForward_1 ++ dktX7_isForward_2
def dkwX7_isForward_0 : List UInt8 := [42, 180, 1, 82, 27, 182, 1, 103, 54, 6, 21, 5, 42, 180, 1, 82, 28, 29, 21, 4, 182, 1, 105, 100]
abbrev dktX7_isForward_0 : List UInt8 := dkwX7_isForward_0 ++ dktX7_isForward_1
theorem dksX7_isForward_0 : cX7_isForward.data.toList.drop 0 = dktX7_isForward_0 := by decide +kernel
theorem dksX7_isForward_1 : cX7_isForward.data.toList.drop 24 = dktX7_isForward_1 := dk_seg dksX7_isForward_0 24 rfl rfl
theorem dksX7_isForward_2 : cX7_isForward.data.toList.drop 46 = dktX7_isForward_2 := dk_seg dksX7_isForward_1 22 rfl rfl
theorem dksX7_isForward_3 : cX7_isForward.data.toList.drop 70 = dktX7_isForward_3 := dk_seg dksX7_isForward_2 24 rfl rfl
theorem dksX7_isForward_4 : cX7_isForward.data.toList.drop 94 = dktX7_isForward_4 := dk_seg dksX7_isForward_3 24 rfl rfl
theorem dksX7_isForward_5 : cX7_isForward.data.toList.drop 116 = dktX7_isForward_5 := dk_seg dksX7_isForward_4 22 rfl rfl
theorem dksX7_isForward_6 : cX7_isForward.data.toList.drop 140 = dktX7_isForward_6 := dk_seg dksX7_isForward_5 24 rfl rfl
theorem dksX7_isForward_7 : cX7_isForward.data.toList.drop 164 = dktX7_isForward_7 := dk_seg dksX7_isForward_6 24 rfl rfl
theorem dX7_isForward_0 : decode cX7_isForward 0 = .ok (.aload_n 0, 1) := dk_42 (dk_at dksX7_isForward_0 0 rfl rfl)
theorem dX7_isForward_1 : decode cX7_isForward 1 = .ok (.getfield 338, 3) := dk_180 1 82 (dk_at dksX7_isForward_0 1 rfl rfl)
theorem dX7_isForward_4 : decode cX7_isForward 4 = .ok (.iload_n 1, 1) := dk_27 (dk_at dksX7_isForward_0 4 rfl rfl)
theorem dX7_isForward_5 : decode cX7_isForward 5 = .ok (.invokevirtual 359, 3) := dk_182 1 103 (dk_at dksX7_isForward_0 5 rfl rfl)
theorem dX7_isForward_8 : decode cX7_isForward 8 = .ok (.istore 6, 2) := dk_54 6 (dk_at dksX7_isForward_0 8 rfl rfl)
theorem dX7_isForward_10 : decode cX7_isForward 10 = .ok (.iload 5, 2) := dk_21 5 (dk_at dksX7_isForward_0 10 rfl rfl)
theorem dX7_isForward_12 : decode cX7_isForward 12 = .ok (.aload_n 0, 1) := dk_42 (dk_at dksX7_isForward_0 12 rfl rfl)
theorem dX7_isForward_13 : decode cX7_isForward 13 = .ok (.getfield 338, 3) := dk_180 1 82 (dk_at dksX7_isForward_0 13 rfl rfl)
theorem dX7_isForward_16 : decode cX7_isForward 16 = .ok (.iload_n 2, 1) := dk_28 (dk_at dksX7_isForward_0 16 rfl rfl)
theorem dX7_isForward_17 : decode cX7_isForward 17 = .ok (.iload_n 3, 1) := dk_29 (dk_at dksX7_isForward_0 17 rfl rfl)
theorem dX7_isForward_18 : decode cX7_isForward 18 = .ok (.iload 4, 2) := dk_21 4 (dk_at dksX7_isForward_0 18 rfl rfl)
theorem dX7_isForward_20 : decode cX7_isForward 20 = .ok (.invokevirtual 361, 3) := dk_182 1 105 (dk_at dksX7_isForward_0 20 rfl rfl)
theorem dX7_isForward_23 : decode cX7_isForward 23 = .ok (.isub, 1) := dk_100 (dk_at dksX7_isForward_0 23 rfl rfl)
theorem dX7_isForward_24 : decode cX7_isForward 24 = .ok (.istore 7, 2) := dk_54 7 (dk_at dksX7_isForward_1 0 rfl rfl)
theorem dX7_isForward_26 : decode cX7_isForward 26 = .ok (.iload 6, 2) := dk_21 6 (dk_at dksX7_isForward_1 2 rfl rfl)
theorem dX7_isForward_28 : decode cX7_isForward 28 = .ok (.aload_n 0, 1) := dk_42 (dk_at dksX7_isForward_1 4 rfl rfl)
theorem dX7_isForward_29 : decode cX7_isForward 29 = .ok (.getfield 338, 3) := dk_180 1 82 (dk_at dksX7_isForward_1 5 rfl rfl)
theorem dX7_isForward_32 : decode cX7_isForward 32 = .ok (.getfield 311, 3) := dk_180 1 55 (dk_at dksX7_isForward_1 8 rfl rfl)
theorem dX7_isForward_35 : decode cX7_isForward 35 = .ok (.iload_n 1, 1) := dk_27 (dk_at dksX7_isForward_1 11 rfl rfl)
theorem dX7_isForward_36 : decode cX7_isForward 36 = .ok (.iaload, 1) := dk_46 (dk_at dksX7_isForward_1 12 rfl rfl)
theorem dX7_isForward_37 : decode cX7_isForward 37 = .ok (.if_icmp .ge 8, 3) := dk_162 0 8 (dk_at dksX7_isForward_1 13 rfl rfl)
theorem dX7_isForward_40 : decode cX7_isForward 40 = .ok (.iload 6, 2) := dk_21 6 (dk_at dksX7_isForward_1 16 rfl rfl)
theorem dX7_isForward_42 : decode cX7_isForward 42 = .ok (.goto 12, 3) := dk_167 0 12 (dk_at dksX7_isForward_1 18 rfl rfl)
theorem dX7_isForward_45 : decode cX7_isForward 45 = .ok (.aload_n 0, 1) := dk_42 (dk_at dksX7_isForward_1 21 rfl rfl)
theorem dX7_isForward_46 : decode cX7_isForward 46 = .ok (.getfield 338, 3) := dk_180 1 82 (dk_at dksX7_isForward_2 0 rfl rfl)
theorem dX7_isForward_49 : decode cX7_isForward 49 = .ok (.getfield 311, 3) := dk_180 1 55 (dk_at dksX7_isForward_2 3 rfl rfl)
theorem dX7_isForward_52 : decode cX7_isForward 52 = .ok (.iload_n 1, 1) := dk_27 (dk_at dksX7_isForward_2 6 rfl rfl)
theorem dX7_isForward_53 : decode cX7_isForward 53 = .ok (.iaload, 1) := dk_46 (dk_at dksX7_isForward_2 7 rfl rfl)
theorem dX7_isForward_54 : decode cX7_isForward 54 = .ok (.istore 8, 2) := dk_54 8 (dk_at dksX7_isForward_2 8 rfl rfl)
theorem dX7_isForward_56 : decode cX7_isForward 56 = .ok (.iload 6, 2) := dk_21 6 (dk_at dksX7_isForward_2 10 rfl rfl)
theorem dX7_isForward_58 : decode cX7_isForward 58 = .ok (.aload_n 0, 1) := dk_42 (dk_at dksX7_isForward_2 12 rfl rfl)
theorem dX7_isForward_59 : decode cX7_isForward 59 = .ok (.getfield 338, 3) := dk_180 1 82 (dk_at dksX7_isForward_2 13 rfl rfl)
theorem dX7_isForward_62 : decode cX7_isForward 62 = .ok (.getfield 308, 3) := dk_180 1 52 (dk_at dksX7_isForward_2 16 rfl rfl)
theorem dX7_isForward_65 : decode cX7_isForward 65 = .ok (.iload_n 1, 1) := dk_27 (dk_at dksX7_isForward_2 19 rfl rfl)
theorem dX7_isForward_66 : decode cX7_isForward 66 = .ok (.iaload, 1) := dk_46 (dk_at dksX7_isForward_2 20 rfl rfl)
theorem dX7_isForward_67 : decode cX7_isForward 67 = .ok (.if_icmp .ge 8, 3) := dk_162 0 8 (dk_at dksX7_isForward_2 21 rfl rfl)
theorem dX7_isForward_70 : decode cX7_isForward 70 = .ok (.iload 6, 2) := dk_21 6 (dk_at dksX7_isForward_3 0 rfl rfl)
theorem dX7_isForward_72 : decode cX7_isForward 72 = .ok (.goto 12, 3) := dk_167 0 12 (dk_at dksX7_isForward_3 2 rfl rfl)
theorem dX7_isForward_75 : decode cX7_isForward 75 = .ok (.aload_n 0, 1) := dk_42 (dk_at dksX7_isForward_3 5 rfl rfl)
theorem dX7_isForward_76 : decode cX7_isForward 76 = .ok (.getfield 338, 3) := dk_180 1 82 (dk_at dksX7_isForward_3 6 rfl rfl)
theorem dX7_isForward_79 : decode cX7_isForward 79 = .ok (.getfield 308, 3) := dk_180 1 52 (dk_at dksX7_isForward_3 9 rfl rfl)
theorem dX7_isForward_82 : decode cX7_isForward 82 = .ok (.iload_n 1, 1) := dk_27 (dk_at dksX7_isForward_3 12 rfl rfl)
theorem dX7_isForward_83 : decode cX7_isForward 83 = .ok (.iaload, 1) := dk_46 (dk_at dksX7_isForward_3 13 rfl rfl)
theorem dX7_isForward_84 : decode cX7_isForward 84 = .ok (.istore 9, 2) := dk_54 9 (dk_at dksX7_isForward_3 14 rfl rfl)
theorem dX7_isForward_86 : decode cX7_isForward 86 = .ok (.aload_n 0, 1) := dk_42 (dk_at dksX7_isForward_3 16 rfl rfl)
theorem dX7_isForward_87 : decode cX7_isForward 87 = .ok (.getfield 338, 3) := dk_180 1 82 (dk_at dksX7_isForward_3 17 rfl rfl)
theorem dX7_isForward_90 : decode cX7_isForward 90 = .ok (.getfield 282, 3) := dk_180 1 26 (dk_at dksX7_isForward_3 20 rfl rfl)
theorem dX7_isForward_93 : decode cX7_isForward 93 = .ok (.iload_n 2, 1) := dk_28 (dk_at dksX7_isForward_3 23 rfl rfl)
theorem dX7_isForward_94 : decode cX7_isForward 94 = .ok (.iaload, 1) := dk_46 (dk_at dksX7_isForward_4 0 rfl rfl)
theorem dX7_isForward_95 : decode cX7_isForward 95 = .ok (.aload_n 0, 1) := dk_42 (dk_at dksX7_isForward_4 1 rfl rfl)
theorem dX7_isForward_96 : decode cX7_isForward 96 = .ok (.getfield 338, 3) := dk_180 1 82 (dk_at dksX7_isForward_4 2 rfl rfl)
theorem dX7_isForward_99 : decode cX7_isForward 99 = .ok (.getfield 279, 3) := dk_180 1 23 (dk_at dksX7_isForward_4 5 rfl rfl)
theorem dX7_isForward_102 : decode cX7_isForward 102 = .ok (.iload_n 2, 1) := dk_28 (dk_at dksX7_isForward_4 8 rfl rfl)
theorem dX7_isForward_103 : decode cX7_isForward 103 = .ok (.iaload, 1) := dk_46 (dk_at dksX7_isForward_4 9 rfl rfl)
theorem dX7_isForward_104 : decode cX7_isForward 104 = .ok (.if_icmp .ge 7, 3) := dk_162 0 7 (dk_at dksX7_isForward_4 10 rfl rfl)
theorem dX7_isForward_107 : decode cX7_isForward 107 = .ok (.iconst 1, 1) := dk_4 (dk_at dksX7_isForward_4 13 rfl rfl)
theorem dX7_isForward_108 : decode cX7_isForward 108 = .ok (.goto 4, 3) := dk_167 0 4 (dk_at dksX7_isForward_4 14 rfl rfl)
theorem dX7_isForward_111 : decode cX7_isForward 111 = .ok (.iconst 0, 1) := dk_3 (dk_at dksX7_isForward_4 17 rfl rfl)
theorem dX7_isForward_112 : decode cX7_isForward 112 = .ok (.istore 10, 2) := dk_54 10 (dk_at dksX7_isForward_4 18 rfl rfl)
theorem dX7_isForward_114 : decode cX7_isForward 114 = .ok (.iload 10, 2) := dk_21 10 (dk_at dksX7_isForward_4 20 rfl rfl)
theorem dX7_isForward_116 : decode cX7_isForward 116 = .ok (.ifCond .eq 55, 3) := dk_153 0 55 (dk_at dksX7_isForward_5 0 rfl rfl)
theorem dX7_isForward_119 : decode cX7_isForward 119 = .ok (.iload 7, 2) := dk_21 7 (dk_at dksX7_isForward_5 3 rfl rfl)
theorem dX7_isForward_121 : decode cX7_isForward 121 = .ok (.ifCond .le 50, 3) := dk_158 0 50 (dk_at dksX7_isForward_5 5 rfl rfl)
theorem dX7_isForward_124 : decode cX7_isForward 124 = .ok (.aload_n 0, 1) := dk_42 (dk_at dksX7_isForward_5 8 rfl rfl)
theorem dX7_isForward_125 : decode cX7_isForward 125 = .ok (.getfield 338, 3) := dk_180 1 82 (dk_at dksX7_isForward_5 9 rfl rfl)
theorem dX7_isForward_128 : decode cX7_isForward 128 = .ok (.getfield 237, 3) := dk_180 0 237 (dk_at dksX7_isForward_5 12 rfl rfl)
theorem dX7_isForward_131 : decode cX7_isForward 131 = .ok (.iload 4, 2) := dk_21 4 (dk_at dksX7_isForward_5 15 rfl rfl)
theorem dX7_isForward_133 : decode cX7_isForward 133 = .ok (.iaload, 1) := dk_46 (dk_at dksX7_isForward_5 17 rfl rfl)
theorem dX7_isForward_134 : decode cX7_isForward 134 = .ok (.iload 7, 2) := dk_21 7 (dk_at dksX7_isForward_5 18 rfl rfl)
theorem dX7_isForward_136 : decode cX7_isForward 136 = .ok (.imul, 1) := dk_104 (dk_at dksX7_isForward_5 20 rfl rfl)
theorem dX7_isForward_137 : decode cX7_isForward 137 = .ok (.iload 8, 2) := dk_21 8 (dk_at dksX7_isForward_5 21 rfl rfl)
theorem dX7_isForward_139 : decode cX7_isForward 139 = .ok (.imul, 1) := dk_104 (dk_at dksX7_isForward_5 23 rfl rfl)
theorem dX7_isForward_140 : decode cX7_isForward 140 = .ok (.aload_n 0, 1) := dk_42 (dk_at dksX7_isForward_6 0 rfl rfl)
theorem dX7_isForward_141 : decode cX7_isForward 141 = .ok (.getfield 338, 3) := dk_180 1 82 (dk_at dksX7_isForward_6 1 rfl rfl)
theorem dX7_isForward_144 : decode cX7_isForward 144 = .ok (.getfield 237, 3) := dk_180 0 237 (dk_at dksX7_isForward_6 4 rfl rfl)
theorem dX7_isForward_147 : decode cX7_isForward 147 = .ok (.iload 4, 2) := dk_21 4 (dk_at dksX7_isForward_6 7 rfl rfl)
theorem dX7_isForward_149 : decode cX7_isForward 149 = .ok (.iaload, 1) := dk_46 (dk_at dksX7_isForward_6 9 rfl rfl)
theorem dX7_isForward_150 : decode cX7_isForward 150 = .ok (.aload_n 0, 1) := dk_42 (dk_at dksX7_isForward_6 10 rfl rfl)
theorem dX7_isForward_151 : decode cX7_isForward 151 = .ok (.getfield 338, 3) := dk_180 1 82 (dk_at dksX7_isForward_6 11 rfl rfl)
theorem dX7_isForward_154 : decode cX7_isForward 154 = .ok (.getfield 239, 3) := dk_180 0 239 (dk_at dksX7_isForward_6 14 rfl rfl)
theorem dX7_isForward_157 : decode cX7_isForward 157 = .ok (.iload 4, 2) := dk_21 4 (dk_at dksX7_isForward_6 17 rfl rfl)
theorem dX7_isForward_159 : decode cX7_isForward 159 = .ok (.iaload, 1) := dk_46 (dk_at dksX7_isForward_6 19 rfl rfl)
theorem dX7_isForward_160 : decode cX7_isForward 160 = .ok (.imul, 1) := dk_104 (dk_at dksX7_isForward_6 20 rfl rfl)
theorem dX7_isForward_161 : decode cX7_isForward 161 = .ok (.iload 9, 2) := dk_21 9 (dk_at dksX7_isForward_6 21 rfl rfl)
theorem dX7_isForward_163 : decode cX7_isForward 163 = .ok (.imul, 1) := dk_104 (dk_at dksX7_isForward_6 23 rfl rfl)
theorem dX7_isForward_164 : decode cX7_isForward 164 = .ok (.if_icmp .le 7, 3) := dk_164 0 7 (dk_at dksX7_isForward_7 0 rfl rfl)
theorem dX7_isForward_167 : decode cX7_isForward 167 = .ok (.iconst 1, 1) := dk_4 (dk_at dksX7_isForward_7 3 rfl rfl)
theorem dX7_isForward_168 : decode cX7_isForward 168 = .ok (.goto 4, 3) := dk_167 0 4 (dk_at dksX7_isForward_7 4 rfl rfl)
theorem dX7_isForward_171 : decode cX7_isForward 171 = .ok (.iconst 0, 1) := dk_3 (dk_at dksX7_isForward_7 7 rfl rfl)
theorem dX7_isForward_172 : decode cX7_isForward 172 = .ok (.ireturn, 1) := dk_172 (dk_at dksX7_isForward_7 8 rfl rfl)
abbrev cX7_less : ByteArray := prog_19_method_47_code
def yX7_less : MethodName := ⟨RX7, "less", "(II)I"⟩
def dkwX7_less_0 : List UInt8 := [26, 27, 164, 0, 9, 26, 27, 100, 167, 0, 4, 3, 172]
abbrev dktX7_less_0 : List UInt8 := dkwX7_less_0 ++ []
theorem dksX7_less_0 : cX7_less.data.toList.drop 0 = dktX7_less_0 := by decide +kernel
theorem dX7_less_0 : decode cX7_less 0 = .ok (.iload_n 0, 1) := dk_26 (dk_at dksX7_less_0 0 rfl rfl)
theorem dX7_less_1 : decode cX7_less 1 = .ok (.iload_n 1, 1) := dk_27 (dk_at dksX7_less_0 1 rfl rfl)
theorem dX7_less_2 : decode cX7_less 2 = .ok (.if_icmp .le 9, 3) := dk_164 0 9 (dk_at dksX7_less_0 2 rfl rfl)
theorem dX7_less_5 : decode cX7_less 5 = .ok (.iload_n 0, 1) := dk_26 (dk_at dksX7_less_0 5 rfl rfl)
theorem dX7_less_6 : decode cX7_less 6 = .ok (.iload_n 1, 1) := dk_27 (dk_at dksX7_less_0 6 rfl rfl)
theorem dX7_less_7 : decode cX7_less 7 = .ok (.isub, 1) := dk_100 (dk_at dksX7_less_0 7 rfl rfl)
theorem dX7_less_8 : decode cX7_less 8 = .ok (.goto 4, 3) := dk_167 0 4 (dk_at dksX7_less_0 8 rfl rfl)
theorem dX7_less_11 : decode cX7_less 11 = .ok (.iconst 0, 1) := dk_3 (dk_at dksX7_less_0 11 rfl rfl)
theorem dX7_less_12 : decode cX7_less 12 = .ok (.ireturn, 1) := dk_172 (dk_at dksX7_less_0 12 rfl rfl)
abbrev cX7_told : ByteArray := prog_19_method_9_code
def yX7_told : MethodName := ⟨RX7, "told", "(JJZ)J"⟩
def dkwX7_told_2 : List UInt8 := [22, 6, 109, 173]
abbrev dktX7_told_2 : List UInt8 := dkwX7_told_2 ++ []
def dkwX7_told_1 : List UInt8 := [55, 10, 22, 8, 55, 6, 22, 10, 55, 8, 167, 255, 234, 21, 5, 153, 0, 7, 33, 167, 0, 4, 31]
abbrev dktX7_told_1 : List UInt8 := dkwX7_told_1 ++ dktX7_told_2
def dkwX7_told_0 : List UInt8 := [42, 3, 182, 0, 50, 87, 31, 55, 6, 33, 55, 8, 22, 8, 9, 148, 153, 0, 21, 22, 6, 22, 8, 113]
abbrev dktX7_told_0 : List UInt8 := dkwX7_told_0 ++ dktX7_told_1
theorem dksX7_told_0 : cX7_told.data.toList.drop 0 = dktX7_told_0 := by decide +kernel
theorem dksX7_told_1 : cX7_told.data.toList.drop 24 = dktX7_told_1 := dk_seg dksX7_told_0 24 rfl rfl
theorem dksX7_told_2 : cX7_told.data.toList.drop 47 = dktX7_told_2 := dk_seg dksX7_told_1 23 rfl rfl
theorem dX7_told_0 : decode cX7_told 0 = .ok (.aload_n 0, 1) := dk_42 (dk_at dksX7_told_0 0 rfl rfl)
theorem dX7_told_1 : decode cX7_told 1 = .ok (.iconst 0, 1) := dk_3 (dk_at dksX7_told_0 1 rfl rfl)
theorem dX7_told_2 : decode cX7_told 2 = .ok (.invokevirtual 50, 3) := dk_182 0 50 (dk_at dksX7_told_0 2 rfl rfl)
theorem dX7_told_5 : decode cX7_told 5 = .ok (.pop, 1) := dk_87 (dk_at dksX7_told_0 5 rfl rfl)
theorem dX7_told_6 : decode cX7_told 6 = .ok (.lload_n 1, 1) := dk_31 (dk_at dksX7_told_0 6 rfl rfl)
theorem dX7_told_7 : decode cX7_told 7 = .ok (.lstore 6, 2) := dk_55 6 (dk_at dksX7_told_0 7 rfl rfl)
theorem dX7_told_9 : decode cX7_told 9 = .ok (.lload_n 3, 1) := dk_33 (dk_at dksX7_told_0 9 rfl rfl)
theorem dX7_told_10 : decode cX7_told 10 = .ok (.lstore 8, 2) := dk_55 8 (dk_at dksX7_told_0 10 rfl rfl)
theorem dX7_told_12 : decode cX7_told 12 = .ok (.lload 8, 2) := dk_22 8 (dk_at dksX7_told_0 12 rfl rfl)
theorem dX7_told_14 : decode cX7_told 14 = .ok (.lconst 0, 1) := dk_9 (dk_at dksX7_told_0 14 rfl rfl)
theorem dX7_told_15 : decode cX7_told 15 = .ok (.lcmp, 1) := dk_148 (dk_at dksX7_told_0 15 rfl rfl)
theorem dX7_told_16 : decode cX7_told 16 = .ok (.ifCond .eq 21, 3) := dk_153 0 21 (dk_at dksX7_told_0 16 rfl rfl)
theorem dX7_told_19 : decode cX7_told 19 = .ok (.lload 6, 2) := dk_22 6 (dk_at dksX7_told_0 19 rfl rfl)
theorem dX7_told_21 : decode cX7_told 21 = .ok (.lload 8, 2) := dk_22 8 (dk_at dksX7_told_0 21 rfl rfl)
theorem dX7_told_23 : decode cX7_told 23 = .ok (.lrem, 1) := dk_113 (dk_at dksX7_told_0 23 rfl rfl)
theorem dX7_told_24 : decode cX7_told 24 = .ok (.lstore 10, 2) := dk_55 10 (dk_at dksX7_told_1 0 rfl rfl)
theorem dX7_told_26 : decode cX7_told 26 = .ok (.lload 8, 2) := dk_22 8 (dk_at dksX7_told_1 2 rfl rfl)
theorem dX7_told_28 : decode cX7_told 28 = .ok (.lstore 6, 2) := dk_55 6 (dk_at dksX7_told_1 4 rfl rfl)
theorem dX7_told_30 : decode cX7_told 30 = .ok (.lload 10, 2) := dk_22 10 (dk_at dksX7_told_1 6 rfl rfl)
theorem dX7_told_32 : decode cX7_told 32 = .ok (.lstore 8, 2) := dk_55 8 (dk_at dksX7_told_1 8 rfl rfl)
theorem dX7_told_34 : decode cX7_told 34 = .ok (.goto (-22), 3) := dk_167 255 234 (dk_at dksX7_told_1 10 rfl rfl)
theorem dX7_told_37 : decode cX7_told 37 = .ok (.iload 5, 2) := dk_21 5 (dk_at dksX7_told_1 13 rfl rfl)
theorem dX7_told_39 : decode cX7_told 39 = .ok (.ifCond .eq 7, 3) := dk_153 0 7 (dk_at dksX7_told_1 15 rfl rfl)
theorem dX7_told_42 : decode cX7_told 42 = .ok (.lload_n 3, 1) := dk_33 (dk_at dksX7_told_1 18 rfl rfl)
theorem dX7_told_43 : decode cX7_told 43 = .ok (.goto 4, 3) := dk_167 0 4 (dk_at dksX7_told_1 19 rfl rfl)
theorem dX7_told_46 : decode cX7_told 46 = .ok (.lload_n 1, 1) := dk_31 (dk_at dksX7_told_1 22 rfl rfl)
theorem dX7_told_47 : decode cX7_told 47 = .ok (.lload 6, 2) := dk_22 6 (dk_at dksX7_told_2 0 rfl rfl)
theorem dX7_told_49 : decode cX7_told 49 = .ok (.ldiv, 1) := dk_109 (dk_at dksX7_told_2 2 rfl rfl)
theorem dX7_told_50 : decode cX7_told 50 = .ok (.lreturn, 1) := dk_173 (dk_at dksX7_told_2 3 rfl rfl)
abbrev cX7_wet : ByteArray := prog_19_method_52_code
def yX7_wet : MethodName := ⟨RX7, "wet", "(IIIIIZ)J"⟩
def dkwX7_wet_2 : List UInt8 := [21, 6, 182, 1, 133, 173]
abbrev dktX7_wet_2 : List UInt8 := dkwX7_wet_2 ++ []
def dkwX7_wet_1 : List UInt8 := [21, 7, 182, 0, 46, 133, 167, 0, 23, 42, 42, 27, 28, 29, 21, 4, 21, 5, 182, 1, 137, 20, 1, 131]
abbrev dktX7_wet_1 : List UInt8 := dkwX7_wet_1 ++ dktX7_wet_2
def dkwX7_wet_0 : List UInt8 := [42, 3, 181, 0, 40, 42, 27, 28, 29, 21, 4, 21, 5, 182, 1, 127, 54, 7, 21, 7, 158, 0, 13, 42]
abbrev dktX7_wet_0 : List UInt8 := dkwX7_wet_0 ++ dktX7_wet_1
theorem dksX7_wet_0 : cX7_wet.data.toList.drop 0 = dktX7_wet_0 := by decide +kernel
theorem dksX7_wet_1 : cX7_wet.data.toList.drop 24 = dktX7_wet_1 := dk_seg dksX7_wet_0 24 rfl rfl
theorem dksX7_wet_2 : cX7_wet.data.toList.drop 48 = dktX7_wet_2 := dk_seg dksX7_wet_1 24 rfl rfl
theorem dX7_wet_0 : decode cX7_wet 0 = .ok (.aload_n 0, 1) := dk_42 (dk_at dksX7_wet_0 0 rfl rfl)
theorem dX7_wet_1 : decode cX7_wet 1 = .ok (.iconst 0, 1) := dk_3 (dk_at dksX7_wet_0 1 rfl rfl)
theorem dX7_wet_2 : decode cX7_wet 2 = .ok (.putfield 40, 3) := dk_181 0 40 (dk_at dksX7_wet_0 2 rfl rfl)
theorem dX7_wet_5 : decode cX7_wet 5 = .ok (.aload_n 0, 1) := dk_42 (dk_at dksX7_wet_0 5 rfl rfl)
theorem dX7_wet_6 : decode cX7_wet 6 = .ok (.iload_n 1, 1) := dk_27 (dk_at dksX7_wet_0 6 rfl rfl)
theorem dX7_wet_7 : decode cX7_wet 7 = .ok (.iload_n 2, 1) := dk_28 (dk_at dksX7_wet_0 7 rfl rfl)
theorem dX7_wet_8 : decode cX7_wet 8 = .ok (.iload_n 3, 1) := dk_29 (dk_at dksX7_wet_0 8 rfl rfl)
theorem dX7_wet_9 : decode cX7_wet 9 = .ok (.iload 4, 2) := dk_21 4 (dk_at dksX7_wet_0 9 rfl rfl)
theorem dX7_wet_11 : decode cX7_wet 11 = .ok (.iload 5, 2) := dk_21 5 (dk_at dksX7_wet_0 11 rfl rfl)
theorem dX7_wet_13 : decode cX7_wet 13 = .ok (.invokevirtual 383, 3) := dk_182 1 127 (dk_at dksX7_wet_0 13 rfl rfl)
theorem dX7_wet_16 : decode cX7_wet 16 = .ok (.istore 7, 2) := dk_54 7 (dk_at dksX7_wet_0 16 rfl rfl)
theorem dX7_wet_18 : decode cX7_wet 18 = .ok (.iload 7, 2) := dk_21 7 (dk_at dksX7_wet_0 18 rfl rfl)
theorem dX7_wet_20 : decode cX7_wet 20 = .ok (.ifCond .le 13, 3) := dk_158 0 13 (dk_at dksX7_wet_0 20 rfl rfl)
theorem dX7_wet_23 : decode cX7_wet 23 = .ok (.aload_n 0, 1) := dk_42 (dk_at dksX7_wet_0 23 rfl rfl)
theorem dX7_wet_24 : decode cX7_wet 24 = .ok (.iload 7, 2) := dk_21 7 (dk_at dksX7_wet_1 0 rfl rfl)
theorem dX7_wet_26 : decode cX7_wet 26 = .ok (.invokevirtual 46, 3) := dk_182 0 46 (dk_at dksX7_wet_1 2 rfl rfl)
theorem dX7_wet_29 : decode cX7_wet 29 = .ok (.i2l, 1) := dk_133 (dk_at dksX7_wet_1 5 rfl rfl)
theorem dX7_wet_30 : decode cX7_wet 30 = .ok (.goto 23, 3) := dk_167 0 23 (dk_at dksX7_wet_1 6 rfl rfl)
theorem dX7_wet_33 : decode cX7_wet 33 = .ok (.aload_n 0, 1) := dk_42 (dk_at dksX7_wet_1 9 rfl rfl)
theorem dX7_wet_34 : decode cX7_wet 34 = .ok (.aload_n 0, 1) := dk_42 (dk_at dksX7_wet_1 10 rfl rfl)
theorem dX7_wet_35 : decode cX7_wet 35 = .ok (.iload_n 1, 1) := dk_27 (dk_at dksX7_wet_1 11 rfl rfl)
theorem dX7_wet_36 : decode cX7_wet 36 = .ok (.iload_n 2, 1) := dk_28 (dk_at dksX7_wet_1 12 rfl rfl)
theorem dX7_wet_37 : decode cX7_wet 37 = .ok (.iload_n 3, 1) := dk_29 (dk_at dksX7_wet_1 13 rfl rfl)
theorem dX7_wet_38 : decode cX7_wet 38 = .ok (.iload 4, 2) := dk_21 4 (dk_at dksX7_wet_1 14 rfl rfl)
theorem dX7_wet_40 : decode cX7_wet 40 = .ok (.iload 5, 2) := dk_21 5 (dk_at dksX7_wet_1 16 rfl rfl)
theorem dX7_wet_42 : decode cX7_wet 42 = .ok (.invokevirtual 393, 3) := dk_182 1 137 (dk_at dksX7_wet_1 18 rfl rfl)
theorem dX7_wet_45 : decode cX7_wet 45 = .ok (.ldc2_w 387, 3) := dk_20 1 131 (dk_at dksX7_wet_1 21 rfl rfl)
theorem dX7_wet_48 : decode cX7_wet 48 = .ok (.iload 6, 2) := dk_21 6 (dk_at dksX7_wet_2 0 rfl rfl)
theorem dX7_wet_50 : decode cX7_wet 50 = .ok (.invokevirtual 389, 3) := dk_182 1 133 (dk_at dksX7_wet_2 2 rfl rfl)
theorem dX7_wet_53 : decode cX7_wet 53 = .ok (.lreturn, 1) := dk_173 (dk_at dksX7_wet_2 5 rfl rfl)
abbrev cX7_wetOf : ByteArray := prog_19_method_50_code
def yX7_wetOf : MethodName := ⟨RX7, "wetOf", "(IIIII)J"⟩
def dkwX7_wetOf_1 : List UInt8 := [182, 1, 123, 97, 55, 6, 132, 8, 1, 167, 255, 229, 22, 6, 173]
abbrev dktX7_wetOf_1 : List UInt8 := dkwX7_wetOf_1 ++ []
def dkwX7_wetOf_0 : List UInt8 := [9, 55, 6, 3, 54, 8, 21, 8, 8, 162, 0, 27, 22, 6, 42, 27, 28, 29, 21, 4, 21, 5, 21, 8]
abbrev dktX7_wetOf_0 : List UInt8 := dkwX7_wetOf_0 ++ dktX7_wetOf_1
theorem dksX7_wetOf_0 : cX7_wetOf.data.toList.drop 0 = dktX7_wetOf_0 := by decide +kernel
theorem dksX7_wetOf_1 : cX7_wetOf.data.toList.drop 24 = dktX7_wetOf_1 := dk_seg dksX7_wetOf_0 24 rfl rfl
theorem dX7_wetOf_0 : decode cX7_wetOf 0 = .ok (.lconst 0, 1) := dk_9 (dk_at dksX7_wetOf_0 0 rfl rfl)
theorem dX7_wetOf_1 : decode cX7_wetOf 1 = .ok (.lstore 6, 2) := dk_55 6 (dk_at dksX7_wetOf_0 1 rfl rfl)
theorem dX7_wetOf_3 : decode cX7_wetOf 3 = .ok (.iconst 0, 1) := dk_3 (dk_at dksX7_wetOf_0 3 rfl rfl)
theorem dX7_wetOf_4 : decode cX7_wetOf 4 = .ok (.istore 8, 2) := dk_54 8 (dk_at dksX7_wetOf_0 4 rfl rfl)
theorem dX7_wetOf_6 : decode cX7_wetOf 6 = .ok (.iload 8, 2) := dk_21 8 (dk_at dksX7_wetOf_0 6 rfl rfl)
theorem dX7_wetOf_8 : decode cX7_wetOf 8 = .ok (.iconst 5, 1) := dk_8 (dk_at dksX7_wetOf_0 8 rfl rfl)
theorem dX7_wetOf_9 : decode cX7_wetOf 9 = .ok (.if_icmp .ge 27, 3) := dk_162 0 27 (dk_at dksX7_wetOf_0 9 rfl rfl)
theorem dX7_wetOf_12 : decode cX7_wetOf 12 = .ok (.lload 6, 2) := dk_22 6 (dk_at dksX7_wetOf_0 12 rfl rfl)
theorem dX7_wetOf_14 : decode cX7_wetOf 14 = .ok (.aload_n 0, 1) := dk_42 (dk_at dksX7_wetOf_0 14 rfl rfl)
theorem dX7_wetOf_15 : decode cX7_wetOf 15 = .ok (.iload_n 1, 1) := dk_27 (dk_at dksX7_wetOf_0 15 rfl rfl)
theorem dX7_wetOf_16 : decode cX7_wetOf 16 = .ok (.iload_n 2, 1) := dk_28 (dk_at dksX7_wetOf_0 16 rfl rfl)
theorem dX7_wetOf_17 : decode cX7_wetOf 17 = .ok (.iload_n 3, 1) := dk_29 (dk_at dksX7_wetOf_0 17 rfl rfl)
theorem dX7_wetOf_18 : decode cX7_wetOf 18 = .ok (.iload 4, 2) := dk_21 4 (dk_at dksX7_wetOf_0 18 rfl rfl)
theorem dX7_wetOf_20 : decode cX7_wetOf 20 = .ok (.iload 5, 2) := dk_21 5 (dk_at dksX7_wetOf_0 20 rfl rfl)
theorem dX7_wetOf_22 : decode cX7_wetOf 22 = .ok (.iload 8, 2) := dk_21 8 (dk_at dksX7_wetOf_0 22 rfl rfl)
theorem dX7_wetOf_24 : decode cX7_wetOf 24 = .ok (.invokevirtual 379, 3) := dk_182 1 123 (dk_at dksX7_wetOf_1 0 rfl rfl)
theorem dX7_wetOf_27 : decode cX7_wetOf 27 = .ok (.ladd, 1) := dk_97 (dk_at dksX7_wetOf_1 3 rfl rfl)
theorem dX7_wetOf_28 : decode cX7_wetOf 28 = .ok (.lstore 6, 2) := dk_55 6 (dk_at dksX7_wetOf_1 4 rfl rfl)
theorem dX7_wetOf_30 : decode cX7_wetOf 30 = .ok (.iinc 8 1, 3) := dk_132 8 1 (dk_at dksX7_wetOf_1 6 rfl rfl)
theorem dX7_wetOf_33 : decode cX7_wetOf 33 = .ok (.goto (-27), 3) := dk_167 255 229 (dk_at dksX7_wetOf_1 9 rfl rfl)
theorem dX7_wetOf_36 : decode cX7_wetOf 36 = .ok (.lload 6, 2) := dk_22 6 (dk_at dksX7_wetOf_1 12 rfl rfl)
theorem dX7_wetOf_38 : decode cX7_wetOf 38 = .ok (.lreturn, 1) := dk_173 (dk_at dksX7_wetOf_1 14 rfl rfl)
abbrev cX7_mean : ByteArray := prog_19_method_53_code
def yX7_mean : MethodName := ⟨RX7, "mean", "(IIIIIZ)J"⟩
def dkwX7_mean_2 : List UInt8 := [180, 1, 82, 180, 0, 246, 21, 4, 46, 133, 105, 20, 1, 141, 21, 6, 182, 1, 133, 173]
abbrev dktX7_mean_2 : List UInt8 := dkwX7_mean_2 ++ []
def dkwX7_mean_1 : List UInt8 := [21, 7, 182, 0, 46, 133, 167, 0, 35, 42, 42, 27, 28, 29, 21, 4, 21, 5, 182, 1, 137, 42]
abbrev dktX7_mean_1 : List UInt8 := dkwX7_mean_1 ++ dktX7_mean_2
def dkwX7_mean_0 : List UInt8 := [42, 3, 181, 0, 40, 42, 27, 28, 29, 21, 4, 21, 5, 182, 1, 127, 54, 7, 21, 7, 158, 0, 13, 42]
abbrev dktX7_mean_0 : List UInt8 := dkwX7_mean_0 ++ dktX7_mean_1
theorem dksX7_mean_0 : cX7_mean.data.toList.drop 0 = dktX7_mean_0 := by decide +kernel
theorem dksX7_mean_1 : cX7_mean.data.toList.drop 24 = dktX7_mean_1 := dk_seg dksX7_mean_0 24 rfl rfl
theorem dksX7_mean_2 : cX7_mean.data.toList.drop 46 = dktX7_mean_2 := dk_seg dksX7_mean_1 22 rfl rfl
theorem dX7_mean_0 : decode cX7_mean 0 = .ok (.aload_n 0, 1) := dk_42 (dk_at dksX7_mean_0 0 rfl rfl)
theorem dX7_mean_1 : decode cX7_mean 1 = .ok (.iconst 0, 1) := dk_3 (dk_at dksX7_mean_0 1 rfl rfl)
theorem dX7_mean_2 : decode cX7_mean 2 = .ok (.putfield 40, 3) := dk_181 0 40 (dk_at dksX7_mean_0 2 rfl rfl)
theorem dX7_mean_5 : decode cX7_mean 5 = .ok (.aload_n 0, 1) := dk_42 (dk_at dksX7_mean_0 5 rfl rfl)
theorem dX7_mean_6 : decode cX7_mean 6 = .ok (.iload_n 1, 1) := dk_27 (dk_at dksX7_mean_0 6 rfl rfl)
theorem dX7_mean_7 : decode cX7_mean 7 = .ok (.iload_n 2, 1) := dk_28 (dk_at dksX7_mean_0 7 rfl rfl)
theorem dX7_mean_8 : decode cX7_mean 8 = .ok (.iload_n 3, 1) := dk_29 (dk_at dksX7_mean_0 8 rfl rfl)
theorem dX7_mean_9 : decode cX7_mean 9 = .ok (.iload 4, 2) := dk_21 4 (dk_at dksX7_mean_0 9 rfl rfl)
theorem dX7_mean_11 : decode cX7_mean 11 = .ok (.iload 5, 2) := dk_21 5 (dk_at dksX7_mean_0 11 rfl rfl)
theorem dX7_mean_13 : decode cX7_mean 13 = .ok (.invokevirtual 383, 3) := dk_182 1 127 (dk_at dksX7_mean_0 13 rfl rfl)
theorem dX7_mean_16 : decode cX7_mean 16 = .ok (.istore 7, 2) := dk_54 7 (dk_at dksX7_mean_0 16 rfl rfl)
theorem dX7_mean_18 : decode cX7_mean 18 = .ok (.iload 7, 2) := dk_21 7 (dk_at dksX7_mean_0 18 rfl rfl)
theorem dX7_mean_20 : decode cX7_mean 20 = .ok (.ifCond .le 13, 3) := dk_158 0 13 (dk_at dksX7_mean_0 20 rfl rfl)
theorem dX7_mean_23 : decode cX7_mean 23 = .ok (.aload_n 0, 1) := dk_42 (dk_at dksX7_mean_0 23 rfl rfl)
theorem dX7_mean_24 : decode cX7_mean 24 = .ok (.iload 7, 2) := dk_21 7 (dk_at dksX7_mean_1 0 rfl rfl)
theorem dX7_mean_26 : decode cX7_mean 26 = .ok (.invokevirtual 46, 3) := dk_182 0 46 (dk_at dksX7_mean_1 2 rfl rfl)
theorem dX7_mean_29 : decode cX7_mean 29 = .ok (.i2l, 1) := dk_133 (dk_at dksX7_mean_1 5 rfl rfl)
theorem dX7_mean_30 : decode cX7_mean 30 = .ok (.goto 35, 3) := dk_167 0 35 (dk_at dksX7_mean_1 6 rfl rfl)
theorem dX7_mean_33 : decode cX7_mean 33 = .ok (.aload_n 0, 1) := dk_42 (dk_at dksX7_mean_1 9 rfl rfl)
theorem dX7_mean_34 : decode cX7_mean 34 = .ok (.aload_n 0, 1) := dk_42 (dk_at dksX7_mean_1 10 rfl rfl)
theorem dX7_mean_35 : decode cX7_mean 35 = .ok (.iload_n 1, 1) := dk_27 (dk_at dksX7_mean_1 11 rfl rfl)
theorem dX7_mean_36 : decode cX7_mean 36 = .ok (.iload_n 2, 1) := dk_28 (dk_at dksX7_mean_1 12 rfl rfl)
theorem dX7_mean_37 : decode cX7_mean 37 = .ok (.iload_n 3, 1) := dk_29 (dk_at dksX7_mean_1 13 rfl rfl)
theorem dX7_mean_38 : decode cX7_mean 38 = .ok (.iload 4, 2) := dk_21 4 (dk_at dksX7_mean_1 14 rfl rfl)
theorem dX7_mean_40 : decode cX7_mean 40 = .ok (.iload 5, 2) := dk_21 5 (dk_at dksX7_mean_1 16 rfl rfl)
theorem dX7_mean_42 : decode cX7_mean 42 = .ok (.invokevirtual 393, 3) := dk_182 1 137 (dk_at dksX7_mean_1 18 rfl rfl)
theorem dX7_mean_45 : decode cX7_mean 45 = .ok (.aload_n 0, 1) := dk_42 (dk_at dksX7_mean_1 21 rfl rfl)
theorem dX7_mean_46 : decode cX7_mean 46 = .ok (.getfield 338, 3) := dk_180 1 82 (dk_at dksX7_mean_2 0 rfl rfl)
theorem dX7_mean_49 : decode cX7_mean 49 = .ok (.getfield 246, 3) := dk_180 0 246 (dk_at dksX7_mean_2 3 rfl rfl)
theorem dX7_mean_52 : decode cX7_mean 52 = .ok (.iload 4, 2) := dk_21 4 (dk_at dksX7_mean_2 6 rfl rfl)
theorem dX7_mean_54 : decode cX7_mean 54 = .ok (.iaload, 1) := dk_46 (dk_at dksX7_mean_2 8 rfl rfl)
theorem dX7_mean_55 : decode cX7_mean 55 = .ok (.i2l, 1) := dk_133 (dk_at dksX7_mean_2 9 rfl rfl)
theorem dX7_mean_56 : decode cX7_mean 56 = .ok (.lmul, 1) := dk_105 (dk_at dksX7_mean_2 10 rfl rfl)
theorem dX7_mean_57 : decode cX7_mean 57 = .ok (.ldc2_w 397, 3) := dk_20 1 141 (dk_at dksX7_mean_2 11 rfl rfl)
theorem dX7_mean_60 : decode cX7_mean 60 = .ok (.iload 6, 2) := dk_21 6 (dk_at dksX7_mean_2 14 rfl rfl)
theorem dX7_mean_62 : decode cX7_mean 62 = .ok (.invokevirtual 389, 3) := dk_182 1 133 (dk_at dksX7_mean_2 16 rfl rfl)
theorem dX7_mean_65 : decode cX7_mean 65 = .ok (.lreturn, 1) := dk_173 (dk_at dksX7_mean_2 19 rfl rfl)
abbrev cX7_minutes : ByteArray := prog_19_method_54_code
def yX7_minutes : MethodName := ⟨RX7, "minutes", "(III)I"⟩
def dkwX7_minutes_2 : List UInt8 := [182, 0, 50, 167, 0, 8, 42, 5, 182, 0, 46, 172]
abbrev dktX7_minutes_2 : List UInt8 := dkwX7_minutes_2 ++ []
def dkwX7_minutes_1 : List UInt8 := [182, 0, 46, 172, 42, 27, 29, 182, 1, 99, 153, 0, 19, 42, 42, 180, 1, 82, 28, 29, 182, 1, 143]
abbrev dktX7_minutes_1 : List UInt8 := dkwX7_minutes_1 ++ dktX7_minutes_2
def dkwX7_minutes_0 : List UInt8 := [42, 3, 181, 0, 40, 42, 27, 182, 1, 90, 153, 0, 11, 42, 28, 182, 1, 93, 154, 0, 9, 42, 4]
abbrev dktX7_minutes_0 : List UInt8 := dkwX7_minutes_0 ++ dktX7_minutes_1
theorem dksX7_minutes_0 : cX7_minutes.data.toList.drop 0 = dktX7_minutes_0 := by decide +kernel
theorem dksX7_minutes_1 : cX7_minutes.data.toList.drop 23 = dktX7_minutes_1 := dk_seg dksX7_minutes_0 23 rfl rfl
theorem dksX7_minutes_2 : cX7_minutes.data.toList.drop 46 = dktX7_minutes_2 := dk_seg dksX7_minutes_1 23 rfl rfl
theorem dX7_minutes_0 : decode cX7_minutes 0 = .ok (.aload_n 0, 1) := dk_42 (dk_at dksX7_minutes_0 0 rfl rfl)
theorem dX7_minutes_1 : decode cX7_minutes 1 = .ok (.iconst 0, 1) := dk_3 (dk_at dksX7_minutes_0 1 rfl rfl)
theorem dX7_minutes_2 : decode cX7_minutes 2 = .ok (.putfield 40, 3) := dk_181 0 40 (dk_at dksX7_minutes_0 2 rfl rfl)
theorem dX7_minutes_5 : decode cX7_minutes 5 = .ok (.aload_n 0, 1) := dk_42 (dk_at dksX7_minutes_0 5 rfl rfl)
theorem dX7_minutes_6 : decode cX7_minutes 6 = .ok (.iload_n 1, 1) := dk_27 (dk_at dksX7_minutes_0 6 rfl rfl)
theorem dX7_minutes_7 : decode cX7_minutes 7 = .ok (.invokevirtual 346, 3) := dk_182 1 90 (dk_at dksX7_minutes_0 7 rfl rfl)
theorem dX7_minutes_10 : decode cX7_minutes 10 = .ok (.ifCond .eq 11, 3) := dk_153 0 11 (dk_at dksX7_minutes_0 10 rfl rfl)
theorem dX7_minutes_13 : decode cX7_minutes 13 = .ok (.aload_n 0, 1) := dk_42 (dk_at dksX7_minutes_0 13 rfl rfl)
theorem dX7_minutes_14 : decode cX7_minutes 14 = .ok (.iload_n 2, 1) := dk_28 (dk_at dksX7_minutes_0 14 rfl rfl)
theorem dX7_minutes_15 : decode cX7_minutes 15 = .ok (.invokevirtual 349, 3) := dk_182 1 93 (dk_at dksX7_minutes_0 15 rfl rfl)
theorem dX7_minutes_18 : decode cX7_minutes 18 = .ok (.ifCond .ne 9, 3) := dk_154 0 9 (dk_at dksX7_minutes_0 18 rfl rfl)
theorem dX7_minutes_21 : decode cX7_minutes 21 = .ok (.aload_n 0, 1) := dk_42 (dk_at dksX7_minutes_0 21 rfl rfl)
theorem dX7_minutes_22 : decode cX7_minutes 22 = .ok (.iconst 1, 1) := dk_4 (dk_at dksX7_minutes_0 22 rfl rfl)
theorem dX7_minutes_23 : decode cX7_minutes 23 = .ok (.invokevirtual 46, 3) := dk_182 0 46 (dk_at dksX7_minutes_1 0 rfl rfl)
theorem dX7_minutes_26 : decode cX7_minutes 26 = .ok (.ireturn, 1) := dk_172 (dk_at dksX7_minutes_1 3 rfl rfl)
theorem dX7_minutes_27 : decode cX7_minutes 27 = .ok (.aload_n 0, 1) := dk_42 (dk_at dksX7_minutes_1 4 rfl rfl)
theorem dX7_minutes_28 : decode cX7_minutes 28 = .ok (.iload_n 1, 1) := dk_27 (dk_at dksX7_minutes_1 5 rfl rfl)
theorem dX7_minutes_29 : decode cX7_minutes 29 = .ok (.iload_n 3, 1) := dk_29 (dk_at dksX7_minutes_1 6 rfl rfl)
theorem dX7_minutes_30 : decode cX7_minutes 30 = .ok (.invokevirtual 355, 3) := dk_182 1 99 (dk_at dksX7_minutes_1 7 rfl rfl)
theorem dX7_minutes_33 : decode cX7_minutes 33 = .ok (.ifCond .eq 19, 3) := dk_153 0 19 (dk_at dksX7_minutes_1 10 rfl rfl)
theorem dX7_minutes_36 : decode cX7_minutes 36 = .ok (.aload_n 0, 1) := dk_42 (dk_at dksX7_minutes_1 13 rfl rfl)
theorem dX7_minutes_37 : decode cX7_minutes 37 = .ok (.aload_n 0, 1) := dk_42 (dk_at dksX7_minutes_1 14 rfl rfl)
theorem dX7_minutes_38 : decode cX7_minutes 38 = .ok (.getfield 338, 3) := dk_180 1 82 (dk_at dksX7_minutes_1 15 rfl rfl)
theorem dX7_minutes_41 : decode cX7_minutes 41 = .ok (.iload_n 2, 1) := dk_28 (dk_at dksX7_minutes_1 18 rfl rfl)
theorem dX7_minutes_42 : decode cX7_minutes 42 = .ok (.iload_n 3, 1) := dk_29 (dk_at dksX7_minutes_1 19 rfl rfl)
theorem dX7_minutes_43 : decode cX7_minutes 43 = .ok (.invokevirtual 399, 3) := dk_182 1 143 (dk_at dksX7_minutes_1 20 rfl rfl)
theorem dX7_minutes_46 : decode cX7_minutes 46 = .ok (.invokevirtual 50, 3) := dk_182 0 50 (dk_at dksX7_minutes_2 0 rfl rfl)
theorem dX7_minutes_49 : decode cX7_minutes 49 = .ok (.goto 8, 3) := dk_167 0 8 (dk_at dksX7_minutes_2 3 rfl rfl)
theorem dX7_minutes_52 : decode cX7_minutes 52 = .ok (.aload_n 0, 1) := dk_42 (dk_at dksX7_minutes_2 6 rfl rfl)
theorem dX7_minutes_53 : decode cX7_minutes 53 = .ok (.iconst 2, 1) := dk_5 (dk_at dksX7_minutes_2 7 rfl rfl)
theorem dX7_minutes_54 : decode cX7_minutes 54 = .ok (.invokevirtual 46, 3) := dk_182 0 46 (dk_at dksX7_minutes_2 8 rfl rfl)
theorem dX7_minutes_57 : decode cX7_minutes 57 = .ok (.ireturn, 1) := dk_172 (dk_at dksX7_minutes_2 11 rfl rfl)
abbrev cX7_air : ByteArray := prog_19_method_55_code
def yX7_air : MethodName := ⟨RX7, "air", "(III)I"⟩
def dkwX7_air_2 : List UInt8 := [182, 0, 50, 172]
abbrev dktX7_air_2 : List UInt8 := dkwX7_air_2 ++ []
def dkwX7_air_1 : List UInt8 := [182, 1, 96, 154, 0, 9, 42, 4, 182, 1, 146, 172, 42, 42, 180, 1, 82, 27, 28, 29, 182, 1, 105]
abbrev dktX7_air_1 : List UInt8 := dkwX7_air_1 ++ dktX7_air_2
def dkwX7_air_0 : List UInt8 := [42, 3, 181, 0, 40, 42, 27, 182, 1, 93, 153, 0, 20, 28, 3, 4, 184, 0, 118, 153, 0, 11, 42, 29]
abbrev dktX7_air_0 : List UInt8 := dkwX7_air_0 ++ dktX7_air_1
theorem dksX7_air_0 : cX7_air.data.toList.drop 0 = dktX7_air_0 := by decide +kernel
theorem dksX7_air_1 : cX7_air.data.toList.drop 24 = dktX7_air_1 := dk_seg dksX7_air_0 24 rfl rfl
theorem dksX7_air_2 : cX7_air.data.toList.drop 47 = dktX7_air_2 := dk_seg dksX7_air_1 23 rfl rfl
theorem dX7_air_0 : decode cX7_air 0 = .ok (.aload_n 0, 1) := dk_42 (dk_at dksX7_air_0 0 rfl rfl)
theorem dX7_air_1 : decode cX7_air 1 = .ok (.iconst 0, 1) := dk_3 (dk_at dksX7_air_0 1 rfl rfl)
theorem dX7_air_2 : decode cX7_air 2 = .ok (.putfield 40, 3) := dk_181 0 40 (dk_at dksX7_air_0 2 rfl rfl)
theorem dX7_air_5 : decode cX7_air 5 = .ok (.aload_n 0, 1) := dk_42 (dk_at dksX7_air_0 5 rfl rfl)
theorem dX7_air_6 : decode cX7_air 6 = .ok (.iload_n 1, 1) := dk_27 (dk_at dksX7_air_0 6 rfl rfl)
theorem dX7_air_7 : decode cX7_air 7 = .ok (.invokevirtual 349, 3) := dk_182 1 93 (dk_at dksX7_air_0 7 rfl rfl)
theorem dX7_air_10 : decode cX7_air 10 = .ok (.ifCond .eq 20, 3) := dk_153 0 20 (dk_at dksX7_air_0 10 rfl rfl)
theorem dX7_air_13 : decode cX7_air 13 = .ok (.iload_n 2, 1) := dk_28 (dk_at dksX7_air_0 13 rfl rfl)
theorem dX7_air_14 : decode cX7_air 14 = .ok (.iconst 0, 1) := dk_3 (dk_at dksX7_air_0 14 rfl rfl)
theorem dX7_air_15 : decode cX7_air 15 = .ok (.iconst 1, 1) := dk_4 (dk_at dksX7_air_0 15 rfl rfl)
theorem dX7_air_16 : decode cX7_air 16 = .ok (.invokestatic 118, 3) := dk_184 0 118 (dk_at dksX7_air_0 16 rfl rfl)
theorem dX7_air_19 : decode cX7_air 19 = .ok (.ifCond .eq 11, 3) := dk_153 0 11 (dk_at dksX7_air_0 19 rfl rfl)
theorem dX7_air_22 : decode cX7_air 22 = .ok (.aload_n 0, 1) := dk_42 (dk_at dksX7_air_0 22 rfl rfl)
theorem dX7_air_23 : decode cX7_air 23 = .ok (.iload_n 3, 1) := dk_29 (dk_at dksX7_air_0 23 rfl rfl)
theorem dX7_air_24 : decode cX7_air 24 = .ok (.invokevirtual 352, 3) := dk_182 1 96 (dk_at dksX7_air_1 0 rfl rfl)
theorem dX7_air_27 : decode cX7_air 27 = .ok (.ifCond .ne 9, 3) := dk_154 0 9 (dk_at dksX7_air_1 3 rfl rfl)
theorem dX7_air_30 : decode cX7_air 30 = .ok (.aload_n 0, 1) := dk_42 (dk_at dksX7_air_1 6 rfl rfl)
theorem dX7_air_31 : decode cX7_air 31 = .ok (.iconst 1, 1) := dk_4 (dk_at dksX7_air_1 7 rfl rfl)
theorem dX7_air_32 : decode cX7_air 32 = .ok (.invokevirtual 402, 3) := dk_182 1 146 (dk_at dksX7_air_1 8 rfl rfl)
theorem dX7_air_35 : decode cX7_air 35 = .ok (.ireturn, 1) := dk_172 (dk_at dksX7_air_1 11 rfl rfl)
theorem dX7_air_36 : decode cX7_air 36 = .ok (.aload_n 0, 1) := dk_42 (dk_at dksX7_air_1 12 rfl rfl)
theorem dX7_air_37 : decode cX7_air 37 = .ok (.aload_n 0, 1) := dk_42 (dk_at dksX7_air_1 13 rfl rfl)
theorem dX7_air_38 : decode cX7_air 38 = .ok (.getfield 338, 3) := dk_180 1 82 (dk_at dksX7_air_1 14 rfl rfl)
theorem dX7_air_41 : decode cX7_air 41 = .ok (.iload_n 1, 1) := dk_27 (dk_at dksX7_air_1 17 rfl rfl)
theorem dX7_air_42 : decode cX7_air 42 = .ok (.iload_n 2, 1) := dk_28 (dk_at dksX7_air_1 18 rfl rfl)
theorem dX7_air_43 : decode cX7_air 43 = .ok (.iload_n 3, 1) := dk_29 (dk_at dksX7_air_1 19 rfl rfl)
theorem dX7_air_44 : decode cX7_air 44 = .ok (.invokevirtual 361, 3) := dk_182 1 105 (dk_at dksX7_air_1 20 rfl rfl)
theorem dX7_air_47 : decode cX7_air 47 = .ok (.invokevirtual 50, 3) := dk_182 0 50 (dk_at dksX7_air_2 0 rfl rfl)
theorem dX7_air_50 : decode cX7_air 50 = .ok (.ireturn, 1) := dk_172 (dk_at dksX7_air_2 3 rfl rfl)
abbrev cX7_lost : ByteArray := prog_19_method_4_code
def yX7_lost : MethodName := ⟨RX7, "lost", "(I)I"⟩
def dkwX7_lost_0 : List UInt8 := [42, 27, 182, 0, 46, 87, 16, 156, 172]
abbrev dktX7_lost_0 : List UInt8 := dkwX7_lost_0 ++ []
theorem dksX7_lost_0 : cX7_lost.data.toList.drop 0 = dktX7_lost_0 := by decide +kernel
theorem dX7_lost_0 : decode cX7_lost 0 = .ok (.aload_n 0, 1) := dk_42 (dk_at dksX7_lost_0 0 rfl rfl)
theorem dX7_lost_1 : decode cX7_lost 1 = .ok (.iload_n 1, 1) := dk_27 (dk_at dksX7_lost_0 1 rfl rfl)
theorem dX7_lost_2 : decode cX7_lost 2 = .ok (.invokevirtual 46, 3) := dk_182 0 46 (dk_at dksX7_lost_0 2 rfl rfl)
theorem dX7_lost_5 : decode cX7_lost 5 = .ok (.pop, 1) := dk_87 (dk_at dksX7_lost_0 5 rfl rfl)
theorem dX7_lost_6 : decode cX7_lost 6 = .ok (.bipush (-100), 2) := dk_16 156 (dk_at dksX7_lost_0 6 rfl rfl)
theorem dX7_lost_8 : decode cX7_lost 8 = .ok (.ireturn, 1) := dk_172 (dk_at dksX7_lost_0 8 rfl rfl)
abbrev cX7_held : ByteArray := prog_19_method_56_code
def yX7_held : MethodName := ⟨RX7, "held", "(IIIII)I"⟩
def dkwX7_held_3 : List UInt8 := [182, 0, 50, 172]
abbrev dktX7_held_3 : List UInt8 := dkwX7_held_3 ++ []
def dkwX7_held_2 : List UInt8 := [167, 0, 22, 42, 27, 28, 29, 21, 4, 21, 5, 182, 1, 112, 153, 0, 7, 4, 167, 0, 4, 3]
abbrev dktX7_held_2 : List UInt8 := dkwX7_held_2 ++ dktX7_held_3
def dkwX7_held_1 : List UInt8 := [21, 6, 182, 0, 46, 172, 42, 42, 180, 1, 82, 180, 1, 46, 27, 46, 6, 159, 0, 8, 16, 254]
abbrev dktX7_held_1 : List UInt8 := dkwX7_held_1 ++ dktX7_held_2
def dkwX7_held_0 : List UInt8 := [42, 3, 181, 0, 40, 42, 27, 28, 29, 21, 4, 21, 5, 182, 1, 127, 54, 6, 21, 6, 158, 0, 10, 42]
abbrev dktX7_held_0 : List UInt8 := dkwX7_held_0 ++ dktX7_held_1
theorem dksX7_held_0 : cX7_held.data.toList.drop 0 = dktX7_held_0 := by decide +kernel
theorem dksX7_held_1 : cX7_held.data.toList.drop 24 = dktX7_held_1 := dk_seg dksX7_held_0 24 rfl rfl
theorem dksX7_held_2 : cX7_held.data.toList.drop 46 = dktX7_held_2 := dk_seg dksX7_held_1 22 rfl rfl
theorem dksX7_held_3 : cX7_held.data.toList.drop 68 = dktX7_held_3 := dk_seg dksX7_held_2 22 rfl rfl
theorem dX7_held_0 : decode cX7_held 0 = .ok (.aload_n 0, 1) := dk_42 (dk_at dksX7_held_0 0 rfl rfl)
theorem dX7_held_1 : decode cX7_held 1 = .ok (.iconst 0, 1) := dk_3 (dk_at dksX7_held_0 1 rfl rfl)
theorem dX7_held_2 : decode cX7_held 2 = .ok (.putfield 40, 3) := dk_181 0 40 (dk_at dksX7_held_0 2 rfl rfl)
theorem dX7_held_5 : decode cX7_held 5 = .ok (.aload_n 0, 1) := dk_42 (dk_at dksX7_held_0 5 rfl rfl)
theorem dX7_held_6 : decode cX7_held 6 = .ok (.iload_n 1, 1) := dk_27 (dk_at dksX7_held_0 6 rfl rfl)
theorem dX7_held_7 : decode cX7_held 7 = .ok (.iload_n 2, 1) := dk_28 (dk_at dksX7_held_0 7 rfl rfl)
theorem dX7_held_8 : decode cX7_held 8 = .ok (.iload_n 3, 1) := dk_29 (dk_at dksX7_held_0 8 rfl rfl)
theorem dX7_held_9 : decode cX7_held 9 = .ok (.iload 4, 2) := dk_21 4 (dk_at dksX7_held_0 9 rfl rfl)
theorem dX7_held_11 : decode cX7_held 11 = .ok (.iload 5, 2) := dk_21 5 (dk_at dksX7_held_0 11 rfl rfl)
theorem dX7_held_13 : decode cX7_held 13 = .ok (.invokevirtual 383, 3) := dk_182 1 127 (dk_at dksX7_held_0 13 rfl rfl)
theorem dX7_held_16 : decode cX7_held 16 = .ok (.istore 6, 2) := dk_54 6 (dk_at dksX7_held_0 16 rfl rfl)
theorem dX7_held_18 : decode cX7_held 18 = .ok (.iload 6, 2) := dk_21 6 (dk_at dksX7_held_0 18 rfl rfl)
theorem dX7_held_20 : decode cX7_held 20 = .ok (.ifCond .le 10, 3) := dk_158 0 10 (dk_at dksX7_held_0 20 rfl rfl)
theorem dX7_held_23 : decode cX7_held 23 = .ok (.aload_n 0, 1) := dk_42 (dk_at dksX7_held_0 23 rfl rfl)
theorem dX7_held_24 : decode cX7_held 24 = .ok (.iload 6, 2) := dk_21 6 (dk_at dksX7_held_1 0 rfl rfl)
theorem dX7_held_26 : decode cX7_held 26 = .ok (.invokevirtual 46, 3) := dk_182 0 46 (dk_at dksX7_held_1 2 rfl rfl)
theorem dX7_held_29 : decode cX7_held 29 = .ok (.ireturn, 1) := dk_172 (dk_at dksX7_held_1 5 rfl rfl)
theorem dX7_held_30 : decode cX7_held 30 = .ok (.aload_n 0, 1) := dk_42 (dk_at dksX7_held_1 6 rfl rfl)
theorem dX7_held_31 : decode cX7_held 31 = .ok (.aload_n 0, 1) := dk_42 (dk_at dksX7_held_1 7 rfl rfl)
theorem dX7_held_32 : decode cX7_held 32 = .ok (.getfield 338, 3) := dk_180 1 82 (dk_at dksX7_held_1 8 rfl rfl)
theorem dX7_held_35 : decode cX7_held 35 = .ok (.getfield 302, 3) := dk_180 1 46 (dk_at dksX7_held_1 11 rfl rfl)
theorem dX7_held_38 : decode cX7_held 38 = .ok (.iload_n 1, 1) := dk_27 (dk_at dksX7_held_1 14 rfl rfl)
theorem dX7_held_39 : decode cX7_held 39 = .ok (.iaload, 1) := dk_46 (dk_at dksX7_held_1 15 rfl rfl)
theorem dX7_held_40 : decode cX7_held 40 = .ok (.iconst 3, 1) := dk_6 (dk_at dksX7_held_1 16 rfl rfl)
theorem dX7_held_41 : decode cX7_held 41 = .ok (.if_icmp .eq 8, 3) := dk_159 0 8 (dk_at dksX7_held_1 17 rfl rfl)
theorem dX7_held_44 : decode cX7_held 44 = .ok (.bipush (-2), 2) := dk_16 254 (dk_at dksX7_held_1 20 rfl rfl)
theorem dX7_held_46 : decode cX7_held 46 = .ok (.goto 22, 3) := dk_167 0 22 (dk_at dksX7_held_2 0 rfl rfl)
theorem dX7_held_49 : decode cX7_held 49 = .ok (.aload_n 0, 1) := dk_42 (dk_at dksX7_held_2 3 rfl rfl)
theorem dX7_held_50 : decode cX7_held 50 = .ok (.iload_n 1, 1) := dk_27 (dk_at dksX7_held_2 4 rfl rfl)
theorem dX7_held_51 : decode cX7_held 51 = .ok (.iload_n 2, 1) := dk_28 (dk_at dksX7_held_2 5 rfl rfl)
theorem dX7_held_52 : decode cX7_held 52 = .ok (.iload_n 3, 1) := dk_29 (dk_at dksX7_held_2 6 rfl rfl)
theorem dX7_held_53 : decode cX7_held 53 = .ok (.iload 4, 2) := dk_21 4 (dk_at dksX7_held_2 7 rfl rfl)
theorem dX7_held_55 : decode cX7_held 55 = .ok (.iload 5, 2) := dk_21 5 (dk_at dksX7_held_2 9 rfl rfl)
theorem dX7_held_57 : decode cX7_held 57 = .ok (.invokevirtual 368, 3) := dk_182 1 112 (dk_at dksX7_held_2 11 rfl rfl)
theorem dX7_held_60 : decode cX7_held 60 = .ok (.ifCond .eq 7, 3) := dk_153 0 7 (dk_at dksX7_held_2 14 rfl rfl)
theorem dX7_held_63 : decode cX7_held 63 = .ok (.iconst 1, 1) := dk_4 (dk_at dksX7_held_2 17 rfl rfl)
theorem dX7_held_64 : decode cX7_held 64 = .ok (.goto 4, 3) := dk_167 0 4 (dk_at dksX7_held_2 18 rfl rfl)
theorem dX7_held_67 : decode cX7_held 67 = .ok (.iconst 0, 1) := dk_3 (dk_at dksX7_held_2 21 rfl rfl)
theorem dX7_held_68 : decode cX7_held 68 = .ok (.invokevirtual 50, 3) := dk_182 0 50 (dk_at dksX7_held_3 0 rfl rfl)
theorem dX7_held_71 : decode cX7_held 71 = .ok (.ireturn, 1) := dk_172 (dk_at dksX7_held_3 3 rfl rfl)
abbrev cX7_best : ByteArray := prog_19_method_58_code
def yX7_best : MethodName := ⟨RX7, "best", "(IIII)I"⟩
def dkwX7_best_2 : List UInt8 := [28, 29, 21, 4, 182, 1, 149, 182, 0, 50, 172]
abbrev dktX7_best_2 : List UInt8 := dkwX7_best_2 ++ []
def dkwX7_best_1 : List UInt8 := [184, 0, 118, 153, 0, 12, 42, 21, 4, 182, 1, 96, 154, 0, 9, 42, 4, 182, 0, 46, 172, 42, 42, 27]
abbrev dktX7_best_1 : List UInt8 := dkwX7_best_1 ++ dktX7_best_2
def dkwX7_best_0 : List UInt8 := [42, 3, 181, 0, 40, 42, 27, 182, 1, 90, 153, 0, 29, 42, 28, 182, 1, 93, 153, 0, 21, 29, 3, 4]
abbrev dktX7_best_0 : List UInt8 := dkwX7_best_0 ++ dktX7_best_1
theorem dksX7_best_0 : cX7_best.data.toList.drop 0 = dktX7_best_0 := by decide +kernel
theorem dksX7_best_1 : cX7_best.data.toList.drop 24 = dktX7_best_1 := dk_seg dksX7_best_0 24 rfl rfl
theorem dksX7_best_2 : cX7_best.data.toList.drop 48 = dktX7_best_2 := dk_seg dksX7_best_1 24 rfl rfl
theorem dX7_best_0 : decode cX7_best 0 = .ok (.aload_n 0, 1) := dk_42 (dk_at dksX7_best_0 0 rfl rfl)
theorem dX7_best_1 : decode cX7_best 1 = .ok (.iconst 0, 1) := dk_3 (dk_at dksX7_best_0 1 rfl rfl)
theorem dX7_best_2 : decode cX7_best 2 = .ok (.putfield 40, 3) := dk_181 0 40 (dk_at dksX7_best_0 2 rfl rfl)
theorem dX7_best_5 : decode cX7_best 5 = .ok (.aload_n 0, 1) := dk_42 (dk_at dksX7_best_0 5 rfl rfl)
theorem dX7_best_6 : decode cX7_best 6 = .ok (.iload_n 1, 1) := dk_27 (dk_at dksX7_best_0 6 rfl rfl)
theorem dX7_best_7 : decode cX7_best 7 = .ok (.invokevirtual 346, 3) := dk_182 1 90 (dk_at dksX7_best_0 7 rfl rfl)
theorem dX7_best_10 : decode cX7_best 10 = .ok (.ifCond .eq 29, 3) := dk_153 0 29 (dk_at dksX7_best_0 10 rfl rfl)
theorem dX7_best_13 : decode cX7_best 13 = .ok (.aload_n 0, 1) := dk_42 (dk_at dksX7_best_0 13 rfl rfl)
theorem dX7_best_14 : decode cX7_best 14 = .ok (.iload_n 2, 1) := dk_28 (dk_at dksX7_best_0 14 rfl rfl)
theorem dX7_best_15 : decode cX7_best 15 = .ok (.invokevirtual 349, 3) := dk_182 1 93 (dk_at dksX7_best_0 15 rfl rfl)
theorem dX7_best_18 : decode cX7_best 18 = .ok (.ifCond .eq 21, 3) := dk_153 0 21 (dk_at dksX7_best_0 18 rfl rfl)
theorem dX7_best_21 : decode cX7_best 21 = .ok (.iload_n 3, 1) := dk_29 (dk_at dksX7_best_0 21 rfl rfl)
theorem dX7_best_22 : decode cX7_best 22 = .ok (.iconst 0, 1) := dk_3 (dk_at dksX7_best_0 22 rfl rfl)
theorem dX7_best_23 : decode cX7_best 23 = .ok (.iconst 1, 1) := dk_4 (dk_at dksX7_best_0 23 rfl rfl)
theorem dX7_best_24 : decode cX7_best 24 = .ok (.invokestatic 118, 3) := dk_184 0 118 (dk_at dksX7_best_1 0 rfl rfl)
theorem dX7_best_27 : decode cX7_best 27 = .ok (.ifCond .eq 12, 3) := dk_153 0 12 (dk_at dksX7_best_1 3 rfl rfl)
theorem dX7_best_30 : decode cX7_best 30 = .ok (.aload_n 0, 1) := dk_42 (dk_at dksX7_best_1 6 rfl rfl)
theorem dX7_best_31 : decode cX7_best 31 = .ok (.iload 4, 2) := dk_21 4 (dk_at dksX7_best_1 7 rfl rfl)
theorem dX7_best_33 : decode cX7_best 33 = .ok (.invokevirtual 352, 3) := dk_182 1 96 (dk_at dksX7_best_1 9 rfl rfl)
theorem dX7_best_36 : decode cX7_best 36 = .ok (.ifCond .ne 9, 3) := dk_154 0 9 (dk_at dksX7_best_1 12 rfl rfl)
theorem dX7_best_39 : decode cX7_best 39 = .ok (.aload_n 0, 1) := dk_42 (dk_at dksX7_best_1 15 rfl rfl)
theorem dX7_best_40 : decode cX7_best 40 = .ok (.iconst 1, 1) := dk_4 (dk_at dksX7_best_1 16 rfl rfl)
theorem dX7_best_41 : decode cX7_best 41 = .ok (.invokevirtual 46, 3) := dk_182 0 46 (dk_at dksX7_best_1 17 rfl rfl)
theorem dX7_best_44 : decode cX7_best 44 = .ok (.ireturn, 1) := dk_172 (dk_at dksX7_best_1 20 rfl rfl)
theorem dX7_best_45 : decode cX7_best 45 = .ok (.aload_n 0, 1) := dk_42 (dk_at dksX7_best_1 21 rfl rfl)
theorem dX7_best_46 : decode cX7_best 46 = .ok (.aload_n 0, 1) := dk_42 (dk_at dksX7_best_1 22 rfl rfl)
theorem dX7_best_47 : decode cX7_best 47 = .ok (.iload_n 1, 1) := dk_27 (dk_at dksX7_best_1 23 rfl rfl)
theorem dX7_best_48 : decode cX7_best 48 = .ok (.iload_n 2, 1) := dk_28 (dk_at dksX7_best_2 0 rfl rfl)
theorem dX7_best_49 : decode cX7_best 49 = .ok (.iload_n 3, 1) := dk_29 (dk_at dksX7_best_2 1 rfl rfl)
theorem dX7_best_50 : decode cX7_best 50 = .ok (.iload 4, 2) := dk_21 4 (dk_at dksX7_best_2 2 rfl rfl)
theorem dX7_best_52 : decode cX7_best 52 = .ok (.invokevirtual 405, 3) := dk_182 1 149 (dk_at dksX7_best_2 4 rfl rfl)
theorem dX7_best_55 : decode cX7_best 55 = .ok (.invokevirtual 50, 3) := dk_182 0 50 (dk_at dksX7_best_2 7 rfl rfl)
theorem dX7_best_58 : decode cX7_best 58 = .ok (.ireturn, 1) := dk_172 (dk_at dksX7_best_2 10 rfl rfl)
abbrev cX7_bestOf : ByteArray := prog_19_method_57_code
def yX7_bestOf : MethodName := ⟨RX7, "bestOf", "(IIII)I"⟩
def dkwX7_bestOf_2 : List UInt8 := [21, 4, 21, 5, 182, 1, 137, 148, 156, 0, 7, 21, 6, 54, 5, 132, 6, 1, 167, 255, 209, 21, 5, 172]
abbrev dktX7_bestOf_2 : List UInt8 := dkwX7_bestOf_2 ++ []
def dkwX7_bestOf_1 : List UInt8 := [180, 1, 64, 27, 46, 163, 0, 39, 42, 27, 28, 29, 21, 4, 21, 6, 182, 1, 137, 42, 27, 28, 29]
abbrev dktX7_bestOf_1 : List UInt8 := dkwX7_bestOf_1 ++ dktX7_bestOf_2
def dkwX7_bestOf_0 : List UInt8 := [42, 180, 1, 82, 180, 1, 61, 27, 46, 54, 5, 21, 5, 4, 96, 54, 6, 21, 6, 42, 180, 1, 82]
abbrev dktX7_bestOf_0 : List UInt8 := dkwX7_bestOf_0 ++ dktX7_bestOf_1
theorem dksX7_bestOf_0 : cX7_bestOf.data.toList.drop 0 = dktX7_bestOf_0 := by decide +kernel
theorem dksX7_bestOf_1 : cX7_bestOf.data.toList.drop 23 = dktX7_bestOf_1 := dk_seg dksX7_bestOf_0 23 rfl rfl
theorem dksX7_bestOf_2 : cX7_bestOf.data.toList.drop 46 = dktX7_bestOf_2 := dk_seg dksX7_bestOf_1 23 rfl rfl
theorem dX7_bestOf_0 : decode cX7_bestOf 0 = .ok (.aload_n 0, 1) := dk_42 (dk_at dksX7_bestOf_0 0 rfl rfl)
theorem dX7_bestOf_1 : decode cX7_bestOf 1 = .ok (.getfield 338, 3) := dk_180 1 82 (dk_at dksX7_bestOf_0 1 rfl rfl)
theorem dX7_bestOf_4 : decode cX7_bestOf 4 = .ok (.getfield 317, 3) := dk_180 1 61 (dk_at dksX7_bestOf_0 4 rfl rfl)
theorem dX7_bestOf_7 : decode cX7_bestOf 7 = .ok (.iload_n 1, 1) := dk_27 (dk_at dksX7_bestOf_0 7 rfl rfl)
theorem dX7_bestOf_8 : decode cX7_bestOf 8 = .ok (.iaload, 1) := dk_46 (dk_at dksX7_bestOf_0 8 rfl rfl)
theorem dX7_bestOf_9 : decode cX7_bestOf 9 = .ok (.istore 5, 2) := dk_54 5 (dk_at dksX7_bestOf_0 9 rfl rfl)
theorem dX7_bestOf_11 : decode cX7_bestOf 11 = .ok (.iload 5, 2) := dk_21 5 (dk_at dksX7_bestOf_0 11 rfl rfl)
theorem dX7_bestOf_13 : decode cX7_bestOf 13 = .ok (.iconst 1, 1) := dk_4 (dk_at dksX7_bestOf_0 13 rfl rfl)
theorem dX7_bestOf_14 : decode cX7_bestOf 14 = .ok (.iadd, 1) := dk_96 (dk_at dksX7_bestOf_0 14 rfl rfl)
theorem dX7_bestOf_15 : decode cX7_bestOf 15 = .ok (.istore 6, 2) := dk_54 6 (dk_at dksX7_bestOf_0 15 rfl rfl)
theorem dX7_bestOf_17 : decode cX7_bestOf 17 = .ok (.iload 6, 2) := dk_21 6 (dk_at dksX7_bestOf_0 17 rfl rfl)
theorem dX7_bestOf_19 : decode cX7_bestOf 19 = .ok (.aload_n 0, 1) := dk_42 (dk_at dksX7_bestOf_0 19 rfl rfl)
theorem dX7_bestOf_20 : decode cX7_bestOf 20 = .ok (.getfield 338, 3) := dk_180 1 82 (dk_at dksX7_bestOf_0 20 rfl rfl)
theorem dX7_bestOf_23 : decode cX7_bestOf 23 = .ok (.getfield 320, 3) := dk_180 1 64 (dk_at dksX7_bestOf_1 0 rfl rfl)
theorem dX7_bestOf_26 : decode cX7_bestOf 26 = .ok (.iload_n 1, 1) := dk_27 (dk_at dksX7_bestOf_1 3 rfl rfl)
theorem dX7_bestOf_27 : decode cX7_bestOf 27 = .ok (.iaload, 1) := dk_46 (dk_at dksX7_bestOf_1 4 rfl rfl)
theorem dX7_bestOf_28 : decode cX7_bestOf 28 = .ok (.if_icmp .gt 39, 3) := dk_163 0 39 (dk_at dksX7_bestOf_1 5 rfl rfl)
theorem dX7_bestOf_31 : decode cX7_bestOf 31 = .ok (.aload_n 0, 1) := dk_42 (dk_at dksX7_bestOf_1 8 rfl rfl)
theorem dX7_bestOf_32 : decode cX7_bestOf 32 = .ok (.iload_n 1, 1) := dk_27 (dk_at dksX7_bestOf_1 9 rfl rfl)
theorem dX7_bestOf_33 : decode cX7_bestOf 33 = .ok (.iload_n 2, 1) := dk_28 (dk_at dksX7_bestOf_1 10 rfl rfl)
theorem dX7_bestOf_34 : decode cX7_bestOf 34 = .ok (.iload_n 3, 1) := dk_29 (dk_at dksX7_bestOf_1 11 rfl rfl)
theorem dX7_bestOf_35 : decode cX7_bestOf 35 = .ok (.iload 4, 2) := dk_21 4 (dk_at dksX7_bestOf_1 12 rfl rfl)
theorem dX7_bestOf_37 : decode cX7_bestOf 37 = .ok (.iload 6, 2) := dk_21 6 (dk_at dksX7_bestOf_1 14 rfl rfl)
theorem dX7_bestOf_39 : decode cX7_bestOf 39 = .ok (.invokevirtual 393, 3) := dk_182 1 137 (dk_at dksX7_bestOf_1 16 rfl rfl)
theorem dX7_bestOf_42 : decode cX7_bestOf 42 = .ok (.aload_n 0, 1) := dk_42 (dk_at dksX7_bestOf_1 19 rfl rfl)
theorem dX7_bestOf_43 : decode cX7_bestOf 43 = .ok (.iload_n 1, 1) := dk_27 (dk_at dksX7_bestOf_1 20 rfl rfl)
theorem dX7_bestOf_44 : decode cX7_bestOf 44 = .ok (.iload_n 2, 1) := dk_28 (dk_at dksX7_bestOf_1 21 rfl rfl)
theorem dX7_bestOf_45 : decode cX7_bestOf 45 = .ok (.iload_n 3, 1) := dk_29 (dk_at dksX7_bestOf_1 22 rfl rfl)
theorem dX7_bestOf_46 : decode cX7_bestOf 46 = .ok (.iload 4, 2) := dk_21 4 (dk_at dksX7_bestOf_2 0 rfl rfl)
theorem dX7_bestOf_48 : decode cX7_bestOf 48 = .ok (.iload 5, 2) := dk_21 5 (dk_at dksX7_bestOf_2 2 rfl rfl)
theorem dX7_bestOf_50 : decode cX7_bestOf 50 = .ok (.invokevirtual 393, 3) := dk_182 1 137 (dk_at dksX7_bestOf_2 4 rfl rfl)
theorem dX7_bestOf_53 : decode cX7_bestOf 53 = .ok (.lcmp, 1) := dk_148 (dk_at dksX7_bestOf_2 7 rfl rfl)
theorem dX7_bestOf_54 : decode cX7_bestOf 54 = .ok (.ifCond .ge 7, 3) := dk_156 0 7 (dk_at dksX7_bestOf_2 8 rfl rfl)
theorem dX7_bestOf_57 : decode cX7_bestOf 57 = .ok (.iload 6, 2) := dk_21 6 (dk_at dksX7_bestOf_2 11 rfl rfl)
theorem dX7_bestOf_59 : decode cX7_bestOf 59 = .ok (.istore 5, 2) := dk_54 5 (dk_at dksX7_bestOf_2 13 rfl rfl)
theorem dX7_bestOf_61 : decode cX7_bestOf 61 = .ok (.iinc 6 1, 3) := dk_132 6 1 (dk_at dksX7_bestOf_2 15 rfl rfl)
theorem dX7_bestOf_64 : decode cX7_bestOf 64 = .ok (.goto (-47), 3) := dk_167 255 209 (dk_at dksX7_bestOf_2 18 rfl rfl)
theorem dX7_bestOf_67 : decode cX7_bestOf 67 = .ok (.iload 5, 2) := dk_21 5 (dk_at dksX7_bestOf_2 21 rfl rfl)
theorem dX7_bestOf_69 : decode cX7_bestOf 69 = .ok (.ireturn, 1) := dk_172 (dk_at dksX7_bestOf_2 23 rfl rfl)
abbrev cX7_saves : ByteArray := prog_19_method_59_code
def yX7_saves : MethodName := ⟨RX7, "saves", "(IIIIZ)J"⟩
def dkwX7_saves_3 : List UInt8 := [27, 28, 29, 21, 4, 182, 1, 149, 182, 1, 137, 101, 20, 1, 131, 21, 5, 182, 1, 133, 173]
abbrev dktX7_saves_3 : List UInt8 := dkwX7_saves_3 ++ []
def dkwX7_saves_2 : List UInt8 := [27, 28, 29, 21, 4, 42, 180, 1, 82, 180, 1, 61, 27, 46, 182, 1, 137, 42, 27, 28, 29, 21, 4, 42]
abbrev dktX7_saves_2 : List UInt8 := dkwX7_saves_2 ++ dktX7_saves_3
def dkwX7_saves_1 : List UInt8 := [184, 0, 118, 153, 0, 12, 42, 21, 4, 182, 1, 96, 154, 0, 10, 42, 4, 182, 0, 46, 133, 173, 42, 42]
abbrev dktX7_saves_1 : List UInt8 := dkwX7_saves_1 ++ dktX7_saves_2
def dkwX7_saves_0 : List UInt8 := [42, 3, 181, 0, 40, 42, 27, 182, 1, 90, 153, 0, 29, 42, 28, 182, 1, 93, 153, 0, 21, 29, 3, 4]
abbrev dktX7_saves_0 : List UInt8 := dkwX7_saves_0 ++ dktX7_saves_1
theorem dksX7_saves_0 : cX7_saves.data.toList.drop 0 = dktX7_saves_0 := by decide +kernel
theorem dksX7_saves_1 : cX7_saves.data.toList.drop 24 = dktX7_saves_1 := dk_seg dksX7_saves_0 24 rfl rfl
theorem dksX7_saves_2 : cX7_saves.data.toList.drop 48 = dktX7_saves_2 := dk_seg dksX7_saves_1 24 rfl rfl
theorem dksX7_saves_3 : cX7_saves.data.toList.drop 72 = dktX7_saves_3 := dk_seg dksX7_saves_2 24 rfl rfl
theorem dX7_saves_0 : decode cX7_saves 0 = .ok (.aload_n 0, 1) := dk_42 (dk_at dksX7_saves_0 0 rfl rfl)
theorem dX7_saves_1 : decode cX7_saves 1 = .ok (.iconst 0, 1) := dk_3 (dk_at dksX7_saves_0 1 rfl rfl)
theorem dX7_saves_2 : decode cX7_saves 2 = .ok (.putfield 40, 3) := dk_181 0 40 (dk_at dksX7_saves_0 2 rfl rfl)
theorem dX7_saves_5 : decode cX7_saves 5 = .ok (.aload_n 0, 1) := dk_42 (dk_at dksX7_saves_0 5 rfl rfl)
theorem dX7_saves_6 : decode cX7_saves 6 = .ok (.iload_n 1, 1) := dk_27 (dk_at dksX7_saves_0 6 rfl rfl)
theorem dX7_saves_7 : decode cX7_saves 7 = .ok (.invokevirtual 346, 3) := dk_182 1 90 (dk_at dksX7_saves_0 7 rfl rfl)
theorem dX7_saves_10 : decode cX7_saves 10 = .ok (.ifCond .eq 29, 3) := dk_153 0 29 (dk_at dksX7_saves_0 10 rfl rfl)
theorem dX7_saves_13 : decode cX7_saves 13 = .ok (.aload_n 0, 1) := dk_42 (dk_at dksX7_saves_0 13 rfl rfl)
theorem dX7_saves_14 : decode cX7_saves 14 = .ok (.iload_n 2, 1) := dk_28 (dk_at dksX7_saves_0 14 rfl rfl)
theorem dX7_saves_15 : decode cX7_saves 15 = .ok (.invokevirtual 349, 3) := dk_182 1 93 (dk_at dksX7_saves_0 15 rfl rfl)
theorem dX7_saves_18 : decode cX7_saves 18 = .ok (.ifCond .eq 21, 3) := dk_153 0 21 (dk_at dksX7_saves_0 18 rfl rfl)
theorem dX7_saves_21 : decode cX7_saves 21 = .ok (.iload_n 3, 1) := dk_29 (dk_at dksX7_saves_0 21 rfl rfl)
theorem dX7_saves_22 : decode cX7_saves 22 = .ok (.iconst 0, 1) := dk_3 (dk_at dksX7_saves_0 22 rfl rfl)
theorem dX7_saves_23 : decode cX7_saves 23 = .ok (.iconst 1, 1) := dk_4 (dk_at dksX7_saves_0 23 rfl rfl)
theorem dX7_saves_24 : decode cX7_saves 24 = .ok (.invokestatic 118, 3) := dk_184 0 118 (dk_at dksX7_saves_1 0 rfl rfl)
theorem dX7_saves_27 : decode cX7_saves 27 = .ok (.ifCond .eq 12, 3) := dk_153 0 12 (dk_at dksX7_saves_1 3 rfl rfl)
theorem dX7_saves_30 : decode cX7_saves 30 = .ok (.aload_n 0, 1) := dk_42 (dk_at dksX7_saves_1 6 rfl rfl)
theorem dX7_saves_31 : decode cX7_saves 31 = .ok (.iload 4, 2) := dk_21 4 (dk_at dksX7_saves_1 7 rfl rfl)
theorem dX7_saves_33 : decode cX7_saves 33 = .ok (.invokevirtual 352, 3) := dk_182 1 96 (dk_at dksX7_saves_1 9 rfl rfl)
theorem dX7_saves_36 : decode cX7_saves 36 = .ok (.ifCond .ne 10, 3) := dk_154 0 10 (dk_at dksX7_saves_1 12 rfl rfl)
theorem dX7_saves_39 : decode cX7_saves 39 = .ok (.aload_n 0, 1) := dk_42 (dk_at dksX7_saves_1 15 rfl rfl)
theorem dX7_saves_40 : decode cX7_saves 40 = .ok (.iconst 1, 1) := dk_4 (dk_at dksX7_saves_1 16 rfl rfl)
theorem dX7_saves_41 : decode cX7_saves 41 = .ok (.invokevirtual 46, 3) := dk_182 0 46 (dk_at dksX7_saves_1 17 rfl rfl)
theorem dX7_saves_44 : decode cX7_saves 44 = .ok (.i2l, 1) := dk_133 (dk_at dksX7_saves_1 20 rfl rfl)
theorem dX7_saves_45 : decode cX7_saves 45 = .ok (.lreturn, 1) := dk_173 (dk_at dksX7_saves_1 21 rfl rfl)
theorem dX7_saves_46 : decode cX7_saves 46 = .ok (.aload_n 0, 1) := dk_42 (dk_at dksX7_saves_1 22 rfl rfl)
theorem dX7_saves_47 : decode cX7_saves 47 = .ok (.aload_n 0, 1) := dk_42 (dk_at dksX7_saves_1 23 rfl rfl)
theorem dX7_saves_48 : decode cX7_saves 48 = .ok (.iload_n 1, 1) := dk_27 (dk_at dksX7_saves_2 0 rfl rfl)
theorem dX7_saves_49 : decode cX7_saves 49 = .ok (.iload_n 2, 1) := dk_28 (dk_at dksX7_saves_2 1 rfl rfl)
theorem dX7_saves_50 : decode cX7_saves 50 = .ok (.iload_n 3, 1) := dk_29 (dk_at dksX7_saves_2 2 rfl rfl)
theorem dX7_saves_51 : decode cX7_saves 51 = .ok (.iload 4, 2) := dk_21 4 (dk_at dksX7_saves_2 3 rfl rfl)
theorem dX7_saves_53 : decode cX7_saves 53 = .ok (.aload_n 0, 1) := dk_42 (dk_at dksX7_saves_2 5 rfl rfl)
theorem dX7_saves_54 : decode cX7_saves 54 = .ok (.getfield 338, 3) := dk_180 1 82 (dk_at dksX7_saves_2 6 rfl rfl)
theorem dX7_saves_57 : decode cX7_saves 57 = .ok (.getfield 317, 3) := dk_180 1 61 (dk_at dksX7_saves_2 9 rfl rfl)
theorem dX7_saves_60 : decode cX7_saves 60 = .ok (.iload_n 1, 1) := dk_27 (dk_at dksX7_saves_2 12 rfl rfl)
theorem dX7_saves_61 : decode cX7_saves 61 = .ok (.iaload, 1) := dk_46 (dk_at dksX7_saves_2 13 rfl rfl)
theorem dX7_saves_62 : decode cX7_saves 62 = .ok (.invokevirtual 393, 3) := dk_182 1 137 (dk_at dksX7_saves_2 14 rfl rfl)
theorem dX7_saves_65 : decode cX7_saves 65 = .ok (.aload_n 0, 1) := dk_42 (dk_at dksX7_saves_2 17 rfl rfl)
theorem dX7_saves_66 : decode cX7_saves 66 = .ok (.iload_n 1, 1) := dk_27 (dk_at dksX7_saves_2 18 rfl rfl)
theorem dX7_saves_67 : decode cX7_saves 67 = .ok (.iload_n 2, 1) := dk_28 (dk_at dksX7_saves_2 19 rfl rfl)
theorem dX7_saves_68 : decode cX7_saves 68 = .ok (.iload_n 3, 1) := dk_29 (dk_at dksX7_saves_2 20 rfl rfl)
theorem dX7_saves_69 : decode cX7_saves 69 = .ok (.iload 4, 2) := dk_21 4 (dk_at dksX7_saves_2 21 rfl rfl)
theorem dX7_saves_71 : decode cX7_saves 71 = .ok (.aload_n 0, 1) := dk_42 (dk_at dksX7_saves_2 23 rfl rfl)
theorem dX7_saves_72 : decode cX7_saves 72 = .ok (.iload_n 1, 1) := dk_27 (dk_at dksX7_saves_3 0 rfl rfl)
theorem dX7_saves_73 : decode cX7_saves 73 = .ok (.iload_n 2, 1) := dk_28 (dk_at dksX7_saves_3 1 rfl rfl)
theorem dX7_saves_74 : decode cX7_saves 74 = .ok (.iload_n 3, 1) := dk_29 (dk_at dksX7_saves_3 2 rfl rfl)
theorem dX7_saves_75 : decode cX7_saves 75 = .ok (.iload 4, 2) := dk_21 4 (dk_at dksX7_saves_3 3 rfl rfl)
theorem dX7_saves_77 : decode cX7_saves 77 = .ok (.invokevirtual 405, 3) := dk_182 1 149 (dk_at dksX7_saves_3 5 rfl rfl)
theorem dX7_saves_80 : decode cX7_saves 80 = .ok (.invokevirtual 393, 3) := dk_182 1 137 (dk_at dksX7_saves_3 8 rfl rfl)
theorem dX7_saves_83 : decode cX7_saves 83 = .ok (.lsub, 1) := dk_101 (dk_at dksX7_saves_3 11 rfl rfl)
theorem dX7_saves_84 : decode cX7_saves 84 = .ok (.ldc2_w 387, 3) := dk_20 1 131 (dk_at dksX7_saves_3 12 rfl rfl)
theorem dX7_saves_87 : decode cX7_saves 87 = .ok (.iload 5, 2) := dk_21 5 (dk_at dksX7_saves_3 15 rfl rfl)
theorem dX7_saves_89 : decode cX7_saves 89 = .ok (.invokevirtual 389, 3) := dk_182 1 133 (dk_at dksX7_saves_3 17 rfl rfl)
theorem dX7_saves_92 : decode cX7_saves 92 = .ok (.lreturn, 1) := dk_173 (dk_at dksX7_saves_3 20 rfl rfl)
abbrev cX7_worst : ByteArray := prog_19_method_60_code
def yX7_worst : MethodName := ⟨RX7, "worst", "(IIII)I"⟩
def dkwX7_worst_5 : List UInt8 := [182, 0, 50, 172]
abbrev dktX7_worst_5 : List UInt8 := dkwX7_worst_5 ++ []
def dkwX7_worst_4 : List UInt8 := [21, 4, 21, 5, 182, 1, 137, 148, 158, 0, 7, 21, 6, 54, 5, 132, 6, 1, 167, 255, 209, 42, 21, 5]
abbrev dktX7_worst_4 : List UInt8 := dkwX7_worst_4 ++ dktX7_worst_5
def dkwX7_worst_3 : List UInt8 := [180, 1, 64, 27, 46, 163, 0, 39, 42, 27, 28, 29, 21, 4, 21, 6, 182, 1, 137, 42, 27, 28, 29]
abbrev dktX7_worst_3 : List UInt8 := dkwX7_worst_3 ++ dktX7_worst_4
def dkwX7_worst_2 : List UInt8 := [180, 1, 82, 180, 1, 61, 27, 46, 54, 5, 21, 5, 4, 96, 54, 6, 21, 6, 42, 180, 1, 82]
abbrev dktX7_worst_2 : List UInt8 := dkwX7_worst_2 ++ dktX7_worst_3
def dkwX7_worst_1 : List UInt8 := [184, 0, 118, 153, 0, 12, 42, 21, 4, 182, 1, 96, 154, 0, 9, 42, 4, 182, 0, 46, 172, 42]
abbrev dktX7_worst_1 : List UInt8 := dkwX7_worst_1 ++ dktX7_worst_2
def dkwX7_worst_0 : List UInt8 := [42, 3, 181, 0, 40, 42, 27, 182, 1, 90, 153, 0, 29, 42, 28, 182, 1, 93, 153, 0, 21, 29, 3, 4]
abbrev dktX7_worst_0 : List UInt8 := dkwX7_worst_0 ++ dktX7_worst_1
theorem dksX7_worst_0 : cX7_worst.data.toList.drop 0 = dktX7_worst_0 := by decide +kernel
theorem dksX7_worst_1 : cX7_worst.data.toList.drop 24 = dktX7_worst_1 := dk_seg dksX7_worst_0 24 rfl rfl
theorem dksX7_worst_2 : cX7_worst.data.toList.drop 46 = dktX7_worst_2 := dk_seg dksX7_worst_1 22 rfl rfl
theorem dksX7_worst_3 : cX7_worst.data.toList.drop 68 = dktX7_worst_3 := dk_seg dksX7_worst_2 22 rfl rfl
theorem dksX7_worst_4 : cX7_worst.data.toList.drop 91 = dktX7_worst_4 := dk_seg dksX7_worst_3 23 rfl rfl
theorem dksX7_worst_5 : cX7_worst.data.toList.drop 115 = dktX7_worst_5 := dk_seg dksX7_worst_4 24 rfl rfl
theorem dX7_worst_0 : decode cX7_worst 0 = .ok (.aload_n 0, 1) := dk_42 (dk_at dksX7_worst_0 0 rfl rfl)
theorem dX7_worst_1 : decode cX7_worst 1 = .ok (.iconst 0, 1) := dk_3 (dk_at dksX7_worst_0 1 rfl rfl)
theorem dX7_worst_2 : decode cX7_worst 2 = .ok (.putfield 40, 3) := dk_181 0 40 (dk_at dksX7_worst_0 2 rfl rfl)
theorem dX7_worst_5 : decode cX7_worst 5 = .ok (.aload_n 0, 1) := dk_42 (dk_at dksX7_worst_0 5 rfl rfl)
theorem dX7_worst_6 : decode cX7_worst 6 = .ok (.iload_n 1, 1) := dk_27 (dk_at dksX7_worst_0 6 rfl rfl)
theorem dX7_worst_7 : decode cX7_worst 7 = .ok (.invokevirtual 346, 3) := dk_182 1 90 (dk_at dksX7_worst_0 7 rfl rfl)
theorem dX7_worst_10 : decode cX7_worst 10 = .ok (.ifCond .eq 29, 3) := dk_153 0 29 (dk_at dksX7_worst_0 10 rfl rfl)
theorem dX7_worst_13 : decode cX7_worst 13 = .ok (.aload_n 0, 1) := dk_42 (dk_at dksX7_worst_0 13 rfl rfl)
theorem dX7_worst_14 : decode cX7_worst 14 = .ok (.iload_n 2, 1) := dk_28 (dk_at dksX7_worst_0 14 rfl rfl)
theorem dX7_worst_15 : decode cX7_worst 15 = .ok (.invokevirtual 349, 3) := dk_182 1 93 (dk_at dksX7_worst_0 15 rfl rfl)
theorem dX7_worst_18 : decode cX7_worst 18 = .ok (.ifCond .eq 21, 3) := dk_153 0 21 (dk_at dksX7_worst_0 18 rfl rfl)
theorem dX7_worst_21 : decode cX7_worst 21 = .ok (.iload_n 3, 1) := dk_29 (dk_at dksX7_worst_0 21 rfl rfl)
theorem dX7_worst_22 : decode cX7_worst 22 = .ok (.iconst 0, 1) := dk_3 (dk_at dksX7_worst_0 22 rfl rfl)
theorem dX7_worst_23 : decode cX7_worst 23 = .ok (.iconst 1, 1) := dk_4 (dk_at dksX7_worst_0 23 rfl rfl)
theorem dX7_worst_24 : decode cX7_worst 24 = .ok (.invokestatic 118, 3) := dk_184 0 118 (dk_at dksX7_worst_1 0 rfl rfl)
theorem dX7_worst_27 : decode cX7_worst 27 = .ok (.ifCond .eq 12, 3) := dk_153 0 12 (dk_at dksX7_worst_1 3 rfl rfl)
theorem dX7_worst_30 : decode cX7_worst 30 = .ok (.aload_n 0, 1) := dk_42 (dk_at dksX7_worst_1 6 rfl rfl)
theorem dX7_worst_31 : decode cX7_worst 31 = .ok (.iload 4, 2) := dk_21 4 (dk_at dksX7_worst_1 7 rfl rfl)
theorem dX7_worst_33 : decode cX7_worst 33 = .ok (.invokevirtual 352, 3) := dk_182 1 96 (dk_at dksX7_worst_1 9 rfl rfl)
theorem dX7_worst_36 : decode cX7_worst 36 = .ok (.ifCond .ne 9, 3) := dk_154 0 9 (dk_at dksX7_worst_1 12 rfl rfl)
theorem dX7_worst_39 : decode cX7_worst 39 = .ok (.aload_n 0, 1) := dk_42 (dk_at dksX7_worst_1 15 rfl rfl)
theorem dX7_worst_40 : decode cX7_worst 40 = .ok (.iconst 1, 1) := dk_4 (dk_at dksX7_worst_1 16 rfl rfl)
theorem dX7_worst_41 : decode cX7_worst 41 = .ok (.invokevirtual 46, 3) := dk_182 0 46 (dk_at dksX7_worst_1 17 rfl rfl)
theorem dX7_worst_44 : decode cX7_worst 44 = .ok (.ireturn, 1) := dk_172 (dk_at dksX7_worst_1 20 rfl rfl)
theorem dX7_worst_45 : decode cX7_worst 45 = .ok (.aload_n 0, 1) := dk_42 (dk_at dksX7_worst_1 21 rfl rfl)
theorem dX7_worst_46 : decode cX7_worst 46 = .ok (.getfield 338, 3) := dk_180 1 82 (dk_at dksX7_worst_2 0 rfl rfl)
theorem dX7_worst_49 : decode cX7_worst 49 = .ok (.getfield 317, 3) := dk_180 1 61 (dk_at dksX7_worst_2 3 rfl rfl)
theorem dX7_worst_52 : decode cX7_worst 52 = .ok (.iload_n 1, 1) := dk_27 (dk_at dksX7_worst_2 6 rfl rfl)
theorem dX7_worst_53 : decode cX7_worst 53 = .ok (.iaload, 1) := dk_46 (dk_at dksX7_worst_2 7 rfl rfl)
theorem dX7_worst_54 : decode cX7_worst 54 = .ok (.istore 5, 2) := dk_54 5 (dk_at dksX7_worst_2 8 rfl rfl)
theorem dX7_worst_56 : decode cX7_worst 56 = .ok (.iload 5, 2) := dk_21 5 (dk_at dksX7_worst_2 10 rfl rfl)
theorem dX7_worst_58 : decode cX7_worst 58 = .ok (.iconst 1, 1) := dk_4 (dk_at dksX7_worst_2 12 rfl rfl)
theorem dX7_worst_59 : decode cX7_worst 59 = .ok (.iadd, 1) := dk_96 (dk_at dksX7_worst_2 13 rfl rfl)
theorem dX7_worst_60 : decode cX7_worst 60 = .ok (.istore 6, 2) := dk_54 6 (dk_at dksX7_worst_2 14 rfl rfl)
theorem dX7_worst_62 : decode cX7_worst 62 = .ok (.iload 6, 2) := dk_21 6 (dk_at dksX7_worst_2 16 rfl rfl)
theorem dX7_worst_64 : decode cX7_worst 64 = .ok (.aload_n 0, 1) := dk_42 (dk_at dksX7_worst_2 18 rfl rfl)
theorem dX7_worst_65 : decode cX7_worst 65 = .ok (.getfield 338, 3) := dk_180 1 82 (dk_at dksX7_worst_2 19 rfl rfl)
theorem dX7_worst_68 : decode cX7_worst 68 = .ok (.getfield 320, 3) := dk_180 1 64 (dk_at dksX7_worst_3 0 rfl rfl)
theorem dX7_worst_71 : decode cX7_worst 71 = .ok (.iload_n 1, 1) := dk_27 (dk_at dksX7_worst_3 3 rfl rfl)
theorem dX7_worst_72 : decode cX7_worst 72 = .ok (.iaload, 1) := dk_46 (dk_at dksX7_worst_3 4 rfl rfl)
theorem dX7_worst_73 : decode cX7_worst 73 = .ok (.if_icmp .gt 39, 3) := dk_163 0 39 (dk_at dksX7_worst_3 5 rfl rfl)
theorem dX7_worst_76 : decode cX7_worst 76 = .ok (.aload_n 0, 1) := dk_42 (dk_at dksX7_worst_3 8 rfl rfl)
theorem dX7_worst_77 : decode cX7_worst 77 = .ok (.iload_n 1, 1) := dk_27 (dk_at dksX7_worst_3 9 rfl rfl)
theorem dX7_worst_78 : decode cX7_worst 78 = .ok (.iload_n 2, 1) := dk_28 (dk_at dksX7_worst_3 10 rfl rfl)
theorem dX7_worst_79 : decode cX7_worst 79 = .ok (.iload_n 3, 1) := dk_29 (dk_at dksX7_worst_3 11 rfl rfl)
theorem dX7_worst_80 : decode cX7_worst 80 = .ok (.iload 4, 2) := dk_21 4 (dk_at dksX7_worst_3 12 rfl rfl)
theorem dX7_worst_82 : decode cX7_worst 82 = .ok (.iload 6, 2) := dk_21 6 (dk_at dksX7_worst_3 14 rfl rfl)
theorem dX7_worst_84 : decode cX7_worst 84 = .ok (.invokevirtual 393, 3) := dk_182 1 137 (dk_at dksX7_worst_3 16 rfl rfl)
theorem dX7_worst_87 : decode cX7_worst 87 = .ok (.aload_n 0, 1) := dk_42 (dk_at dksX7_worst_3 19 rfl rfl)
theorem dX7_worst_88 : decode cX7_worst 88 = .ok (.iload_n 1, 1) := dk_27 (dk_at dksX7_worst_3 20 rfl rfl)
theorem dX7_worst_89 : decode cX7_worst 89 = .ok (.iload_n 2, 1) := dk_28 (dk_at dksX7_worst_3 21 rfl rfl)
theorem dX7_worst_90 : decode cX7_worst 90 = .ok (.iload_n 3, 1) := dk_29 (dk_at dksX7_worst_3 22 rfl rfl)
theorem dX7_worst_91 : decode cX7_worst 91 = .ok (.iload 4, 2) := dk_21 4 (dk_at dksX7_worst_4 0 rfl rfl)
theorem dX7_worst_93 : decode cX7_worst 93 = .ok (.iload 5, 2) := dk_21 5 (dk_at dksX7_worst_4 2 rfl rfl)
theorem dX7_worst_95 : decode cX7_worst 95 = .ok (.invokevirtual 393, 3) := dk_182 1 137 (dk_at dksX7_worst_4 4 rfl rfl)
theorem dX7_worst_98 : decode cX7_worst 98 = .ok (.lcmp, 1) := dk_148 (dk_at dksX7_worst_4 7 rfl rfl)
theorem dX7_worst_99 : decode cX7_worst 99 = .ok (.ifCond .le 7, 3) := dk_158 0 7 (dk_at dksX7_worst_4 8 rfl rfl)
theorem dX7_worst_102 : decode cX7_worst 102 = .ok (.iload 6, 2) := dk_21 6 (dk_at dksX7_worst_4 11 rfl rfl)
theorem dX7_worst_104 : decode cX7_worst 104 = .ok (.istore 5, 2) := dk_54 5 (dk_at dksX7_worst_4 13 rfl rfl)
theorem dX7_worst_106 : decode cX7_worst 106 = .ok (.iinc 6 1, 3) := dk_132 6 1 (dk_at dksX7_worst_4 15 rfl rfl)
theorem dX7_worst_109 : decode cX7_worst 109 = .ok (.goto (-47), 3) := dk_167 255 209 (dk_at dksX7_worst_4 18 rfl rfl)
theorem dX7_worst_112 : decode cX7_worst 112 = .ok (.aload_n 0, 1) := dk_42 (dk_at dksX7_worst_4 21 rfl rfl)
theorem dX7_worst_113 : decode cX7_worst 113 = .ok (.iload 5, 2) := dk_21 5 (dk_at dksX7_worst_4 22 rfl rfl)
theorem dX7_worst_115 : decode cX7_worst 115 = .ok (.invokevirtual 50, 3) := dk_182 0 50 (dk_at dksX7_worst_5 0 rfl rfl)
theorem dX7_worst_118 : decode cX7_worst 118 = .ok (.ireturn, 1) := dk_172 (dk_at dksX7_worst_5 3 rfl rfl)
abbrev cX7_even : ByteArray := prog_19_method_61_code
def yX7_even : MethodName := ⟨RX7, "even", "(IIII)I"⟩
def dkwX7_even_5 : List UInt8 := [167, 255, 199, 42, 21, 5, 153, 0, 7, 4, 167, 0, 4, 3, 182, 0, 50, 172]
abbrev dktX7_even_5 : List UInt8 := dkwX7_even_5 ++ []
def dkwX7_even_4 : List UInt8 := [21, 4, 21, 6, 4, 96, 182, 1, 137, 148, 154, 0, 7, 4, 167, 0, 4, 3, 54, 5, 132, 6, 1]
abbrev dktX7_even_4 : List UInt8 := dkwX7_even_4 ++ dktX7_even_5
def dkwX7_even_3 : List UInt8 := [162, 0, 49, 21, 5, 153, 0, 35, 42, 27, 28, 29, 21, 4, 21, 6, 182, 1, 137, 42, 27, 28, 29]
abbrev dktX7_even_3 : List UInt8 := dkwX7_even_3 ++ dktX7_even_4
def dkwX7_even_2 : List UInt8 := [42, 180, 1, 82, 180, 1, 61, 27, 46, 54, 6, 21, 6, 42, 180, 1, 82, 180, 1, 64, 27, 46]
abbrev dktX7_even_2 : List UInt8 := dkwX7_even_2 ++ dktX7_even_3
def dkwX7_even_1 : List UInt8 := [184, 0, 118, 153, 0, 12, 42, 21, 4, 182, 1, 96, 154, 0, 9, 42, 4, 182, 0, 46, 172, 4, 54, 5]
abbrev dktX7_even_1 : List UInt8 := dkwX7_even_1 ++ dktX7_even_2
def dkwX7_even_0 : List UInt8 := [42, 3, 181, 0, 40, 42, 27, 182, 1, 90, 153, 0, 29, 42, 28, 182, 1, 93, 153, 0, 21, 29, 3, 4]
abbrev dktX7_even_0 : List UInt8 := dkwX7_even_0 ++ dktX7_even_1
theorem dksX7_even_0 : cX7_even.data.toList.drop 0 = dktX7_even_0 := by decide +kernel
theorem dksX7_even_1 : cX7_even.data.toList.drop 24 = dktX7_even_1 := dk_seg dksX7_even_0 24 rfl rfl
theorem dksX7_even_2 : cX7_even.data.toList.drop 48 = dktX7_even_2 := dk_seg dksX7_even_1 24 rfl rfl
theorem dksX7_even_3 : cX7_even.data.toList.drop 70 = dktX7_even_3 := dk_seg dksX7_even_2 22 rfl rfl
theorem dksX7_even_4 : cX7_even.data.toList.drop 93 = dktX7_even_4 := dk_seg dksX7_even_3 23 rfl rfl
theorem dksX7_even_5 : cX7_even.data.toList.drop 116 = dktX7_even_5 := dk_seg dksX7_even_4 23 rfl rfl
theorem dX7_even_0 : decode cX7_even 0 = .ok (.aload_n 0, 1) := dk_42 (dk_at dksX7_even_0 0 rfl rfl)
theorem dX7_even_1 : decode cX7_even 1 = .ok (.iconst 0, 1) := dk_3 (dk_at dksX7_even_0 1 rfl rfl)
theorem dX7_even_2 : decode cX7_even 2 = .ok (.putfield 40, 3) := dk_181 0 40 (dk_at dksX7_even_0 2 rfl rfl)
theorem dX7_even_5 : decode cX7_even 5 = .ok (.aload_n 0, 1) := dk_42 (dk_at dksX7_even_0 5 rfl rfl)
theorem dX7_even_6 : decode cX7_even 6 = .ok (.iload_n 1, 1) := dk_27 (dk_at dksX7_even_0 6 rfl rfl)
theorem dX7_even_7 : decode cX7_even 7 = .ok (.invokevirtual 346, 3) := dk_182 1 90 (dk_at dksX7_even_0 7 rfl rfl)
theorem dX7_even_10 : decode cX7_even 10 = .ok (.ifCond .eq 29, 3) := dk_153 0 29 (dk_at dksX7_even_0 10 rfl rfl)
theorem dX7_even_13 : decode cX7_even 13 = .ok (.aload_n 0, 1) := dk_42 (dk_at dksX7_even_0 13 rfl rfl)
theorem dX7_even_14 : decode cX7_even 14 = .ok (.iload_n 2, 1) := dk_28 (dk_at dksX7_even_0 14 rfl rfl)
theorem dX7_even_15 : decode cX7_even 15 = .ok (.invokevirtual 349, 3) := dk_182 1 93 (dk_at dksX7_even_0 15 rfl rfl)
theorem dX7_even_18 : decode cX7_even 18 = .ok (.ifCond .eq 21, 3) := dk_153 0 21 (dk_at dksX7_even_0 18 rfl rfl)
theorem dX7_even_21 : decode cX7_even 21 = .ok (.iload_n 3, 1) := dk_29 (dk_at dksX7_even_0 21 rfl rfl)
theorem dX7_even_22 : decode cX7_even 22 = .ok (.iconst 0, 1) := dk_3 (dk_at dksX7_even_0 22 rfl rfl)
theorem dX7_even_23 : decode cX7_even 23 = .ok (.iconst 1, 1) := dk_4 (dk_at dksX7_even_0 23 rfl rfl)
theorem dX7_even_24 : decode cX7_even 24 = .ok (.invokestatic 118, 3) := dk_184 0 118 (dk_at dksX7_even_1 0 rfl rfl)
theorem dX7_even_27 : decode cX7_even 27 = .ok (.ifCond .eq 12, 3) := dk_153 0 12 (dk_at dksX7_even_1 3 rfl rfl)
theorem dX7_even_30 : decode cX7_even 30 = .ok (.aload_n 0, 1) := dk_42 (dk_at dksX7_even_1 6 rfl rfl)
theorem dX7_even_31 : decode cX7_even 31 = .ok (.iload 4, 2) := dk_21 4 (dk_at dksX7_even_1 7 rfl rfl)
theorem dX7_even_33 : decode cX7_even 33 = .ok (.invokevirtual 352, 3) := dk_182 1 96 (dk_at dksX7_even_1 9 rfl rfl)
theorem dX7_even_36 : decode cX7_even 36 = .ok (.ifCond .ne 9, 3) := dk_154 0 9 (dk_at dksX7_even_1 12 rfl rfl)
theorem dX7_even_39 : decode cX7_even 39 = .ok (.aload_n 0, 1) := dk_42 (dk_at dksX7_even_1 15 rfl rfl)
theorem dX7_even_40 : decode cX7_even 40 = .ok (.iconst 1, 1) := dk_4 (dk_at dksX7_even_1 16 rfl rfl)
theorem dX7_even_41 : decode cX7_even 41 = .ok (.invokevirtual 46, 3) := dk_182 0 46 (dk_at dksX7_even_1 17 rfl rfl)
theorem dX7_even_44 : decode cX7_even 44 = .ok (.ireturn, 1) := dk_172 (dk_at dksX7_even_1 20 rfl rfl)
theorem dX7_even_45 : decode cX7_even 45 = .ok (.iconst 1, 1) := dk_4 (dk_at dksX7_even_1 21 rfl rfl)
theorem dX7_even_46 : decode cX7_even 46 = .ok (.istore 5, 2) := dk_54 5 (dk_at dksX7_even_1 22 rfl rfl)
theorem dX7_even_48 : decode cX7_even 48 = .ok (.aload_n 0, 1) := dk_42 (dk_at dksX7_even_2 0 rfl rfl)
theorem dX7_even_49 : decode cX7_even 49 = .ok (.getfield 338, 3) := dk_180 1 82 (dk_at dksX7_even_2 1 rfl rfl)
theorem dX7_even_52 : decode cX7_even 52 = .ok (.getfield 317, 3) := dk_180 1 61 (dk_at dksX7_even_2 4 rfl rfl)
theorem dX7_even_55 : decode cX7_even 55 = .ok (.iload_n 1, 1) := dk_27 (dk_at dksX7_even_2 7 rfl rfl)
theorem dX7_even_56 : decode cX7_even 56 = .ok (.iaload, 1) := dk_46 (dk_at dksX7_even_2 8 rfl rfl)
theorem dX7_even_57 : decode cX7_even 57 = .ok (.istore 6, 2) := dk_54 6 (dk_at dksX7_even_2 9 rfl rfl)
theorem dX7_even_59 : decode cX7_even 59 = .ok (.iload 6, 2) := dk_21 6 (dk_at dksX7_even_2 11 rfl rfl)
theorem dX7_even_61 : decode cX7_even 61 = .ok (.aload_n 0, 1) := dk_42 (dk_at dksX7_even_2 13 rfl rfl)
theorem dX7_even_62 : decode cX7_even 62 = .ok (.getfield 338, 3) := dk_180 1 82 (dk_at dksX7_even_2 14 rfl rfl)
theorem dX7_even_65 : decode cX7_even 65 = .ok (.getfield 320, 3) := dk_180 1 64 (dk_at dksX7_even_2 17 rfl rfl)
theorem dX7_even_68 : decode cX7_even 68 = .ok (.iload_n 1, 1) := dk_27 (dk_at dksX7_even_2 20 rfl rfl)
theorem dX7_even_69 : decode cX7_even 69 = .ok (.iaload, 1) := dk_46 (dk_at dksX7_even_2 21 rfl rfl)
theorem dX7_even_70 : decode cX7_even 70 = .ok (.if_icmp .ge 49, 3) := dk_162 0 49 (dk_at dksX7_even_3 0 rfl rfl)
theorem dX7_even_73 : decode cX7_even 73 = .ok (.iload 5, 2) := dk_21 5 (dk_at dksX7_even_3 3 rfl rfl)
theorem dX7_even_75 : decode cX7_even 75 = .ok (.ifCond .eq 35, 3) := dk_153 0 35 (dk_at dksX7_even_3 5 rfl rfl)
theorem dX7_even_78 : decode cX7_even 78 = .ok (.aload_n 0, 1) := dk_42 (dk_at dksX7_even_3 8 rfl rfl)
theorem dX7_even_79 : decode cX7_even 79 = .ok (.iload_n 1, 1) := dk_27 (dk_at dksX7_even_3 9 rfl rfl)
theorem dX7_even_80 : decode cX7_even 80 = .ok (.iload_n 2, 1) := dk_28 (dk_at dksX7_even_3 10 rfl rfl)
theorem dX7_even_81 : decode cX7_even 81 = .ok (.iload_n 3, 1) := dk_29 (dk_at dksX7_even_3 11 rfl rfl)
theorem dX7_even_82 : decode cX7_even 82 = .ok (.iload 4, 2) := dk_21 4 (dk_at dksX7_even_3 12 rfl rfl)
theorem dX7_even_84 : decode cX7_even 84 = .ok (.iload 6, 2) := dk_21 6 (dk_at dksX7_even_3 14 rfl rfl)
theorem dX7_even_86 : decode cX7_even 86 = .ok (.invokevirtual 393, 3) := dk_182 1 137 (dk_at dksX7_even_3 16 rfl rfl)
theorem dX7_even_89 : decode cX7_even 89 = .ok (.aload_n 0, 1) := dk_42 (dk_at dksX7_even_3 19 rfl rfl)
theorem dX7_even_90 : decode cX7_even 90 = .ok (.iload_n 1, 1) := dk_27 (dk_at dksX7_even_3 20 rfl rfl)
theorem dX7_even_91 : decode cX7_even 91 = .ok (.iload_n 2, 1) := dk_28 (dk_at dksX7_even_3 21 rfl rfl)
theorem dX7_even_92 : decode cX7_even 92 = .ok (.iload_n 3, 1) := dk_29 (dk_at dksX7_even_3 22 rfl rfl)
theorem dX7_even_93 : decode cX7_even 93 = .ok (.iload 4, 2) := dk_21 4 (dk_at dksX7_even_4 0 rfl rfl)
theorem dX7_even_95 : decode cX7_even 95 = .ok (.iload 6, 2) := dk_21 6 (dk_at dksX7_even_4 2 rfl rfl)
theorem dX7_even_97 : decode cX7_even 97 = .ok (.iconst 1, 1) := dk_4 (dk_at dksX7_even_4 4 rfl rfl)
theorem dX7_even_98 : decode cX7_even 98 = .ok (.iadd, 1) := dk_96 (dk_at dksX7_even_4 5 rfl rfl)
theorem dX7_even_99 : decode cX7_even 99 = .ok (.invokevirtual 393, 3) := dk_182 1 137 (dk_at dksX7_even_4 6 rfl rfl)
theorem dX7_even_102 : decode cX7_even 102 = .ok (.lcmp, 1) := dk_148 (dk_at dksX7_even_4 9 rfl rfl)
theorem dX7_even_103 : decode cX7_even 103 = .ok (.ifCond .ne 7, 3) := dk_154 0 7 (dk_at dksX7_even_4 10 rfl rfl)
theorem dX7_even_106 : decode cX7_even 106 = .ok (.iconst 1, 1) := dk_4 (dk_at dksX7_even_4 13 rfl rfl)
theorem dX7_even_107 : decode cX7_even 107 = .ok (.goto 4, 3) := dk_167 0 4 (dk_at dksX7_even_4 14 rfl rfl)
theorem dX7_even_110 : decode cX7_even 110 = .ok (.iconst 0, 1) := dk_3 (dk_at dksX7_even_4 17 rfl rfl)
theorem dX7_even_111 : decode cX7_even 111 = .ok (.istore 5, 2) := dk_54 5 (dk_at dksX7_even_4 18 rfl rfl)
theorem dX7_even_113 : decode cX7_even 113 = .ok (.iinc 6 1, 3) := dk_132 6 1 (dk_at dksX7_even_4 20 rfl rfl)
theorem dX7_even_116 : decode cX7_even 116 = .ok (.goto (-57), 3) := dk_167 255 199 (dk_at dksX7_even_5 0 rfl rfl)
theorem dX7_even_119 : decode cX7_even 119 = .ok (.aload_n 0, 1) := dk_42 (dk_at dksX7_even_5 3 rfl rfl)
theorem dX7_even_120 : decode cX7_even 120 = .ok (.iload 5, 2) := dk_21 5 (dk_at dksX7_even_5 4 rfl rfl)
theorem dX7_even_122 : decode cX7_even 122 = .ok (.ifCond .eq 7, 3) := dk_153 0 7 (dk_at dksX7_even_5 6 rfl rfl)
theorem dX7_even_125 : decode cX7_even 125 = .ok (.iconst 1, 1) := dk_4 (dk_at dksX7_even_5 9 rfl rfl)
theorem dX7_even_126 : decode cX7_even 126 = .ok (.goto 4, 3) := dk_167 0 4 (dk_at dksX7_even_5 10 rfl rfl)
theorem dX7_even_129 : decode cX7_even 129 = .ok (.iconst 0, 1) := dk_3 (dk_at dksX7_even_5 13 rfl rfl)
theorem dX7_even_130 : decode cX7_even 130 = .ok (.invokevirtual 50, 3) := dk_182 0 50 (dk_at dksX7_even_5 14 rfl rfl)
theorem dX7_even_133 : decode cX7_even 133 = .ok (.ireturn, 1) := dk_172 (dk_at dksX7_even_5 17 rfl rfl)
abbrev cX7_round : ByteArray := prog_19_method_63_code
def yX7_round : MethodName := ⟨RX7, "round", "(IIIZ)J"⟩
def dkwX7_round_2 : List UInt8 := [28, 4, 29, 182, 1, 153, 97, 20, 1, 131, 21, 4, 182, 1, 133, 173]
abbrev dktX7_round_2 : List UInt8 := dkwX7_round_2 ++ []
def dkwX7_round_1 : List UInt8 := [182, 1, 96, 154, 0, 10, 42, 4, 182, 0, 46, 133, 173, 42, 42, 27, 28, 3, 29, 182, 1, 153, 42, 27]
abbrev dktX7_round_1 : List UInt8 := dkwX7_round_1 ++ dktX7_round_2
def dkwX7_round_0 : List UInt8 := [42, 3, 181, 0, 40, 42, 27, 182, 1, 90, 153, 0, 19, 42, 28, 182, 1, 93, 153, 0, 11, 42, 29]
abbrev dktX7_round_0 : List UInt8 := dkwX7_round_0 ++ dktX7_round_1
theorem dksX7_round_0 : cX7_round.data.toList.drop 0 = dktX7_round_0 := by decide +kernel
theorem dksX7_round_1 : cX7_round.data.toList.drop 23 = dktX7_round_1 := dk_seg dksX7_round_0 23 rfl rfl
theorem dksX7_round_2 : cX7_round.data.toList.drop 47 = dktX7_round_2 := dk_seg dksX7_round_1 24 rfl rfl
theorem dX7_round_0 : decode cX7_round 0 = .ok (.aload_n 0, 1) := dk_42 (dk_at dksX7_round_0 0 rfl rfl)
theorem dX7_round_1 : decode cX7_round 1 = .ok (.iconst 0, 1) := dk_3 (dk_at dksX7_round_0 1 rfl rfl)
theorem dX7_round_2 : decode cX7_round 2 = .ok (.putfield 40, 3) := dk_181 0 40 (dk_at dksX7_round_0 2 rfl rfl)
theorem dX7_round_5 : decode cX7_round 5 = .ok (.aload_n 0, 1) := dk_42 (dk_at dksX7_round_0 5 rfl rfl)
theorem dX7_round_6 : decode cX7_round 6 = .ok (.iload_n 1, 1) := dk_27 (dk_at dksX7_round_0 6 rfl rfl)
theorem dX7_round_7 : decode cX7_round 7 = .ok (.invokevirtual 346, 3) := dk_182 1 90 (dk_at dksX7_round_0 7 rfl rfl)
theorem dX7_round_10 : decode cX7_round 10 = .ok (.ifCond .eq 19, 3) := dk_153 0 19 (dk_at dksX7_round_0 10 rfl rfl)
theorem dX7_round_13 : decode cX7_round 13 = .ok (.aload_n 0, 1) := dk_42 (dk_at dksX7_round_0 13 rfl rfl)
theorem dX7_round_14 : decode cX7_round 14 = .ok (.iload_n 2, 1) := dk_28 (dk_at dksX7_round_0 14 rfl rfl)
theorem dX7_round_15 : decode cX7_round 15 = .ok (.invokevirtual 349, 3) := dk_182 1 93 (dk_at dksX7_round_0 15 rfl rfl)
theorem dX7_round_18 : decode cX7_round 18 = .ok (.ifCond .eq 11, 3) := dk_153 0 11 (dk_at dksX7_round_0 18 rfl rfl)
theorem dX7_round_21 : decode cX7_round 21 = .ok (.aload_n 0, 1) := dk_42 (dk_at dksX7_round_0 21 rfl rfl)
theorem dX7_round_22 : decode cX7_round 22 = .ok (.iload_n 3, 1) := dk_29 (dk_at dksX7_round_0 22 rfl rfl)
theorem dX7_round_23 : decode cX7_round 23 = .ok (.invokevirtual 352, 3) := dk_182 1 96 (dk_at dksX7_round_1 0 rfl rfl)
theorem dX7_round_26 : decode cX7_round 26 = .ok (.ifCond .ne 10, 3) := dk_154 0 10 (dk_at dksX7_round_1 3 rfl rfl)
theorem dX7_round_29 : decode cX7_round 29 = .ok (.aload_n 0, 1) := dk_42 (dk_at dksX7_round_1 6 rfl rfl)
theorem dX7_round_30 : decode cX7_round 30 = .ok (.iconst 1, 1) := dk_4 (dk_at dksX7_round_1 7 rfl rfl)
theorem dX7_round_31 : decode cX7_round 31 = .ok (.invokevirtual 46, 3) := dk_182 0 46 (dk_at dksX7_round_1 8 rfl rfl)
theorem dX7_round_34 : decode cX7_round 34 = .ok (.i2l, 1) := dk_133 (dk_at dksX7_round_1 11 rfl rfl)
theorem dX7_round_35 : decode cX7_round 35 = .ok (.lreturn, 1) := dk_173 (dk_at dksX7_round_1 12 rfl rfl)
theorem dX7_round_36 : decode cX7_round 36 = .ok (.aload_n 0, 1) := dk_42 (dk_at dksX7_round_1 13 rfl rfl)
theorem dX7_round_37 : decode cX7_round 37 = .ok (.aload_n 0, 1) := dk_42 (dk_at dksX7_round_1 14 rfl rfl)
theorem dX7_round_38 : decode cX7_round 38 = .ok (.iload_n 1, 1) := dk_27 (dk_at dksX7_round_1 15 rfl rfl)
theorem dX7_round_39 : decode cX7_round 39 = .ok (.iload_n 2, 1) := dk_28 (dk_at dksX7_round_1 16 rfl rfl)
theorem dX7_round_40 : decode cX7_round 40 = .ok (.iconst 0, 1) := dk_3 (dk_at dksX7_round_1 17 rfl rfl)
theorem dX7_round_41 : decode cX7_round 41 = .ok (.iload_n 3, 1) := dk_29 (dk_at dksX7_round_1 18 rfl rfl)
theorem dX7_round_42 : decode cX7_round 42 = .ok (.invokevirtual 409, 3) := dk_182 1 153 (dk_at dksX7_round_1 19 rfl rfl)
theorem dX7_round_45 : decode cX7_round 45 = .ok (.aload_n 0, 1) := dk_42 (dk_at dksX7_round_1 22 rfl rfl)
theorem dX7_round_46 : decode cX7_round 46 = .ok (.iload_n 1, 1) := dk_27 (dk_at dksX7_round_1 23 rfl rfl)
theorem dX7_round_47 : decode cX7_round 47 = .ok (.iload_n 2, 1) := dk_28 (dk_at dksX7_round_2 0 rfl rfl)
theorem dX7_round_48 : decode cX7_round 48 = .ok (.iconst 1, 1) := dk_4 (dk_at dksX7_round_2 1 rfl rfl)
theorem dX7_round_49 : decode cX7_round 49 = .ok (.iload_n 3, 1) := dk_29 (dk_at dksX7_round_2 2 rfl rfl)
theorem dX7_round_50 : decode cX7_round 50 = .ok (.invokevirtual 409, 3) := dk_182 1 153 (dk_at dksX7_round_2 3 rfl rfl)
theorem dX7_round_53 : decode cX7_round 53 = .ok (.ladd, 1) := dk_97 (dk_at dksX7_round_2 6 rfl rfl)
theorem dX7_round_54 : decode cX7_round 54 = .ok (.ldc2_w 387, 3) := dk_20 1 131 (dk_at dksX7_round_2 7 rfl rfl)
theorem dX7_round_57 : decode cX7_round 57 = .ok (.iload 4, 2) := dk_21 4 (dk_at dksX7_round_2 10 rfl rfl)
theorem dX7_round_59 : decode cX7_round 59 = .ok (.invokevirtual 389, 3) := dk_182 1 133 (dk_at dksX7_round_2 12 rfl rfl)
theorem dX7_round_62 : decode cX7_round 62 = .ok (.lreturn, 1) := dk_173 (dk_at dksX7_round_2 15 rfl rfl)
abbrev cX7_wetAtBest : ByteArray := prog_19_method_62_code
def yX7_wetAtBest : MethodName := ⟨RX7, "wetAtBest", "(IIII)J"⟩
def dkwX7_wetAtBest_0 : List UInt8 := [42, 27, 28, 29, 21, 4, 42, 27, 28, 29, 21, 4, 182, 1, 149, 182, 1, 137, 173]
abbrev dktX7_wetAtBest_0 : List UInt8 := dkwX7_wetAtBest_0 ++ []
theorem dksX7_wetAtBest_0 : cX7_wetAtBest.data.toList.drop 0 = dktX7_wetAtBest_0 := by decide +kernel
theorem dX7_wetAtBest_0 : decode cX7_wetAtBest 0 = .ok (.aload_n 0, 1) := dk_42 (dk_at dksX7_wetAtBest_0 0 rfl rfl)
theorem dX7_wetAtBest_1 : decode cX7_wetAtBest 1 = .ok (.iload_n 1, 1) := dk_27 (dk_at dksX7_wetAtBest_0 1 rfl rfl)
theorem dX7_wetAtBest_2 : decode cX7_wetAtBest 2 = .ok (.iload_n 2, 1) := dk_28 (dk_at dksX7_wetAtBest_0 2 rfl rfl)
theorem dX7_wetAtBest_3 : decode cX7_wetAtBest 3 = .ok (.iload_n 3, 1) := dk_29 (dk_at dksX7_wetAtBest_0 3 rfl rfl)
theorem dX7_wetAtBest_4 : decode cX7_wetAtBest 4 = .ok (.iload 4, 2) := dk_21 4 (dk_at dksX7_wetAtBest_0 4 rfl rfl)
theorem dX7_wetAtBest_6 : decode cX7_wetAtBest 6 = .ok (.aload_n 0, 1) := dk_42 (dk_at dksX7_wetAtBest_0 6 rfl rfl)
theorem dX7_wetAtBest_7 : decode cX7_wetAtBest 7 = .ok (.iload_n 1, 1) := dk_27 (dk_at dksX7_wetAtBest_0 7 rfl rfl)
theorem dX7_wetAtBest_8 : decode cX7_wetAtBest 8 = .ok (.iload_n 2, 1) := dk_28 (dk_at dksX7_wetAtBest_0 8 rfl rfl)
theorem dX7_wetAtBest_9 : decode cX7_wetAtBest 9 = .ok (.iload_n 3, 1) := dk_29 (dk_at dksX7_wetAtBest_0 9 rfl rfl)
theorem dX7_wetAtBest_10 : decode cX7_wetAtBest 10 = .ok (.iload 4, 2) := dk_21 4 (dk_at dksX7_wetAtBest_0 10 rfl rfl)
theorem dX7_wetAtBest_12 : decode cX7_wetAtBest 12 = .ok (.invokevirtual 405, 3) := dk_182 1 149 (dk_at dksX7_wetAtBest_0 12 rfl rfl)
theorem dX7_wetAtBest_15 : decode cX7_wetAtBest 15 = .ok (.invokevirtual 393, 3) := dk_182 1 137 (dk_at dksX7_wetAtBest_0 15 rfl rfl)
theorem dX7_wetAtBest_18 : decode cX7_wetAtBest 18 = .ok (.lreturn, 1) := dk_173 (dk_at dksX7_wetAtBest_0 18 rfl rfl)
abbrev cX7_driest : ByteArray := prog_19_method_64_code
def yX7_driest : MethodName := ⟨RX7, "driest", "(III)I"⟩
def dkwX7_driest_5 : List UInt8 := [16, 6, 182, 0, 46, 167, 0, 9, 42, 21, 4, 182, 0, 50, 172]
abbrev dktX7_driest_5 : List UInt8 := dkwX7_driest_5 ++ []
def dkwX7_driest_4 : List UInt8 := [167, 0, 11, 21, 7, 54, 4, 22, 8, 55, 5, 132, 7, 1, 167, 255, 193, 21, 4, 2, 160, 0, 12, 42]
abbrev dktX7_driest_4 : List UInt8 := dkwX7_driest_4 ++ dktX7_driest_5
def dkwX7_driest_3 : List UInt8 := [180, 0, 246, 21, 7, 46, 133, 105, 55, 8, 21, 4, 2, 159, 0, 14, 22, 8, 22, 5, 148, 155, 0, 6]
abbrev dktX7_driest_3 : List UInt8 := dkwX7_driest_3 ++ dktX7_driest_4
def dkwX7_driest_2 : List UInt8 := [180, 1, 82, 180, 0, 219, 162, 0, 57, 42, 27, 28, 29, 21, 7, 182, 1, 153, 42, 180, 1, 82]
abbrev dktX7_driest_2 : List UInt8 := dkwX7_driest_2 ++ dktX7_driest_3
def dkwX7_driest_1 : List UInt8 := [184, 0, 118, 154, 0, 9, 42, 4, 182, 0, 46, 172, 2, 54, 4, 9, 55, 5, 3, 54, 7, 21, 7, 42]
abbrev dktX7_driest_1 : List UInt8 := dkwX7_driest_1 ++ dktX7_driest_2
def dkwX7_driest_0 : List UInt8 := [42, 3, 181, 0, 40, 42, 27, 182, 1, 90, 153, 0, 20, 42, 28, 182, 1, 93, 153, 0, 12, 29, 3, 4]
abbrev dktX7_driest_0 : List UInt8 := dkwX7_driest_0 ++ dktX7_driest_1
theorem dksX7_driest_0 : cX7_driest.data.toList.drop 0 = dktX7_driest_0 := by decide +kernel
theorem dksX7_driest_1 : cX7_driest.data.toList.drop 24 = dktX7_driest_1 := dk_seg dksX7_driest_0 24 rfl rfl
theorem dksX7_driest_2 : cX7_driest.data.toList.drop 48 = dktX7_driest_2 := dk_seg dksX7_driest_1 24 rfl rfl
theorem dksX7_driest_3 : cX7_driest.data.toList.drop 70 = dktX7_driest_3 := dk_seg dksX7_driest_2 22 rfl rfl
theorem dksX7_driest_4 : cX7_driest.data.toList.drop 94 = dktX7_driest_4 := dk_seg dksX7_driest_3 24 rfl rfl
theorem dksX7_driest_5 : cX7_driest.data.toList.drop 118 = dktX7_driest_5 := dk_seg dksX7_driest_4 24 rfl rfl
theorem dX7_driest_0 : decode cX7_driest 0 = .ok (.aload_n 0, 1) := dk_42 (dk_at dksX7_driest_0 0 rfl rfl)
theorem dX7_driest_1 : decode cX7_driest 1 = .ok (.iconst 0, 1) := dk_3 (dk_at dksX7_driest_0 1 rfl rfl)
theorem dX7_driest_2 : decode cX7_driest 2 = .ok (.putfield 40, 3) := dk_181 0 40 (dk_at dksX7_driest_0 2 rfl rfl)
theorem dX7_driest_5 : decode cX7_driest 5 = .ok (.aload_n 0, 1) := dk_42 (dk_at dksX7_driest_0 5 rfl rfl)
theorem dX7_driest_6 : decode cX7_driest 6 = .ok (.iload_n 1, 1) := dk_27 (dk_at dksX7_driest_0 6 rfl rfl)
theorem dX7_driest_7 : decode cX7_driest 7 = .ok (.invokevirtual 346, 3) := dk_182 1 90 (dk_at dksX7_driest_0 7 rfl rfl)
theorem dX7_driest_10 : decode cX7_driest 10 = .ok (.ifCond .eq 20, 3) := dk_153 0 20 (dk_at dksX7_driest_0 10 rfl rfl)
theorem dX7_driest_13 : decode cX7_driest 13 = .ok (.aload_n 0, 1) := dk_42 (dk_at dksX7_driest_0 13 rfl rfl)
theorem dX7_driest_14 : decode cX7_driest 14 = .ok (.iload_n 2, 1) := dk_28 (dk_at dksX7_driest_0 14 rfl rfl)
theorem dX7_driest_15 : decode cX7_driest 15 = .ok (.invokevirtual 349, 3) := dk_182 1 93 (dk_at dksX7_driest_0 15 rfl rfl)
theorem dX7_driest_18 : decode cX7_driest 18 = .ok (.ifCond .eq 12, 3) := dk_153 0 12 (dk_at dksX7_driest_0 18 rfl rfl)
theorem dX7_driest_21 : decode cX7_driest 21 = .ok (.iload_n 3, 1) := dk_29 (dk_at dksX7_driest_0 21 rfl rfl)
theorem dX7_driest_22 : decode cX7_driest 22 = .ok (.iconst 0, 1) := dk_3 (dk_at dksX7_driest_0 22 rfl rfl)
theorem dX7_driest_23 : decode cX7_driest 23 = .ok (.iconst 1, 1) := dk_4 (dk_at dksX7_driest_0 23 rfl rfl)
theorem dX7_driest_24 : decode cX7_driest 24 = .ok (.invokestatic 118, 3) := dk_184 0 118 (dk_at dksX7_driest_1 0 rfl rfl)
theorem dX7_driest_27 : decode cX7_driest 27 = .ok (.ifCond .ne 9, 3) := dk_154 0 9 (dk_at dksX7_driest_1 3 rfl rfl)
theorem dX7_driest_30 : decode cX7_driest 30 = .ok (.aload_n 0, 1) := dk_42 (dk_at dksX7_driest_1 6 rfl rfl)
theorem dX7_driest_31 : decode cX7_driest 31 = .ok (.iconst 1, 1) := dk_4 (dk_at dksX7_driest_1 7 rfl rfl)
theorem dX7_driest_32 : decode cX7_driest 32 = .ok (.invokevirtual 46, 3) := dk_182 0 46 (dk_at dksX7_driest_1 8 rfl rfl)
theorem dX7_driest_35 : decode cX7_driest 35 = .ok (.ireturn, 1) := dk_172 (dk_at dksX7_driest_1 11 rfl rfl)
theorem dX7_driest_36 : decode cX7_driest 36 = .ok (.iconst (-1), 1) := dk_2 (dk_at dksX7_driest_1 12 rfl rfl)
theorem dX7_driest_37 : decode cX7_driest 37 = .ok (.istore 4, 2) := dk_54 4 (dk_at dksX7_driest_1 13 rfl rfl)
theorem dX7_driest_39 : decode cX7_driest 39 = .ok (.lconst 0, 1) := dk_9 (dk_at dksX7_driest_1 15 rfl rfl)
theorem dX7_driest_40 : decode cX7_driest 40 = .ok (.lstore 5, 2) := dk_55 5 (dk_at dksX7_driest_1 16 rfl rfl)
theorem dX7_driest_42 : decode cX7_driest 42 = .ok (.iconst 0, 1) := dk_3 (dk_at dksX7_driest_1 18 rfl rfl)
theorem dX7_driest_43 : decode cX7_driest 43 = .ok (.istore 7, 2) := dk_54 7 (dk_at dksX7_driest_1 19 rfl rfl)
theorem dX7_driest_45 : decode cX7_driest 45 = .ok (.iload 7, 2) := dk_21 7 (dk_at dksX7_driest_1 21 rfl rfl)
theorem dX7_driest_47 : decode cX7_driest 47 = .ok (.aload_n 0, 1) := dk_42 (dk_at dksX7_driest_1 23 rfl rfl)
theorem dX7_driest_48 : decode cX7_driest 48 = .ok (.getfield 338, 3) := dk_180 1 82 (dk_at dksX7_driest_2 0 rfl rfl)
theorem dX7_driest_51 : decode cX7_driest 51 = .ok (.getfield 219, 3) := dk_180 0 219 (dk_at dksX7_driest_2 3 rfl rfl)
theorem dX7_driest_54 : decode cX7_driest 54 = .ok (.if_icmp .ge 57, 3) := dk_162 0 57 (dk_at dksX7_driest_2 6 rfl rfl)
theorem dX7_driest_57 : decode cX7_driest 57 = .ok (.aload_n 0, 1) := dk_42 (dk_at dksX7_driest_2 9 rfl rfl)
theorem dX7_driest_58 : decode cX7_driest 58 = .ok (.iload_n 1, 1) := dk_27 (dk_at dksX7_driest_2 10 rfl rfl)
theorem dX7_driest_59 : decode cX7_driest 59 = .ok (.iload_n 2, 1) := dk_28 (dk_at dksX7_driest_2 11 rfl rfl)
theorem dX7_driest_60 : decode cX7_driest 60 = .ok (.iload_n 3, 1) := dk_29 (dk_at dksX7_driest_2 12 rfl rfl)
theorem dX7_driest_61 : decode cX7_driest 61 = .ok (.iload 7, 2) := dk_21 7 (dk_at dksX7_driest_2 13 rfl rfl)
theorem dX7_driest_63 : decode cX7_driest 63 = .ok (.invokevirtual 409, 3) := dk_182 1 153 (dk_at dksX7_driest_2 15 rfl rfl)
theorem dX7_driest_66 : decode cX7_driest 66 = .ok (.aload_n 0, 1) := dk_42 (dk_at dksX7_driest_2 18 rfl rfl)
theorem dX7_driest_67 : decode cX7_driest 67 = .ok (.getfield 338, 3) := dk_180 1 82 (dk_at dksX7_driest_2 19 rfl rfl)
theorem dX7_driest_70 : decode cX7_driest 70 = .ok (.getfield 246, 3) := dk_180 0 246 (dk_at dksX7_driest_3 0 rfl rfl)
theorem dX7_driest_73 : decode cX7_driest 73 = .ok (.iload 7, 2) := dk_21 7 (dk_at dksX7_driest_3 3 rfl rfl)
theorem dX7_driest_75 : decode cX7_driest 75 = .ok (.iaload, 1) := dk_46 (dk_at dksX7_driest_3 5 rfl rfl)
theorem dX7_driest_76 : decode cX7_driest 76 = .ok (.i2l, 1) := dk_133 (dk_at dksX7_driest_3 6 rfl rfl)
theorem dX7_driest_77 : decode cX7_driest 77 = .ok (.lmul, 1) := dk_105 (dk_at dksX7_driest_3 7 rfl rfl)
theorem dX7_driest_78 : decode cX7_driest 78 = .ok (.lstore 8, 2) := dk_55 8 (dk_at dksX7_driest_3 8 rfl rfl)
theorem dX7_driest_80 : decode cX7_driest 80 = .ok (.iload 4, 2) := dk_21 4 (dk_at dksX7_driest_3 10 rfl rfl)
theorem dX7_driest_82 : decode cX7_driest 82 = .ok (.iconst (-1), 1) := dk_2 (dk_at dksX7_driest_3 12 rfl rfl)
theorem dX7_driest_83 : decode cX7_driest 83 = .ok (.if_icmp .eq 14, 3) := dk_159 0 14 (dk_at dksX7_driest_3 13 rfl rfl)
theorem dX7_driest_86 : decode cX7_driest 86 = .ok (.lload 8, 2) := dk_22 8 (dk_at dksX7_driest_3 16 rfl rfl)
theorem dX7_driest_88 : decode cX7_driest 88 = .ok (.lload 5, 2) := dk_22 5 (dk_at dksX7_driest_3 18 rfl rfl)
theorem dX7_driest_90 : decode cX7_driest 90 = .ok (.lcmp, 1) := dk_148 (dk_at dksX7_driest_3 20 rfl rfl)
theorem dX7_driest_91 : decode cX7_driest 91 = .ok (.ifCond .lt 6, 3) := dk_155 0 6 (dk_at dksX7_driest_3 21 rfl rfl)
theorem dX7_driest_94 : decode cX7_driest 94 = .ok (.goto 11, 3) := dk_167 0 11 (dk_at dksX7_driest_4 0 rfl rfl)
theorem dX7_driest_97 : decode cX7_driest 97 = .ok (.iload 7, 2) := dk_21 7 (dk_at dksX7_driest_4 3 rfl rfl)
theorem dX7_driest_99 : decode cX7_driest 99 = .ok (.istore 4, 2) := dk_54 4 (dk_at dksX7_driest_4 5 rfl rfl)
theorem dX7_driest_101 : decode cX7_driest 101 = .ok (.lload 8, 2) := dk_22 8 (dk_at dksX7_driest_4 7 rfl rfl)
theorem dX7_driest_103 : decode cX7_driest 103 = .ok (.lstore 5, 2) := dk_55 5 (dk_at dksX7_driest_4 9 rfl rfl)
theorem dX7_driest_105 : decode cX7_driest 105 = .ok (.iinc 7 1, 3) := dk_132 7 1 (dk_at dksX7_driest_4 11 rfl rfl)
theorem dX7_driest_108 : decode cX7_driest 108 = .ok (.goto (-63), 3) := dk_167 255 193 (dk_at dksX7_driest_4 14 rfl rfl)
theorem dX7_driest_111 : decode cX7_driest 111 = .ok (.iload 4, 2) := dk_21 4 (dk_at dksX7_driest_4 17 rfl rfl)
theorem dX7_driest_113 : decode cX7_driest 113 = .ok (.iconst (-1), 1) := dk_2 (dk_at dksX7_driest_4 19 rfl rfl)
theorem dX7_driest_114 : decode cX7_driest 114 = .ok (.if_icmp .ne 12, 3) := dk_160 0 12 (dk_at dksX7_driest_4 20 rfl rfl)
theorem dX7_driest_117 : decode cX7_driest 117 = .ok (.aload_n 0, 1) := dk_42 (dk_at dksX7_driest_4 23 rfl rfl)
theorem dX7_driest_118 : decode cX7_driest 118 = .ok (.bipush 6, 2) := dk_16 6 (dk_at dksX7_driest_5 0 rfl rfl)
theorem dX7_driest_120 : decode cX7_driest 120 = .ok (.invokevirtual 46, 3) := dk_182 0 46 (dk_at dksX7_driest_5 2 rfl rfl)
theorem dX7_driest_123 : decode cX7_driest 123 = .ok (.goto 9, 3) := dk_167 0 9 (dk_at dksX7_driest_5 5 rfl rfl)
theorem dX7_driest_126 : decode cX7_driest 126 = .ok (.aload_n 0, 1) := dk_42 (dk_at dksX7_driest_5 8 rfl rfl)
theorem dX7_driest_127 : decode cX7_driest 127 = .ok (.iload 4, 2) := dk_21 4 (dk_at dksX7_driest_5 9 rfl rfl)
theorem dX7_driest_129 : decode cX7_driest 129 = .ok (.invokevirtual 50, 3) := dk_182 0 50 (dk_at dksX7_driest_5 11 rfl rfl)
theorem dX7_driest_132 : decode cX7_driest 132 = .ok (.ireturn, 1) := dk_172 (dk_at dksX7_driest_5 14 rfl rfl)
abbrev cX7_lee : ByteArray := prog_19_method_67_code
def yX7_lee : MethodName := ⟨RX7, "lee", "(IIIIIIZ)J"⟩
def dkwX7_lee_2 : List UInt8 := [182, 1, 161, 20, 1, 131, 21, 7, 182, 1, 133, 173]
abbrev dktX7_lee_2 : List UInt8 := dkwX7_lee_2 ++ []
def dkwX7_lee_1 : List UInt8 := [158, 0, 13, 42, 21, 8, 182, 0, 46, 133, 167, 0, 25, 42, 42, 27, 28, 29, 21, 4, 21, 5, 21, 6]
abbrev dktX7_lee_1 : List UInt8 := dkwX7_lee_1 ++ dktX7_lee_2
def dkwX7_lee_0 : List UInt8 := [42, 3, 181, 0, 40, 42, 27, 28, 29, 21, 4, 21, 5, 21, 6, 182, 1, 157, 54, 8, 21, 8]
abbrev dktX7_lee_0 : List UInt8 := dkwX7_lee_0 ++ dktX7_lee_1
theorem dksX7_lee_0 : cX7_lee.data.toList.drop 0 = dktX7_lee_0 := by decide +kernel
theorem dksX7_lee_1 : cX7_lee.data.toList.drop 22 = dktX7_lee_1 := dk_seg dksX7_lee_0 22 rfl rfl
theorem dksX7_lee_2 : cX7_lee.data.toList.drop 46 = dktX7_lee_2 := dk_seg dksX7_lee_1 24 rfl rfl
theorem dX7_lee_0 : decode cX7_lee 0 = .ok (.aload_n 0, 1) := dk_42 (dk_at dksX7_lee_0 0 rfl rfl)
theorem dX7_lee_1 : decode cX7_lee 1 = .ok (.iconst 0, 1) := dk_3 (dk_at dksX7_lee_0 1 rfl rfl)
theorem dX7_lee_2 : decode cX7_lee 2 = .ok (.putfield 40, 3) := dk_181 0 40 (dk_at dksX7_lee_0 2 rfl rfl)
theorem dX7_lee_5 : decode cX7_lee 5 = .ok (.aload_n 0, 1) := dk_42 (dk_at dksX7_lee_0 5 rfl rfl)
theorem dX7_lee_6 : decode cX7_lee 6 = .ok (.iload_n 1, 1) := dk_27 (dk_at dksX7_lee_0 6 rfl rfl)
theorem dX7_lee_7 : decode cX7_lee 7 = .ok (.iload_n 2, 1) := dk_28 (dk_at dksX7_lee_0 7 rfl rfl)
theorem dX7_lee_8 : decode cX7_lee 8 = .ok (.iload_n 3, 1) := dk_29 (dk_at dksX7_lee_0 8 rfl rfl)
theorem dX7_lee_9 : decode cX7_lee 9 = .ok (.iload 4, 2) := dk_21 4 (dk_at dksX7_lee_0 9 rfl rfl)
theorem dX7_lee_11 : decode cX7_lee 11 = .ok (.iload 5, 2) := dk_21 5 (dk_at dksX7_lee_0 11 rfl rfl)
theorem dX7_lee_13 : decode cX7_lee 13 = .ok (.iload 6, 2) := dk_21 6 (dk_at dksX7_lee_0 13 rfl rfl)
theorem dX7_lee_15 : decode cX7_lee 15 = .ok (.invokevirtual 413, 3) := dk_182 1 157 (dk_at dksX7_lee_0 15 rfl rfl)
theorem dX7_lee_18 : decode cX7_lee 18 = .ok (.istore 8, 2) := dk_54 8 (dk_at dksX7_lee_0 18 rfl rfl)
theorem dX7_lee_20 : decode cX7_lee 20 = .ok (.iload 8, 2) := dk_21 8 (dk_at dksX7_lee_0 20 rfl rfl)
theorem dX7_lee_22 : decode cX7_lee 22 = .ok (.ifCond .le 13, 3) := dk_158 0 13 (dk_at dksX7_lee_1 0 rfl rfl)
theorem dX7_lee_25 : decode cX7_lee 25 = .ok (.aload_n 0, 1) := dk_42 (dk_at dksX7_lee_1 3 rfl rfl)
theorem dX7_lee_26 : decode cX7_lee 26 = .ok (.iload 8, 2) := dk_21 8 (dk_at dksX7_lee_1 4 rfl rfl)
theorem dX7_lee_28 : decode cX7_lee 28 = .ok (.invokevirtual 46, 3) := dk_182 0 46 (dk_at dksX7_lee_1 6 rfl rfl)
theorem dX7_lee_31 : decode cX7_lee 31 = .ok (.i2l, 1) := dk_133 (dk_at dksX7_lee_1 9 rfl rfl)
theorem dX7_lee_32 : decode cX7_lee 32 = .ok (.goto 25, 3) := dk_167 0 25 (dk_at dksX7_lee_1 10 rfl rfl)
theorem dX7_lee_35 : decode cX7_lee 35 = .ok (.aload_n 0, 1) := dk_42 (dk_at dksX7_lee_1 13 rfl rfl)
theorem dX7_lee_36 : decode cX7_lee 36 = .ok (.aload_n 0, 1) := dk_42 (dk_at dksX7_lee_1 14 rfl rfl)
theorem dX7_lee_37 : decode cX7_lee 37 = .ok (.iload_n 1, 1) := dk_27 (dk_at dksX7_lee_1 15 rfl rfl)
theorem dX7_lee_38 : decode cX7_lee 38 = .ok (.iload_n 2, 1) := dk_28 (dk_at dksX7_lee_1 16 rfl rfl)
theorem dX7_lee_39 : decode cX7_lee 39 = .ok (.iload_n 3, 1) := dk_29 (dk_at dksX7_lee_1 17 rfl rfl)
theorem dX7_lee_40 : decode cX7_lee 40 = .ok (.iload 4, 2) := dk_21 4 (dk_at dksX7_lee_1 18 rfl rfl)
theorem dX7_lee_42 : decode cX7_lee 42 = .ok (.iload 5, 2) := dk_21 5 (dk_at dksX7_lee_1 20 rfl rfl)
theorem dX7_lee_44 : decode cX7_lee 44 = .ok (.iload 6, 2) := dk_21 6 (dk_at dksX7_lee_1 22 rfl rfl)
theorem dX7_lee_46 : decode cX7_lee 46 = .ok (.invokevirtual 417, 3) := dk_182 1 161 (dk_at dksX7_lee_2 0 rfl rfl)
theorem dX7_lee_49 : decode cX7_lee 49 = .ok (.ldc2_w 387, 3) := dk_20 1 131 (dk_at dksX7_lee_2 3 rfl rfl)
theorem dX7_lee_52 : decode cX7_lee 52 = .ok (.iload 7, 2) := dk_21 7 (dk_at dksX7_lee_2 6 rfl rfl)
theorem dX7_lee_54 : decode cX7_lee 54 = .ok (.invokevirtual 389, 3) := dk_182 1 133 (dk_at dksX7_lee_2 8 rfl rfl)
theorem dX7_lee_57 : decode cX7_lee 57 = .ok (.lreturn, 1) := dk_173 (dk_at dksX7_lee_2 11 rfl rfl)
abbrev cX7_refusesTwo : ByteArray := prog_19_method_66_code
def yX7_refusesTwo : MethodName := ⟨RX7, "refusesTwo", "(IIIIII)I"⟩
def dkwX7_refusesTwo_2 : List UInt8 := [153, 0, 7, 3, 167, 0, 4, 5, 172]
abbrev dktX7_refusesTwo_2 : List UInt8 := dkwX7_refusesTwo_2 ++ []
def dkwX7_refusesTwo_1 : List UInt8 := [182, 1, 127, 54, 7, 21, 7, 158, 0, 8, 21, 7, 167, 0, 18, 42, 28, 21, 6, 182, 1, 99]
abbrev dktX7_refusesTwo_1 : List UInt8 := dkwX7_refusesTwo_1 ++ dktX7_refusesTwo_2
def dkwX7_refusesTwo_0 : List UInt8 := [27, 28, 159, 0, 11, 42, 28, 182, 1, 90, 154, 0, 5, 4, 172, 42, 27, 29, 21, 4, 21, 5, 21, 6]
abbrev dktX7_refusesTwo_0 : List UInt8 := dkwX7_refusesTwo_0 ++ dktX7_refusesTwo_1
theorem dksX7_refusesTwo_0 : cX7_refusesTwo.data.toList.drop 0 = dktX7_refusesTwo_0 := by decide +kernel
theorem dksX7_refusesTwo_1 : cX7_refusesTwo.data.toList.drop 24 = dktX7_refusesTwo_1 := dk_seg dksX7_refusesTwo_0 24 rfl rfl
theorem dksX7_refusesTwo_2 : cX7_refusesTwo.data.toList.drop 46 = dktX7_refusesTwo_2 := dk_seg dksX7_refusesTwo_1 22 rfl rfl
theorem dX7_refusesTwo_0 : decode cX7_refusesTwo 0 = .ok (.iload_n 1, 1) := dk_27 (dk_at dksX7_refusesTwo_0 0 rfl rfl)
theorem dX7_refusesTwo_1 : decode cX7_refusesTwo 1 = .ok (.iload_n 2, 1) := dk_28 (dk_at dksX7_refusesTwo_0 1 rfl rfl)
theorem dX7_refusesTwo_2 : decode cX7_refusesTwo 2 = .ok (.if_icmp .eq 11, 3) := dk_159 0 11 (dk_at dksX7_refusesTwo_0 2 rfl rfl)
theorem dX7_refusesTwo_5 : decode cX7_refusesTwo 5 = .ok (.aload_n 0, 1) := dk_42 (dk_at dksX7_refusesTwo_0 5 rfl rfl)
theorem dX7_refusesTwo_6 : decode cX7_refusesTwo 6 = .ok (.iload_n 2, 1) := dk_28 (dk_at dksX7_refusesTwo_0 6 rfl rfl)
theorem dX7_refusesTwo_7 : decode cX7_refusesTwo 7 = .ok (.invokevirtual 346, 3) := dk_182 1 90 (dk_at dksX7_refusesTwo_0 7 rfl rfl)
theorem dX7_refusesTwo_10 : decode cX7_refusesTwo 10 = .ok (.ifCond .ne 5, 3) := dk_154 0 5 (dk_at dksX7_refusesTwo_0 10 rfl rfl)
theorem dX7_refusesTwo_13 : decode cX7_refusesTwo 13 = .ok (.iconst 1, 1) := dk_4 (dk_at dksX7_refusesTwo_0 13 rfl rfl)
theorem dX7_refusesTwo_14 : decode cX7_refusesTwo 14 = .ok (.ireturn, 1) := dk_172 (dk_at dksX7_refusesTwo_0 14 rfl rfl)
theorem dX7_refusesTwo_15 : decode cX7_refusesTwo 15 = .ok (.aload_n 0, 1) := dk_42 (dk_at dksX7_refusesTwo_0 15 rfl rfl)
theorem dX7_refusesTwo_16 : decode cX7_refusesTwo 16 = .ok (.iload_n 1, 1) := dk_27 (dk_at dksX7_refusesTwo_0 16 rfl rfl)
theorem dX7_refusesTwo_17 : decode cX7_refusesTwo 17 = .ok (.iload_n 3, 1) := dk_29 (dk_at dksX7_refusesTwo_0 17 rfl rfl)
theorem dX7_refusesTwo_18 : decode cX7_refusesTwo 18 = .ok (.iload 4, 2) := dk_21 4 (dk_at dksX7_refusesTwo_0 18 rfl rfl)
theorem dX7_refusesTwo_20 : decode cX7_refusesTwo 20 = .ok (.iload 5, 2) := dk_21 5 (dk_at dksX7_refusesTwo_0 20 rfl rfl)
theorem dX7_refusesTwo_22 : decode cX7_refusesTwo 22 = .ok (.iload 6, 2) := dk_21 6 (dk_at dksX7_refusesTwo_0 22 rfl rfl)
theorem dX7_refusesTwo_24 : decode cX7_refusesTwo 24 = .ok (.invokevirtual 383, 3) := dk_182 1 127 (dk_at dksX7_refusesTwo_1 0 rfl rfl)
theorem dX7_refusesTwo_27 : decode cX7_refusesTwo 27 = .ok (.istore 7, 2) := dk_54 7 (dk_at dksX7_refusesTwo_1 3 rfl rfl)
theorem dX7_refusesTwo_29 : decode cX7_refusesTwo 29 = .ok (.iload 7, 2) := dk_21 7 (dk_at dksX7_refusesTwo_1 5 rfl rfl)
theorem dX7_refusesTwo_31 : decode cX7_refusesTwo 31 = .ok (.ifCond .le 8, 3) := dk_158 0 8 (dk_at dksX7_refusesTwo_1 7 rfl rfl)
theorem dX7_refusesTwo_34 : decode cX7_refusesTwo 34 = .ok (.iload 7, 2) := dk_21 7 (dk_at dksX7_refusesTwo_1 10 rfl rfl)
theorem dX7_refusesTwo_36 : decode cX7_refusesTwo 36 = .ok (.goto 18, 3) := dk_167 0 18 (dk_at dksX7_refusesTwo_1 12 rfl rfl)
theorem dX7_refusesTwo_39 : decode cX7_refusesTwo 39 = .ok (.aload_n 0, 1) := dk_42 (dk_at dksX7_refusesTwo_1 15 rfl rfl)
theorem dX7_refusesTwo_40 : decode cX7_refusesTwo 40 = .ok (.iload_n 2, 1) := dk_28 (dk_at dksX7_refusesTwo_1 16 rfl rfl)
theorem dX7_refusesTwo_41 : decode cX7_refusesTwo 41 = .ok (.iload 6, 2) := dk_21 6 (dk_at dksX7_refusesTwo_1 17 rfl rfl)
theorem dX7_refusesTwo_43 : decode cX7_refusesTwo 43 = .ok (.invokevirtual 355, 3) := dk_182 1 99 (dk_at dksX7_refusesTwo_1 19 rfl rfl)
theorem dX7_refusesTwo_46 : decode cX7_refusesTwo 46 = .ok (.ifCond .eq 7, 3) := dk_153 0 7 (dk_at dksX7_refusesTwo_2 0 rfl rfl)
theorem dX7_refusesTwo_49 : decode cX7_refusesTwo 49 = .ok (.iconst 0, 1) := dk_3 (dk_at dksX7_refusesTwo_2 3 rfl rfl)
theorem dX7_refusesTwo_50 : decode cX7_refusesTwo 50 = .ok (.goto 4, 3) := dk_167 0 4 (dk_at dksX7_refusesTwo_2 4 rfl rfl)
theorem dX7_refusesTwo_53 : decode cX7_refusesTwo 53 = .ok (.iconst 2, 1) := dk_5 (dk_at dksX7_refusesTwo_2 7 rfl rfl)
theorem dX7_refusesTwo_54 : decode cX7_refusesTwo 54 = .ok (.ireturn, 1) := dk_172 (dk_at dksX7_refusesTwo_2 8 rfl rfl)
abbrev cX7_together : ByteArray := prog_19_method_65_code
def yX7_together : MethodName := ⟨RX7, "together", "(IIIIII)J"⟩
def dkwX7_together_4 : List UInt8 := [180, 1, 26, 29, 46, 100, 133, 105, 17, 9, 216, 21, 6, 108, 133, 105, 173]
abbrev dktX7_together_4 : List UInt8 := dkwX7_together_4 ++ []
def dkwX7_together_3 : List UInt8 := [55, 7, 132, 9, 1, 167, 255, 187, 22, 7, 42, 180, 1, 82, 180, 1, 23, 29, 46, 42, 180, 1, 82]
abbrev dktX7_together_3 : List UInt8 := dkwX7_together_3 ++ dktX7_together_4
def dkwX7_together_2 : List UInt8 := [21, 4, 21, 5, 21, 6, 21, 9, 42, 180, 1, 82, 180, 1, 55, 27, 46, 3, 182, 1, 119, 133, 97]
abbrev dktX7_together_2 : List UInt8 := dkwX7_together_2 ++ dktX7_together_3
def dkwX7_together_1 : List UInt8 := [21, 9, 3, 42, 180, 1, 82, 180, 1, 55, 28, 46, 182, 1, 119, 133, 97, 55, 7, 22, 7, 42, 28, 29]
abbrev dktX7_together_1 : List UInt8 := dkwX7_together_1 ++ dktX7_together_2
def dkwX7_together_0 : List UInt8 := [9, 55, 7, 3, 54, 9, 21, 9, 8, 162, 0, 69, 22, 7, 42, 27, 29, 21, 4, 21, 5, 21, 6]
abbrev dktX7_together_0 : List UInt8 := dkwX7_together_0 ++ dktX7_together_1
theorem dksX7_together_0 : cX7_together.data.toList.drop 0 = dktX7_together_0 := by decide +kernel
theorem dksX7_together_1 : cX7_together.data.toList.drop 23 = dktX7_together_1 := dk_seg dksX7_together_0 23 rfl rfl
theorem dksX7_together_2 : cX7_together.data.toList.drop 47 = dktX7_together_2 := dk_seg dksX7_together_1 24 rfl rfl
theorem dksX7_together_3 : cX7_together.data.toList.drop 70 = dktX7_together_3 := dk_seg dksX7_together_2 23 rfl rfl
theorem dksX7_together_4 : cX7_together.data.toList.drop 93 = dktX7_together_4 := dk_seg dksX7_together_3 23 rfl rfl
theorem dX7_together_0 : decode cX7_together 0 = .ok (.lconst 0, 1) := dk_9 (dk_at dksX7_together_0 0 rfl rfl)
theorem dX7_together_1 : decode cX7_together 1 = .ok (.lstore 7, 2) := dk_55 7 (dk_at dksX7_together_0 1 rfl rfl)
theorem dX7_together_3 : decode cX7_together 3 = .ok (.iconst 0, 1) := dk_3 (dk_at dksX7_together_0 3 rfl rfl)
theorem dX7_together_4 : decode cX7_together 4 = .ok (.istore 9, 2) := dk_54 9 (dk_at dksX7_together_0 4 rfl rfl)
theorem dX7_together_6 : decode cX7_together 6 = .ok (.iload 9, 2) := dk_21 9 (dk_at dksX7_together_0 6 rfl rfl)
theorem dX7_together_8 : decode cX7_together 8 = .ok (.iconst 5, 1) := dk_8 (dk_at dksX7_together_0 8 rfl rfl)
theorem dX7_together_9 : decode cX7_together 9 = .ok (.if_icmp .ge 69, 3) := dk_162 0 69 (dk_at dksX7_together_0 9 rfl rfl)
theorem dX7_together_12 : decode cX7_together 12 = .ok (.lload 7, 2) := dk_22 7 (dk_at dksX7_together_0 12 rfl rfl)
theorem dX7_together_14 : decode cX7_together 14 = .ok (.aload_n 0, 1) := dk_42 (dk_at dksX7_together_0 14 rfl rfl)
theorem dX7_together_15 : decode cX7_together 15 = .ok (.iload_n 1, 1) := dk_27 (dk_at dksX7_together_0 15 rfl rfl)
theorem dX7_together_16 : decode cX7_together 16 = .ok (.iload_n 3, 1) := dk_29 (dk_at dksX7_together_0 16 rfl rfl)
theorem dX7_together_17 : decode cX7_together 17 = .ok (.iload 4, 2) := dk_21 4 (dk_at dksX7_together_0 17 rfl rfl)
theorem dX7_together_19 : decode cX7_together 19 = .ok (.iload 5, 2) := dk_21 5 (dk_at dksX7_together_0 19 rfl rfl)
theorem dX7_together_21 : decode cX7_together 21 = .ok (.iload 6, 2) := dk_21 6 (dk_at dksX7_together_0 21 rfl rfl)
theorem dX7_together_23 : decode cX7_together 23 = .ok (.iload 9, 2) := dk_21 9 (dk_at dksX7_together_1 0 rfl rfl)
theorem dX7_together_25 : decode cX7_together 25 = .ok (.iconst 0, 1) := dk_3 (dk_at dksX7_together_1 2 rfl rfl)
theorem dX7_together_26 : decode cX7_together 26 = .ok (.aload_n 0, 1) := dk_42 (dk_at dksX7_together_1 3 rfl rfl)
theorem dX7_together_27 : decode cX7_together 27 = .ok (.getfield 338, 3) := dk_180 1 82 (dk_at dksX7_together_1 4 rfl rfl)
theorem dX7_together_30 : decode cX7_together 30 = .ok (.getfield 311, 3) := dk_180 1 55 (dk_at dksX7_together_1 7 rfl rfl)
theorem dX7_together_33 : decode cX7_together 33 = .ok (.iload_n 2, 1) := dk_28 (dk_at dksX7_together_1 10 rfl rfl)
theorem dX7_together_34 : decode cX7_together 34 = .ok (.iaload, 1) := dk_46 (dk_at dksX7_together_1 11 rfl rfl)
theorem dX7_together_35 : decode cX7_together 35 = .ok (.invokevirtual 375, 3) := dk_182 1 119 (dk_at dksX7_together_1 12 rfl rfl)
theorem dX7_together_38 : decode cX7_together 38 = .ok (.i2l, 1) := dk_133 (dk_at dksX7_together_1 15 rfl rfl)
theorem dX7_together_39 : decode cX7_together 39 = .ok (.ladd, 1) := dk_97 (dk_at dksX7_together_1 16 rfl rfl)
theorem dX7_together_40 : decode cX7_together 40 = .ok (.lstore 7, 2) := dk_55 7 (dk_at dksX7_together_1 17 rfl rfl)
theorem dX7_together_42 : decode cX7_together 42 = .ok (.lload 7, 2) := dk_22 7 (dk_at dksX7_together_1 19 rfl rfl)
theorem dX7_together_44 : decode cX7_together 44 = .ok (.aload_n 0, 1) := dk_42 (dk_at dksX7_together_1 21 rfl rfl)
theorem dX7_together_45 : decode cX7_together 45 = .ok (.iload_n 2, 1) := dk_28 (dk_at dksX7_together_1 22 rfl rfl)
theorem dX7_together_46 : decode cX7_together 46 = .ok (.iload_n 3, 1) := dk_29 (dk_at dksX7_together_1 23 rfl rfl)
theorem dX7_together_47 : decode cX7_together 47 = .ok (.iload 4, 2) := dk_21 4 (dk_at dksX7_together_2 0 rfl rfl)
theorem dX7_together_49 : decode cX7_together 49 = .ok (.iload 5, 2) := dk_21 5 (dk_at dksX7_together_2 2 rfl rfl)
theorem dX7_together_51 : decode cX7_together 51 = .ok (.iload 6, 2) := dk_21 6 (dk_at dksX7_together_2 4 rfl rfl)
theorem dX7_together_53 : decode cX7_together 53 = .ok (.iload 9, 2) := dk_21 9 (dk_at dksX7_together_2 6 rfl rfl)
theorem dX7_together_55 : decode cX7_together 55 = .ok (.aload_n 0, 1) := dk_42 (dk_at dksX7_together_2 8 rfl rfl)
theorem dX7_together_56 : decode cX7_together 56 = .ok (.getfield 338, 3) := dk_180 1 82 (dk_at dksX7_together_2 9 rfl rfl)
theorem dX7_together_59 : decode cX7_together 59 = .ok (.getfield 311, 3) := dk_180 1 55 (dk_at dksX7_together_2 12 rfl rfl)
theorem dX7_together_62 : decode cX7_together 62 = .ok (.iload_n 1, 1) := dk_27 (dk_at dksX7_together_2 15 rfl rfl)
theorem dX7_together_63 : decode cX7_together 63 = .ok (.iaload, 1) := dk_46 (dk_at dksX7_together_2 16 rfl rfl)
theorem dX7_together_64 : decode cX7_together 64 = .ok (.iconst 0, 1) := dk_3 (dk_at dksX7_together_2 17 rfl rfl)
theorem dX7_together_65 : decode cX7_together 65 = .ok (.invokevirtual 375, 3) := dk_182 1 119 (dk_at dksX7_together_2 18 rfl rfl)
theorem dX7_together_68 : decode cX7_together 68 = .ok (.i2l, 1) := dk_133 (dk_at dksX7_together_2 21 rfl rfl)
theorem dX7_together_69 : decode cX7_together 69 = .ok (.ladd, 1) := dk_97 (dk_at dksX7_together_2 22 rfl rfl)
theorem dX7_together_70 : decode cX7_together 70 = .ok (.lstore 7, 2) := dk_55 7 (dk_at dksX7_together_3 0 rfl rfl)
theorem dX7_together_72 : decode cX7_together 72 = .ok (.iinc 9 1, 3) := dk_132 9 1 (dk_at dksX7_together_3 2 rfl rfl)
theorem dX7_together_75 : decode cX7_together 75 = .ok (.goto (-69), 3) := dk_167 255 187 (dk_at dksX7_together_3 5 rfl rfl)
theorem dX7_together_78 : decode cX7_together 78 = .ok (.lload 7, 2) := dk_22 7 (dk_at dksX7_together_3 8 rfl rfl)
theorem dX7_together_80 : decode cX7_together 80 = .ok (.aload_n 0, 1) := dk_42 (dk_at dksX7_together_3 10 rfl rfl)
theorem dX7_together_81 : decode cX7_together 81 = .ok (.getfield 338, 3) := dk_180 1 82 (dk_at dksX7_together_3 11 rfl rfl)
theorem dX7_together_84 : decode cX7_together 84 = .ok (.getfield 279, 3) := dk_180 1 23 (dk_at dksX7_together_3 14 rfl rfl)
theorem dX7_together_87 : decode cX7_together 87 = .ok (.iload_n 3, 1) := dk_29 (dk_at dksX7_together_3 17 rfl rfl)
theorem dX7_together_88 : decode cX7_together 88 = .ok (.iaload, 1) := dk_46 (dk_at dksX7_together_3 18 rfl rfl)
theorem dX7_together_89 : decode cX7_together 89 = .ok (.aload_n 0, 1) := dk_42 (dk_at dksX7_together_3 19 rfl rfl)
theorem dX7_together_90 : decode cX7_together 90 = .ok (.getfield 338, 3) := dk_180 1 82 (dk_at dksX7_together_3 20 rfl rfl)
theorem dX7_together_93 : decode cX7_together 93 = .ok (.getfield 282, 3) := dk_180 1 26 (dk_at dksX7_together_4 0 rfl rfl)
theorem dX7_together_96 : decode cX7_together 96 = .ok (.iload_n 3, 1) := dk_29 (dk_at dksX7_together_4 3 rfl rfl)
theorem dX7_together_97 : decode cX7_together 97 = .ok (.iaload, 1) := dk_46 (dk_at dksX7_together_4 4 rfl rfl)
theorem dX7_together_98 : decode cX7_together 98 = .ok (.isub, 1) := dk_100 (dk_at dksX7_together_4 5 rfl rfl)
theorem dX7_together_99 : decode cX7_together 99 = .ok (.i2l, 1) := dk_133 (dk_at dksX7_together_4 6 rfl rfl)
theorem dX7_together_100 : decode cX7_together 100 = .ok (.lmul, 1) := dk_105 (dk_at dksX7_together_4 7 rfl rfl)
theorem dX7_together_101 : decode cX7_together 101 = .ok (.sipush 2520, 3) := dk_17 9 216 (dk_at dksX7_together_4 8 rfl rfl)
theorem dX7_together_104 : decode cX7_together 104 = .ok (.iload 6, 2) := dk_21 6 (dk_at dksX7_together_4 11 rfl rfl)
theorem dX7_together_106 : decode cX7_together 106 = .ok (.idiv, 1) := dk_108 (dk_at dksX7_together_4 13 rfl rfl)
theorem dX7_together_107 : decode cX7_together 107 = .ok (.i2l, 1) := dk_133 (dk_at dksX7_together_4 14 rfl rfl)
theorem dX7_together_108 : decode cX7_together 108 = .ok (.lmul, 1) := dk_105 (dk_at dksX7_together_4 15 rfl rfl)
theorem dX7_together_109 : decode cX7_together 109 = .ok (.lreturn, 1) := dk_173 (dk_at dksX7_together_4 16 rfl rfl)
abbrev cX7_first : ByteArray := prog_19_method_68_code
def yX7_first : MethodName := ⟨RX7, "first", "(IIIIII)I"⟩
def dkwX7_first_4 : List UInt8 := [172]
abbrev dktX7_first_4 : List UInt8 := dkwX7_first_4 ++ []
def dkwX7_first_3 : List UInt8 := [156, 0, 7, 3, 167, 0, 17, 22, 10, 22, 8, 148, 156, 0, 7, 4, 167, 0, 5, 16, 254, 182, 0, 50]
abbrev dktX7_first_3 : List UInt8 := dkwX7_first_3 ++ dktX7_first_4
def dkwX7_first_2 : List UInt8 := [55, 8, 42, 28, 27, 29, 21, 4, 21, 5, 21, 6, 182, 1, 161, 55, 10, 42, 22, 8, 22, 10, 148]
abbrev dktX7_first_2 : List UInt8 := dkwX7_first_2 ++ dktX7_first_3
def dkwX7_first_1 : List UInt8 := [158, 0, 10, 42, 21, 7, 182, 0, 46, 172, 42, 27, 28, 29, 21, 4, 21, 5, 21, 6, 182, 1, 161]
abbrev dktX7_first_1 : List UInt8 := dkwX7_first_1 ++ dktX7_first_2
def dkwX7_first_0 : List UInt8 := [42, 3, 181, 0, 40, 42, 27, 28, 29, 21, 4, 21, 5, 21, 6, 182, 1, 157, 54, 7, 21, 7]
abbrev dktX7_first_0 : List UInt8 := dkwX7_first_0 ++ dktX7_first_1
theorem dksX7_first_0 : cX7_first.data.toList.drop 0 = dktX7_first_0 := by decide +kernel
theorem dksX7_first_1 : cX7_first.data.toList.drop 22 = dktX7_first_1 := dk_seg dksX7_first_0 22 rfl rfl
theorem dksX7_first_2 : cX7_first.data.toList.drop 45 = dktX7_first_2 := dk_seg dksX7_first_1 23 rfl rfl
theorem dksX7_first_3 : cX7_first.data.toList.drop 68 = dktX7_first_3 := dk_seg dksX7_first_2 23 rfl rfl
theorem dksX7_first_4 : cX7_first.data.toList.drop 92 = dktX7_first_4 := dk_seg dksX7_first_3 24 rfl rfl
theorem dX7_first_0 : decode cX7_first 0 = .ok (.aload_n 0, 1) := dk_42 (dk_at dksX7_first_0 0 rfl rfl)
theorem dX7_first_1 : decode cX7_first 1 = .ok (.iconst 0, 1) := dk_3 (dk_at dksX7_first_0 1 rfl rfl)
theorem dX7_first_2 : decode cX7_first 2 = .ok (.putfield 40, 3) := dk_181 0 40 (dk_at dksX7_first_0 2 rfl rfl)
theorem dX7_first_5 : decode cX7_first 5 = .ok (.aload_n 0, 1) := dk_42 (dk_at dksX7_first_0 5 rfl rfl)
theorem dX7_first_6 : decode cX7_first 6 = .ok (.iload_n 1, 1) := dk_27 (dk_at dksX7_first_0 6 rfl rfl)
theorem dX7_first_7 : decode cX7_first 7 = .ok (.iload_n 2, 1) := dk_28 (dk_at dksX7_first_0 7 rfl rfl)
theorem dX7_first_8 : decode cX7_first 8 = .ok (.iload_n 3, 1) := dk_29 (dk_at dksX7_first_0 8 rfl rfl)
theorem dX7_first_9 : decode cX7_first 9 = .ok (.iload 4, 2) := dk_21 4 (dk_at dksX7_first_0 9 rfl rfl)
theorem dX7_first_11 : decode cX7_first 11 = .ok (.iload 5, 2) := dk_21 5 (dk_at dksX7_first_0 11 rfl rfl)
theorem dX7_first_13 : decode cX7_first 13 = .ok (.iload 6, 2) := dk_21 6 (dk_at dksX7_first_0 13 rfl rfl)
theorem dX7_first_15 : decode cX7_first 15 = .ok (.invokevirtual 413, 3) := dk_182 1 157 (dk_at dksX7_first_0 15 rfl rfl)
theorem dX7_first_18 : decode cX7_first 18 = .ok (.istore 7, 2) := dk_54 7 (dk_at dksX7_first_0 18 rfl rfl)
theorem dX7_first_20 : decode cX7_first 20 = .ok (.iload 7, 2) := dk_21 7 (dk_at dksX7_first_0 20 rfl rfl)
theorem dX7_first_22 : decode cX7_first 22 = .ok (.ifCond .le 10, 3) := dk_158 0 10 (dk_at dksX7_first_1 0 rfl rfl)
theorem dX7_first_25 : decode cX7_first 25 = .ok (.aload_n 0, 1) := dk_42 (dk_at dksX7_first_1 3 rfl rfl)
theorem dX7_first_26 : decode cX7_first 26 = .ok (.iload 7, 2) := dk_21 7 (dk_at dksX7_first_1 4 rfl rfl)
theorem dX7_first_28 : decode cX7_first 28 = .ok (.invokevirtual 46, 3) := dk_182 0 46 (dk_at dksX7_first_1 6 rfl rfl)
theorem dX7_first_31 : decode cX7_first 31 = .ok (.ireturn, 1) := dk_172 (dk_at dksX7_first_1 9 rfl rfl)
theorem dX7_first_32 : decode cX7_first 32 = .ok (.aload_n 0, 1) := dk_42 (dk_at dksX7_first_1 10 rfl rfl)
theorem dX7_first_33 : decode cX7_first 33 = .ok (.iload_n 1, 1) := dk_27 (dk_at dksX7_first_1 11 rfl rfl)
theorem dX7_first_34 : decode cX7_first 34 = .ok (.iload_n 2, 1) := dk_28 (dk_at dksX7_first_1 12 rfl rfl)
theorem dX7_first_35 : decode cX7_first 35 = .ok (.iload_n 3, 1) := dk_29 (dk_at dksX7_first_1 13 rfl rfl)
theorem dX7_first_36 : decode cX7_first 36 = .ok (.iload 4, 2) := dk_21 4 (dk_at dksX7_first_1 14 rfl rfl)
theorem dX7_first_38 : decode cX7_first 38 = .ok (.iload 5, 2) := dk_21 5 (dk_at dksX7_first_1 16 rfl rfl)
theorem dX7_first_40 : decode cX7_first 40 = .ok (.iload 6, 2) := dk_21 6 (dk_at dksX7_first_1 18 rfl rfl)
theorem dX7_first_42 : decode cX7_first 42 = .ok (.invokevirtual 417, 3) := dk_182 1 161 (dk_at dksX7_first_1 20 rfl rfl)
theorem dX7_first_45 : decode cX7_first 45 = .ok (.lstore 8, 2) := dk_55 8 (dk_at dksX7_first_2 0 rfl rfl)
theorem dX7_first_47 : decode cX7_first 47 = .ok (.aload_n 0, 1) := dk_42 (dk_at dksX7_first_2 2 rfl rfl)
theorem dX7_first_48 : decode cX7_first 48 = .ok (.iload_n 2, 1) := dk_28 (dk_at dksX7_first_2 3 rfl rfl)
theorem dX7_first_49 : decode cX7_first 49 = .ok (.iload_n 1, 1) := dk_27 (dk_at dksX7_first_2 4 rfl rfl)
theorem dX7_first_50 : decode cX7_first 50 = .ok (.iload_n 3, 1) := dk_29 (dk_at dksX7_first_2 5 rfl rfl)
theorem dX7_first_51 : decode cX7_first 51 = .ok (.iload 4, 2) := dk_21 4 (dk_at dksX7_first_2 6 rfl rfl)
theorem dX7_first_53 : decode cX7_first 53 = .ok (.iload 5, 2) := dk_21 5 (dk_at dksX7_first_2 8 rfl rfl)
theorem dX7_first_55 : decode cX7_first 55 = .ok (.iload 6, 2) := dk_21 6 (dk_at dksX7_first_2 10 rfl rfl)
theorem dX7_first_57 : decode cX7_first 57 = .ok (.invokevirtual 417, 3) := dk_182 1 161 (dk_at dksX7_first_2 12 rfl rfl)
theorem dX7_first_60 : decode cX7_first 60 = .ok (.lstore 10, 2) := dk_55 10 (dk_at dksX7_first_2 15 rfl rfl)
theorem dX7_first_62 : decode cX7_first 62 = .ok (.aload_n 0, 1) := dk_42 (dk_at dksX7_first_2 17 rfl rfl)
theorem dX7_first_63 : decode cX7_first 63 = .ok (.lload 8, 2) := dk_22 8 (dk_at dksX7_first_2 18 rfl rfl)
theorem dX7_first_65 : decode cX7_first 65 = .ok (.lload 10, 2) := dk_22 10 (dk_at dksX7_first_2 20 rfl rfl)
theorem dX7_first_67 : decode cX7_first 67 = .ok (.lcmp, 1) := dk_148 (dk_at dksX7_first_2 22 rfl rfl)
theorem dX7_first_68 : decode cX7_first 68 = .ok (.ifCond .ge 7, 3) := dk_156 0 7 (dk_at dksX7_first_3 0 rfl rfl)
theorem dX7_first_71 : decode cX7_first 71 = .ok (.iconst 0, 1) := dk_3 (dk_at dksX7_first_3 3 rfl rfl)
theorem dX7_first_72 : decode cX7_first 72 = .ok (.goto 17, 3) := dk_167 0 17 (dk_at dksX7_first_3 4 rfl rfl)
theorem dX7_first_75 : decode cX7_first 75 = .ok (.lload 10, 2) := dk_22 10 (dk_at dksX7_first_3 7 rfl rfl)
theorem dX7_first_77 : decode cX7_first 77 = .ok (.lload 8, 2) := dk_22 8 (dk_at dksX7_first_3 9 rfl rfl)
theorem dX7_first_79 : decode cX7_first 79 = .ok (.lcmp, 1) := dk_148 (dk_at dksX7_first_3 11 rfl rfl)
theorem dX7_first_80 : decode cX7_first 80 = .ok (.ifCond .ge 7, 3) := dk_156 0 7 (dk_at dksX7_first_3 12 rfl rfl)
theorem dX7_first_83 : decode cX7_first 83 = .ok (.iconst 1, 1) := dk_4 (dk_at dksX7_first_3 15 rfl rfl)
theorem dX7_first_84 : decode cX7_first 84 = .ok (.goto 5, 3) := dk_167 0 5 (dk_at dksX7_first_3 16 rfl rfl)
theorem dX7_first_87 : decode cX7_first 87 = .ok (.bipush (-2), 2) := dk_16 254 (dk_at dksX7_first_3 19 rfl rfl)
theorem dX7_first_89 : decode cX7_first 89 = .ok (.invokevirtual 50, 3) := dk_182 0 50 (dk_at dksX7_first_3 21 rfl rfl)
theorem dX7_first_92 : decode cX7_first 92 = .ok (.ireturn, 1) := dk_172 (dk_at dksX7_first_4 0 rfl rfl)
abbrev cX7_least : ByteArray := prog_19_method_79_code
def yX7_least : MethodName := ⟨RX7, "least", "(IIIIIZ)J"⟩
def dkwX7_least_2 : List UInt8 := [21, 6, 182, 1, 133, 173]
abbrev dktX7_least_2 : List UInt8 := dkwX7_least_2 ++ []
def dkwX7_least_1 : List UInt8 := [21, 7, 182, 0, 46, 133, 167, 0, 23, 42, 42, 180, 0, 17, 28, 21, 4, 184, 1, 171, 47, 20, 1, 141]
abbrev dktX7_least_1 : List UInt8 := dkwX7_least_1 ++ dktX7_least_2
def dkwX7_least_0 : List UInt8 := [42, 3, 181, 0, 40, 42, 27, 28, 29, 21, 4, 21, 5, 182, 1, 206, 54, 7, 21, 7, 158, 0, 13, 42]
abbrev dktX7_least_0 : List UInt8 := dkwX7_least_0 ++ dktX7_least_1
theorem dksX7_least_0 : cX7_least.data.toList.drop 0 = dktX7_least_0 := by decide +kernel
theorem dksX7_least_1 : cX7_least.data.toList.drop 24 = dktX7_least_1 := dk_seg dksX7_least_0 24 rfl rfl
theorem dksX7_least_2 : cX7_least.data.toList.drop 48 = dktX7_least_2 := dk_seg dksX7_least_1 24 rfl rfl
theorem dX7_least_0 : decode cX7_least 0 = .ok (.aload_n 0, 1) := dk_42 (dk_at dksX7_least_0 0 rfl rfl)
theorem dX7_least_1 : decode cX7_least 1 = .ok (.iconst 0, 1) := dk_3 (dk_at dksX7_least_0 1 rfl rfl)
theorem dX7_least_2 : decode cX7_least 2 = .ok (.putfield 40, 3) := dk_181 0 40 (dk_at dksX7_least_0 2 rfl rfl)
theorem dX7_least_5 : decode cX7_least 5 = .ok (.aload_n 0, 1) := dk_42 (dk_at dksX7_least_0 5 rfl rfl)
theorem dX7_least_6 : decode cX7_least 6 = .ok (.iload_n 1, 1) := dk_27 (dk_at dksX7_least_0 6 rfl rfl)
theorem dX7_least_7 : decode cX7_least 7 = .ok (.iload_n 2, 1) := dk_28 (dk_at dksX7_least_0 7 rfl rfl)
theorem dX7_least_8 : decode cX7_least 8 = .ok (.iload_n 3, 1) := dk_29 (dk_at dksX7_least_0 8 rfl rfl)
theorem dX7_least_9 : decode cX7_least 9 = .ok (.iload 4, 2) := dk_21 4 (dk_at dksX7_least_0 9 rfl rfl)
theorem dX7_least_11 : decode cX7_least 11 = .ok (.iload 5, 2) := dk_21 5 (dk_at dksX7_least_0 11 rfl rfl)
theorem dX7_least_13 : decode cX7_least 13 = .ok (.invokevirtual 462, 3) := dk_182 1 206 (dk_at dksX7_least_0 13 rfl rfl)
theorem dX7_least_16 : decode cX7_least 16 = .ok (.istore 7, 2) := dk_54 7 (dk_at dksX7_least_0 16 rfl rfl)
theorem dX7_least_18 : decode cX7_least 18 = .ok (.iload 7, 2) := dk_21 7 (dk_at dksX7_least_0 18 rfl rfl)
theorem dX7_least_20 : decode cX7_least 20 = .ok (.ifCond .le 13, 3) := dk_158 0 13 (dk_at dksX7_least_0 20 rfl rfl)
theorem dX7_least_23 : decode cX7_least 23 = .ok (.aload_n 0, 1) := dk_42 (dk_at dksX7_least_0 23 rfl rfl)
theorem dX7_least_24 : decode cX7_least 24 = .ok (.iload 7, 2) := dk_21 7 (dk_at dksX7_least_1 0 rfl rfl)
theorem dX7_least_26 : decode cX7_least 26 = .ok (.invokevirtual 46, 3) := dk_182 0 46 (dk_at dksX7_least_1 2 rfl rfl)
theorem dX7_least_29 : decode cX7_least 29 = .ok (.i2l, 1) := dk_133 (dk_at dksX7_least_1 5 rfl rfl)
theorem dX7_least_30 : decode cX7_least 30 = .ok (.goto 23, 3) := dk_167 0 23 (dk_at dksX7_least_1 6 rfl rfl)
theorem dX7_least_33 : decode cX7_least 33 = .ok (.aload_n 0, 1) := dk_42 (dk_at dksX7_least_1 9 rfl rfl)
theorem dX7_least_34 : decode cX7_least 34 = .ok (.aload_n 0, 1) := dk_42 (dk_at dksX7_least_1 10 rfl rfl)
theorem dX7_least_35 : decode cX7_least 35 = .ok (.getfield 17, 3) := dk_180 0 17 (dk_at dksX7_least_1 11 rfl rfl)
theorem dX7_least_38 : decode cX7_least 38 = .ok (.iload_n 2, 1) := dk_28 (dk_at dksX7_least_1 14 rfl rfl)
theorem dX7_least_39 : decode cX7_least 39 = .ok (.iload 4, 2) := dk_21 4 (dk_at dksX7_least_1 15 rfl rfl)
theorem dX7_least_41 : decode cX7_least 41 = .ok (.invokestatic 427, 3) := dk_184 1 171 (dk_at dksX7_least_1 17 rfl rfl)
theorem dX7_least_44 : decode cX7_least 44 = .ok (.laload, 1) := dk_47 (dk_at dksX7_least_1 20 rfl rfl)
theorem dX7_least_45 : decode cX7_least 45 = .ok (.ldc2_w 397, 3) := dk_20 1 141 (dk_at dksX7_least_1 21 rfl rfl)
theorem dX7_least_48 : decode cX7_least 48 = .ok (.iload 6, 2) := dk_21 6 (dk_at dksX7_least_2 0 rfl rfl)
theorem dX7_least_50 : decode cX7_least 50 = .ok (.invokevirtual 389, 3) := dk_182 1 133 (dk_at dksX7_least_2 2 rfl rfl)
theorem dX7_least_53 : decode cX7_least 53 = .ok (.lreturn, 1) := dk_173 (dk_at dksX7_least_2 5 rfl rfl)
abbrev cX7_refusesWay : ByteArray := prog_19_method_78_code
def yX7_refusesWay : MethodName := ⟨RX7, "refusesWay", "(IIIII)I"⟩
def dkwX7_refusesWay_3 : List UInt8 := [20, 1, 174, 148, 154, 0, 8, 16, 6, 167, 0, 4, 3, 172]
abbrev dktX7_refusesWay_3 : List UInt8 := dkwX7_refusesWay_3 ++ []
def dkwX7_refusesWay_2 : List UInt8 := [154, 0, 5, 5, 172, 42, 27, 29, 21, 5, 182, 1, 202, 42, 180, 0, 17, 28, 21, 4, 184, 1, 171, 47]
abbrev dktX7_refusesWay_2 : List UInt8 := dkwX7_refusesWay_2 ++ dktX7_refusesWay_3
def dkwX7_refusesWay_1 : List UInt8 := [4, 172, 21, 5, 3, 17, 1, 144, 184, 0, 118, 153, 0, 14, 21, 4, 3, 21, 5, 184, 0, 118]
abbrev dktX7_refusesWay_1 : List UInt8 := dkwX7_refusesWay_1 ++ dktX7_refusesWay_2
def dkwX7_refusesWay_0 : List UInt8 := [42, 27, 182, 1, 90, 153, 0, 19, 42, 28, 182, 1, 199, 153, 0, 11, 42, 29, 182, 1, 199, 154, 0, 5]
abbrev dktX7_refusesWay_0 : List UInt8 := dkwX7_refusesWay_0 ++ dktX7_refusesWay_1
theorem dksX7_refusesWay_0 : cX7_refusesWay.data.toList.drop 0 = dktX7_refusesWay_0 := by decide +kernel
theorem dksX7_refusesWay_1 : cX7_refusesWay.data.toList.drop 24 = dktX7_refusesWay_1 := dk_seg dksX7_refusesWay_0 24 rfl rfl
theorem dksX7_refusesWay_2 : cX7_refusesWay.data.toList.drop 46 = dktX7_refusesWay_2 := dk_seg dksX7_refusesWay_1 22 rfl rfl
theorem dksX7_refusesWay_3 : cX7_refusesWay.data.toList.drop 70 = dktX7_refusesWay_3 := dk_seg dksX7_refusesWay_2 24 rfl rfl
theorem dX7_refusesWay_0 : decode cX7_refusesWay 0 = .ok (.aload_n 0, 1) := dk_42 (dk_at dksX7_refusesWay_0 0 rfl rfl)
theorem dX7_refusesWay_1 : decode cX7_refusesWay 1 = .ok (.iload_n 1, 1) := dk_27 (dk_at dksX7_refusesWay_0 1 rfl rfl)
theorem dX7_refusesWay_2 : decode cX7_refusesWay 2 = .ok (.invokevirtual 346, 3) := dk_182 1 90 (dk_at dksX7_refusesWay_0 2 rfl rfl)
theorem dX7_refusesWay_5 : decode cX7_refusesWay 5 = .ok (.ifCond .eq 19, 3) := dk_153 0 19 (dk_at dksX7_refusesWay_0 5 rfl rfl)
theorem dX7_refusesWay_8 : decode cX7_refusesWay 8 = .ok (.aload_n 0, 1) := dk_42 (dk_at dksX7_refusesWay_0 8 rfl rfl)
theorem dX7_refusesWay_9 : decode cX7_refusesWay 9 = .ok (.iload_n 2, 1) := dk_28 (dk_at dksX7_refusesWay_0 9 rfl rfl)
theorem dX7_refusesWay_10 : decode cX7_refusesWay 10 = .ok (.invokevirtual 455, 3) := dk_182 1 199 (dk_at dksX7_refusesWay_0 10 rfl rfl)
theorem dX7_refusesWay_13 : decode cX7_refusesWay 13 = .ok (.ifCond .eq 11, 3) := dk_153 0 11 (dk_at dksX7_refusesWay_0 13 rfl rfl)
theorem dX7_refusesWay_16 : decode cX7_refusesWay 16 = .ok (.aload_n 0, 1) := dk_42 (dk_at dksX7_refusesWay_0 16 rfl rfl)
theorem dX7_refusesWay_17 : decode cX7_refusesWay 17 = .ok (.iload_n 3, 1) := dk_29 (dk_at dksX7_refusesWay_0 17 rfl rfl)
theorem dX7_refusesWay_18 : decode cX7_refusesWay 18 = .ok (.invokevirtual 455, 3) := dk_182 1 199 (dk_at dksX7_refusesWay_0 18 rfl rfl)
theorem dX7_refusesWay_21 : decode cX7_refusesWay 21 = .ok (.ifCond .ne 5, 3) := dk_154 0 5 (dk_at dksX7_refusesWay_0 21 rfl rfl)
theorem dX7_refusesWay_24 : decode cX7_refusesWay 24 = .ok (.iconst 1, 1) := dk_4 (dk_at dksX7_refusesWay_1 0 rfl rfl)
theorem dX7_refusesWay_25 : decode cX7_refusesWay 25 = .ok (.ireturn, 1) := dk_172 (dk_at dksX7_refusesWay_1 1 rfl rfl)
theorem dX7_refusesWay_26 : decode cX7_refusesWay 26 = .ok (.iload 5, 2) := dk_21 5 (dk_at dksX7_refusesWay_1 2 rfl rfl)
theorem dX7_refusesWay_28 : decode cX7_refusesWay 28 = .ok (.iconst 0, 1) := dk_3 (dk_at dksX7_refusesWay_1 4 rfl rfl)
theorem dX7_refusesWay_29 : decode cX7_refusesWay 29 = .ok (.sipush 400, 3) := dk_17 1 144 (dk_at dksX7_refusesWay_1 5 rfl rfl)
theorem dX7_refusesWay_32 : decode cX7_refusesWay 32 = .ok (.invokestatic 118, 3) := dk_184 0 118 (dk_at dksX7_refusesWay_1 8 rfl rfl)
theorem dX7_refusesWay_35 : decode cX7_refusesWay 35 = .ok (.ifCond .eq 14, 3) := dk_153 0 14 (dk_at dksX7_refusesWay_1 11 rfl rfl)
theorem dX7_refusesWay_38 : decode cX7_refusesWay 38 = .ok (.iload 4, 2) := dk_21 4 (dk_at dksX7_refusesWay_1 14 rfl rfl)
theorem dX7_refusesWay_40 : decode cX7_refusesWay 40 = .ok (.iconst 0, 1) := dk_3 (dk_at dksX7_refusesWay_1 16 rfl rfl)
theorem dX7_refusesWay_41 : decode cX7_refusesWay 41 = .ok (.iload 5, 2) := dk_21 5 (dk_at dksX7_refusesWay_1 17 rfl rfl)
theorem dX7_refusesWay_43 : decode cX7_refusesWay 43 = .ok (.invokestatic 118, 3) := dk_184 0 118 (dk_at dksX7_refusesWay_1 19 rfl rfl)
theorem dX7_refusesWay_46 : decode cX7_refusesWay 46 = .ok (.ifCond .ne 5, 3) := dk_154 0 5 (dk_at dksX7_refusesWay_2 0 rfl rfl)
theorem dX7_refusesWay_49 : decode cX7_refusesWay 49 = .ok (.iconst 2, 1) := dk_5 (dk_at dksX7_refusesWay_2 3 rfl rfl)
theorem dX7_refusesWay_50 : decode cX7_refusesWay 50 = .ok (.ireturn, 1) := dk_172 (dk_at dksX7_refusesWay_2 4 rfl rfl)
theorem dX7_refusesWay_51 : decode cX7_refusesWay 51 = .ok (.aload_n 0, 1) := dk_42 (dk_at dksX7_refusesWay_2 5 rfl rfl)
theorem dX7_refusesWay_52 : decode cX7_refusesWay 52 = .ok (.iload_n 1, 1) := dk_27 (dk_at dksX7_refusesWay_2 6 rfl rfl)
theorem dX7_refusesWay_53 : decode cX7_refusesWay 53 = .ok (.iload_n 3, 1) := dk_29 (dk_at dksX7_refusesWay_2 7 rfl rfl)
theorem dX7_refusesWay_54 : decode cX7_refusesWay 54 = .ok (.iload 5, 2) := dk_21 5 (dk_at dksX7_refusesWay_2 8 rfl rfl)
theorem dX7_refusesWay_56 : decode cX7_refusesWay 56 = .ok (.invokevirtual 458, 3) := dk_182 1 202 (dk_at dksX7_refusesWay_2 10 rfl rfl)
theorem dX7_refusesWay_59 : decode cX7_refusesWay 59 = .ok (.aload_n 0, 1) := dk_42 (dk_at dksX7_refusesWay_2 13 rfl rfl)
theorem dX7_refusesWay_60 : decode cX7_refusesWay 60 = .ok (.getfield 17, 3) := dk_180 0 17 (dk_at dksX7_refusesWay_2 14 rfl rfl)
theorem dX7_refusesWay_63 : decode cX7_refusesWay 63 = .ok (.iload_n 2, 1) := dk_28 (dk_at dksX7_refusesWay_2 17 rfl rfl)
theorem dX7_refusesWay_64 : decode cX7_refusesWay 64 = .ok (.iload 4, 2) := dk_21 4 (dk_at dksX7_refusesWay_2 18 rfl rfl)
theorem dX7_refusesWay_66 : decode cX7_refusesWay 66 = .ok (.invokestatic 427, 3) := dk_184 1 171 (dk_at dksX7_refusesWay_2 20 rfl rfl)
theorem dX7_refusesWay_69 : decode cX7_refusesWay 69 = .ok (.laload, 1) := dk_47 (dk_at dksX7_refusesWay_2 23 rfl rfl)
theorem dX7_refusesWay_70 : decode cX7_refusesWay 70 = .ok (.ldc2_w 430, 3) := dk_20 1 174 (dk_at dksX7_refusesWay_3 0 rfl rfl)
theorem dX7_refusesWay_73 : decode cX7_refusesWay 73 = .ok (.lcmp, 1) := dk_148 (dk_at dksX7_refusesWay_3 3 rfl rfl)
theorem dX7_refusesWay_74 : decode cX7_refusesWay 74 = .ok (.ifCond .ne 8, 3) := dk_154 0 8 (dk_at dksX7_refusesWay_3 4 rfl rfl)
theorem dX7_refusesWay_77 : decode cX7_refusesWay 77 = .ok (.bipush 6, 2) := dk_16 6 (dk_at dksX7_refusesWay_3 7 rfl rfl)
theorem dX7_refusesWay_79 : decode cX7_refusesWay 79 = .ok (.goto 4, 3) := dk_167 0 4 (dk_at dksX7_refusesWay_3 9 rfl rfl)
theorem dX7_refusesWay_82 : decode cX7_refusesWay 82 = .ok (.iconst 0, 1) := dk_3 (dk_at dksX7_refusesWay_3 12 rfl rfl)
theorem dX7_refusesWay_83 : decode cX7_refusesWay 83 = .ok (.ireturn, 1) := dk_172 (dk_at dksX7_refusesWay_3 13 rfl rfl)
abbrev cX7_isPlace : ByteArray := prog_19_method_42_code
def yX7_isPlace : MethodName := ⟨RX7, "isPlace", "(I)Z"⟩
def dkwX7_isPlace_1 : List UInt8 := [167, 0, 4, 3, 172]
abbrev dktX7_isPlace_1 : List UInt8 := dkwX7_isPlace_1 ++ []
def dkwX7_isPlace_0 : List UInt8 := [42, 180, 1, 82, 198, 0, 22, 27, 155, 0, 18, 27, 42, 180, 1, 82, 180, 0, 190, 162, 0, 7, 4]
abbrev dktX7_isPlace_0 : List UInt8 := dkwX7_isPlace_0 ++ dktX7_isPlace_1
theorem dksX7_isPlace_0 : cX7_isPlace.data.toList.drop 0 = dktX7_isPlace_0 := by decide +kernel
theorem dksX7_isPlace_1 : cX7_isPlace.data.toList.drop 23 = dktX7_isPlace_1 := dk_seg dksX7_isPlace_0 23 rfl rfl
theorem dX7_isPlace_0 : decode cX7_isPlace 0 = .ok (.aload_n 0, 1) := dk_42 (dk_at dksX7_isPlace_0 0 rfl rfl)
theorem dX7_isPlace_1 : decode cX7_isPlace 1 = .ok (.getfield 338, 3) := dk_180 1 82 (dk_at dksX7_isPlace_0 1 rfl rfl)
theorem dX7_isPlace_4 : decode cX7_isPlace 4 = .ok (.ifnull 22, 3) := dk_198 0 22 (dk_at dksX7_isPlace_0 4 rfl rfl)
theorem dX7_isPlace_7 : decode cX7_isPlace 7 = .ok (.iload_n 1, 1) := dk_27 (dk_at dksX7_isPlace_0 7 rfl rfl)
theorem dX7_isPlace_8 : decode cX7_isPlace 8 = .ok (.ifCond .lt 18, 3) := dk_155 0 18 (dk_at dksX7_isPlace_0 8 rfl rfl)
theorem dX7_isPlace_11 : decode cX7_isPlace 11 = .ok (.iload_n 1, 1) := dk_27 (dk_at dksX7_isPlace_0 11 rfl rfl)
theorem dX7_isPlace_12 : decode cX7_isPlace 12 = .ok (.aload_n 0, 1) := dk_42 (dk_at dksX7_isPlace_0 12 rfl rfl)
theorem dX7_isPlace_13 : decode cX7_isPlace 13 = .ok (.getfield 338, 3) := dk_180 1 82 (dk_at dksX7_isPlace_0 13 rfl rfl)
theorem dX7_isPlace_16 : decode cX7_isPlace 16 = .ok (.getfield 190, 3) := dk_180 0 190 (dk_at dksX7_isPlace_0 16 rfl rfl)
theorem dX7_isPlace_19 : decode cX7_isPlace 19 = .ok (.if_icmp .ge 7, 3) := dk_162 0 7 (dk_at dksX7_isPlace_0 19 rfl rfl)
theorem dX7_isPlace_22 : decode cX7_isPlace 22 = .ok (.iconst 1, 1) := dk_4 (dk_at dksX7_isPlace_0 22 rfl rfl)
theorem dX7_isPlace_23 : decode cX7_isPlace 23 = .ok (.goto 4, 3) := dk_167 0 4 (dk_at dksX7_isPlace_1 0 rfl rfl)
theorem dX7_isPlace_26 : decode cX7_isPlace 26 = .ok (.iconst 0, 1) := dk_3 (dk_at dksX7_isPlace_1 3 rfl rfl)
theorem dX7_isPlace_27 : decode cX7_isPlace 27 = .ok (.ireturn, 1) := dk_172 (dk_at dksX7_isPlace_1 4 rfl rfl)
abbrev cX7_laysWays : ByteArray := prog_19_method_75_code
def yX7_laysWays : MethodName := ⟨RX7, "laysWays", "(III)V"⟩
def dkwX7_laysWays_4 : List UInt8 := [132, 4, 255, 167, 255, 165, 177]
abbrev dktX7_laysWays_4 : List UInt8 := dkwX7_laysWays_4 ++ []
def dkwX7_laysWays_3 : List UInt8 := [21, 5, 28, 159, 0, 13, 42, 27, 21, 5, 21, 4, 29, 182, 1, 176, 132, 5, 1, 167, 255, 179]
abbrev dktX7_laysWays_3 : List UInt8 := dkwX7_laysWays_3 ++ dktX7_laysWays_4
def dkwX7_laysWays_2 : List UInt8 := [167, 0, 6, 20, 1, 174, 80, 42, 180, 0, 21, 21, 6, 21, 4, 79, 42, 180, 0, 25, 21, 6, 2, 79]
abbrev dktX7_laysWays_2 : List UInt8 := dkwX7_laysWays_2 ++ dktX7_laysWays_3
def dkwX7_laysWays_1 : List UInt8 := [21, 5, 21, 4, 184, 1, 171, 54, 6, 42, 180, 0, 17, 21, 6, 21, 5, 28, 160, 0, 7, 9]
abbrev dktX7_laysWays_1 : List UInt8 := dkwX7_laysWays_1 ++ dktX7_laysWays_2
def dkwX7_laysWays_0 : List UInt8 := [29, 54, 4, 21, 4, 155, 0, 92, 3, 54, 5, 21, 5, 42, 180, 1, 82, 180, 0, 190, 162, 0, 71]
abbrev dktX7_laysWays_0 : List UInt8 := dkwX7_laysWays_0 ++ dktX7_laysWays_1
theorem dksX7_laysWays_0 : cX7_laysWays.data.toList.drop 0 = dktX7_laysWays_0 := by decide +kernel
theorem dksX7_laysWays_1 : cX7_laysWays.data.toList.drop 23 = dktX7_laysWays_1 := dk_seg dksX7_laysWays_0 23 rfl rfl
theorem dksX7_laysWays_2 : cX7_laysWays.data.toList.drop 45 = dktX7_laysWays_2 := dk_seg dksX7_laysWays_1 22 rfl rfl
theorem dksX7_laysWays_3 : cX7_laysWays.data.toList.drop 69 = dktX7_laysWays_3 := dk_seg dksX7_laysWays_2 24 rfl rfl
theorem dksX7_laysWays_4 : cX7_laysWays.data.toList.drop 91 = dktX7_laysWays_4 := dk_seg dksX7_laysWays_3 22 rfl rfl
theorem dX7_laysWays_0 : decode cX7_laysWays 0 = .ok (.iload_n 3, 1) := dk_29 (dk_at dksX7_laysWays_0 0 rfl rfl)
theorem dX7_laysWays_1 : decode cX7_laysWays 1 = .ok (.istore 4, 2) := dk_54 4 (dk_at dksX7_laysWays_0 1 rfl rfl)
theorem dX7_laysWays_3 : decode cX7_laysWays 3 = .ok (.iload 4, 2) := dk_21 4 (dk_at dksX7_laysWays_0 3 rfl rfl)
theorem dX7_laysWays_5 : decode cX7_laysWays 5 = .ok (.ifCond .lt 92, 3) := dk_155 0 92 (dk_at dksX7_laysWays_0 5 rfl rfl)
theorem dX7_laysWays_8 : decode cX7_laysWays 8 = .ok (.iconst 0, 1) := dk_3 (dk_at dksX7_laysWays_0 8 rfl rfl)
theorem dX7_laysWays_9 : decode cX7_laysWays 9 = .ok (.istore 5, 2) := dk_54 5 (dk_at dksX7_laysWays_0 9 rfl rfl)
theorem dX7_laysWays_11 : decode cX7_laysWays 11 = .ok (.iload 5, 2) := dk_21 5 (dk_at dksX7_laysWays_0 11 rfl rfl)
theorem dX7_laysWays_13 : decode cX7_laysWays 13 = .ok (.aload_n 0, 1) := dk_42 (dk_at dksX7_laysWays_0 13 rfl rfl)
theorem dX7_laysWays_14 : decode cX7_laysWays 14 = .ok (.getfield 338, 3) := dk_180 1 82 (dk_at dksX7_laysWays_0 14 rfl rfl)
theorem dX7_laysWays_17 : decode cX7_laysWays 17 = .ok (.getfield 190, 3) := dk_180 0 190 (dk_at dksX7_laysWays_0 17 rfl rfl)
theorem dX7_laysWays_20 : decode cX7_laysWays 20 = .ok (.if_icmp .ge 71, 3) := dk_162 0 71 (dk_at dksX7_laysWays_0 20 rfl rfl)
theorem dX7_laysWays_23 : decode cX7_laysWays 23 = .ok (.iload 5, 2) := dk_21 5 (dk_at dksX7_laysWays_1 0 rfl rfl)
theorem dX7_laysWays_25 : decode cX7_laysWays 25 = .ok (.iload 4, 2) := dk_21 4 (dk_at dksX7_laysWays_1 2 rfl rfl)
theorem dX7_laysWays_27 : decode cX7_laysWays 27 = .ok (.invokestatic 427, 3) := dk_184 1 171 (dk_at dksX7_laysWays_1 4 rfl rfl)
theorem dX7_laysWays_30 : decode cX7_laysWays 30 = .ok (.istore 6, 2) := dk_54 6 (dk_at dksX7_laysWays_1 7 rfl rfl)
theorem dX7_laysWays_32 : decode cX7_laysWays 32 = .ok (.aload_n 0, 1) := dk_42 (dk_at dksX7_laysWays_1 9 rfl rfl)
theorem dX7_laysWays_33 : decode cX7_laysWays 33 = .ok (.getfield 17, 3) := dk_180 0 17 (dk_at dksX7_laysWays_1 10 rfl rfl)
theorem dX7_laysWays_36 : decode cX7_laysWays 36 = .ok (.iload 6, 2) := dk_21 6 (dk_at dksX7_laysWays_1 13 rfl rfl)
theorem dX7_laysWays_38 : decode cX7_laysWays 38 = .ok (.iload 5, 2) := dk_21 5 (dk_at dksX7_laysWays_1 15 rfl rfl)
theorem dX7_laysWays_40 : decode cX7_laysWays 40 = .ok (.iload_n 2, 1) := dk_28 (dk_at dksX7_laysWays_1 17 rfl rfl)
theorem dX7_laysWays_41 : decode cX7_laysWays 41 = .ok (.if_icmp .ne 7, 3) := dk_160 0 7 (dk_at dksX7_laysWays_1 18 rfl rfl)
theorem dX7_laysWays_44 : decode cX7_laysWays 44 = .ok (.lconst 0, 1) := dk_9 (dk_at dksX7_laysWays_1 21 rfl rfl)
theorem dX7_laysWays_45 : decode cX7_laysWays 45 = .ok (.goto 6, 3) := dk_167 0 6 (dk_at dksX7_laysWays_2 0 rfl rfl)
theorem dX7_laysWays_48 : decode cX7_laysWays 48 = .ok (.ldc2_w 430, 3) := dk_20 1 174 (dk_at dksX7_laysWays_2 3 rfl rfl)
theorem dX7_laysWays_51 : decode cX7_laysWays 51 = .ok (.lastore, 1) := dk_80 (dk_at dksX7_laysWays_2 6 rfl rfl)
theorem dX7_laysWays_52 : decode cX7_laysWays 52 = .ok (.aload_n 0, 1) := dk_42 (dk_at dksX7_laysWays_2 7 rfl rfl)
theorem dX7_laysWays_53 : decode cX7_laysWays 53 = .ok (.getfield 21, 3) := dk_180 0 21 (dk_at dksX7_laysWays_2 8 rfl rfl)
theorem dX7_laysWays_56 : decode cX7_laysWays 56 = .ok (.iload 6, 2) := dk_21 6 (dk_at dksX7_laysWays_2 11 rfl rfl)
theorem dX7_laysWays_58 : decode cX7_laysWays 58 = .ok (.iload 4, 2) := dk_21 4 (dk_at dksX7_laysWays_2 13 rfl rfl)
theorem dX7_laysWays_60 : decode cX7_laysWays 60 = .ok (.iastore, 1) := dk_79 (dk_at dksX7_laysWays_2 15 rfl rfl)
theorem dX7_laysWays_61 : decode cX7_laysWays 61 = .ok (.aload_n 0, 1) := dk_42 (dk_at dksX7_laysWays_2 16 rfl rfl)
theorem dX7_laysWays_62 : decode cX7_laysWays 62 = .ok (.getfield 25, 3) := dk_180 0 25 (dk_at dksX7_laysWays_2 17 rfl rfl)
theorem dX7_laysWays_65 : decode cX7_laysWays 65 = .ok (.iload 6, 2) := dk_21 6 (dk_at dksX7_laysWays_2 20 rfl rfl)
theorem dX7_laysWays_67 : decode cX7_laysWays 67 = .ok (.iconst (-1), 1) := dk_2 (dk_at dksX7_laysWays_2 22 rfl rfl)
theorem dX7_laysWays_68 : decode cX7_laysWays 68 = .ok (.iastore, 1) := dk_79 (dk_at dksX7_laysWays_2 23 rfl rfl)
theorem dX7_laysWays_69 : decode cX7_laysWays 69 = .ok (.iload 5, 2) := dk_21 5 (dk_at dksX7_laysWays_3 0 rfl rfl)
theorem dX7_laysWays_71 : decode cX7_laysWays 71 = .ok (.iload_n 2, 1) := dk_28 (dk_at dksX7_laysWays_3 2 rfl rfl)
theorem dX7_laysWays_72 : decode cX7_laysWays 72 = .ok (.if_icmp .eq 13, 3) := dk_159 0 13 (dk_at dksX7_laysWays_3 3 rfl rfl)
theorem dX7_laysWays_75 : decode cX7_laysWays 75 = .ok (.aload_n 0, 1) := dk_42 (dk_at dksX7_laysWays_3 6 rfl rfl)
theorem dX7_laysWays_76 : decode cX7_laysWays 76 = .ok (.iload_n 1, 1) := dk_27 (dk_at dksX7_laysWays_3 7 rfl rfl)
theorem dX7_laysWays_77 : decode cX7_laysWays 77 = .ok (.iload 5, 2) := dk_21 5 (dk_at dksX7_laysWays_3 8 rfl rfl)
theorem dX7_laysWays_79 : decode cX7_laysWays 79 = .ok (.iload 4, 2) := dk_21 4 (dk_at dksX7_laysWays_3 10 rfl rfl)
theorem dX7_laysWays_81 : decode cX7_laysWays 81 = .ok (.iload_n 3, 1) := dk_29 (dk_at dksX7_laysWays_3 12 rfl rfl)
theorem dX7_laysWays_82 : decode cX7_laysWays 82 = .ok (.invokevirtual 432, 3) := dk_182 1 176 (dk_at dksX7_laysWays_3 13 rfl rfl)
theorem dX7_laysWays_85 : decode cX7_laysWays 85 = .ok (.iinc 5 1, 3) := dk_132 5 1 (dk_at dksX7_laysWays_3 16 rfl rfl)
theorem dX7_laysWays_88 : decode cX7_laysWays 88 = .ok (.goto (-77), 3) := dk_167 255 179 (dk_at dksX7_laysWays_3 19 rfl rfl)
theorem dX7_laysWays_91 : decode cX7_laysWays 91 = .ok (.iinc 4 (-1), 3) := dk_132 4 255 (dk_at dksX7_laysWays_4 0 rfl rfl)
theorem dX7_laysWays_94 : decode cX7_laysWays 94 = .ok (.goto (-91), 3) := dk_167 255 165 (dk_at dksX7_laysWays_4 3 rfl rfl)
theorem dX7_laysWays_97 : decode cX7_laysWays 97 = .ok (.return_, 1) := dk_177 (dk_at dksX7_laysWays_4 6 rfl rfl)
abbrev cX7_spotOf : ByteArray := prog_19_method_69_code
def yX7_spotOf : MethodName := ⟨RX7, "spotOf", "(II)I"⟩
def dkwX7_spotOf_0 : List UInt8 := [16, 8, 27, 104, 26, 96, 172]
abbrev dktX7_spotOf_0 : List UInt8 := dkwX7_spotOf_0 ++ []
theorem dksX7_spotOf_0 : cX7_spotOf.data.toList.drop 0 = dktX7_spotOf_0 := by decide +kernel
theorem dX7_spotOf_0 : decode cX7_spotOf 0 = .ok (.bipush 8, 2) := dk_16 8 (dk_at dksX7_spotOf_0 0 rfl rfl)
theorem dX7_spotOf_2 : decode cX7_spotOf 2 = .ok (.iload_n 1, 1) := dk_27 (dk_at dksX7_spotOf_0 2 rfl rfl)
theorem dX7_spotOf_3 : decode cX7_spotOf 3 = .ok (.imul, 1) := dk_104 (dk_at dksX7_spotOf_0 3 rfl rfl)
theorem dX7_spotOf_4 : decode cX7_spotOf 4 = .ok (.iload_n 0, 1) := dk_26 (dk_at dksX7_spotOf_0 4 rfl rfl)
theorem dX7_spotOf_5 : decode cX7_spotOf 5 = .ok (.iadd, 1) := dk_96 (dk_at dksX7_spotOf_0 5 rfl rfl)
theorem dX7_spotOf_6 : decode cX7_spotOf 6 = .ok (.ireturn, 1) := dk_172 (dk_at dksX7_spotOf_0 6 rfl rfl)
abbrev cX7_tries : ByteArray := prog_19_method_76_code
def yX7_tries : MethodName := ⟨RX7, "tries", "(IIII)V"⟩
def dkwX7_tries_8 : List UInt8 := [184, 1, 171, 42, 27, 28, 29, 182, 1, 195, 16, 254, 182, 1, 188, 177]
abbrev dktX7_tries_8 : List UInt8 := dkwX7_tries_8 ++ []
def dkwX7_tries_7 : List UInt8 := [182, 1, 192, 153, 0, 34, 29, 21, 4, 162, 0, 28, 42, 28, 29, 184, 1, 171, 28, 29, 4, 96]
abbrev dktX7_tries_7 : List UInt8 := dkwX7_tries_7 ++ dktX7_tries_8
def dkwX7_tries_6 : List UInt8 := [182, 1, 188, 132, 7, 1, 167, 255, 166, 132, 6, 1, 167, 255, 125, 132, 5, 1, 167, 255, 104, 42, 28]
abbrev dktX7_tries_6 : List UInt8 := dkwX7_tries_6 ++ dktX7_tries_7
def dkwX7_tries_5 : List UInt8 := [21, 6, 29, 21, 7, 182, 1, 185, 16, 100, 21, 5, 104, 16, 10, 21, 6, 104, 96, 21, 7, 96]
abbrev dktX7_tries_5 : List UInt8 := dkwX7_tries_5 ++ dktX7_tries_6
def dkwX7_tries_4 : List UInt8 := [184, 1, 171, 42, 180, 1, 82, 21, 5, 21, 6, 182, 1, 182, 21, 8, 184, 1, 171, 42, 27, 21, 5]
abbrev dktX7_tries_4 : List UInt8 := dkwX7_tries_4 ++ dktX7_tries_5
def dkwX7_tries_3 : List UInt8 := [180, 1, 82, 21, 5, 21, 7, 182, 1, 143, 96, 54, 8, 21, 8, 21, 4, 163, 0, 54, 42, 28, 29]
abbrev dktX7_tries_3 : List UInt8 := dkwX7_tries_3 ++ dktX7_tries_4
def dkwX7_tries_2 : List UInt8 := [180, 1, 61, 27, 46, 54, 7, 21, 7, 42, 180, 1, 82, 180, 1, 64, 27, 46, 163, 0, 82, 29, 42]
abbrev dktX7_tries_2 : List UInt8 := dkwX7_tries_2 ++ dktX7_tries_3
def dkwX7_tries_1 : List UInt8 := [42, 180, 1, 82, 21, 5, 21, 6, 182, 1, 180, 28, 159, 0, 6, 167, 0, 107, 42, 180, 1, 82]
abbrev dktX7_tries_1 : List UInt8 := dkwX7_tries_1 ++ dktX7_tries_2
def dkwX7_tries_0 : List UInt8 := [3, 54, 5, 21, 5, 42, 180, 1, 82, 180, 1, 8, 162, 0, 146, 3, 54, 6, 21, 6, 5, 162, 0, 131]
abbrev dktX7_tries_0 : List UInt8 := dkwX7_tries_0 ++ dktX7_tries_1
theorem dksX7_tries_0 : cX7_tries.data.toList.drop 0 = dktX7_tries_0 := by decide +kernel
theorem dksX7_tries_1 : cX7_tries.data.toList.drop 24 = dktX7_tries_1 := dk_seg dksX7_tries_0 24 rfl rfl
theorem dksX7_tries_2 : cX7_tries.data.toList.drop 46 = dktX7_tries_2 := dk_seg dksX7_tries_1 22 rfl rfl
theorem dksX7_tries_3 : cX7_tries.data.toList.drop 69 = dktX7_tries_3 := dk_seg dksX7_tries_2 23 rfl rfl
theorem dksX7_tries_4 : cX7_tries.data.toList.drop 92 = dktX7_tries_4 := dk_seg dksX7_tries_3 23 rfl rfl
theorem dksX7_tries_5 : cX7_tries.data.toList.drop 115 = dktX7_tries_5 := dk_seg dksX7_tries_4 23 rfl rfl
theorem dksX7_tries_6 : cX7_tries.data.toList.drop 137 = dktX7_tries_6 := dk_seg dksX7_tries_5 22 rfl rfl
theorem dksX7_tries_7 : cX7_tries.data.toList.drop 160 = dktX7_tries_7 := dk_seg dksX7_tries_6 23 rfl rfl
theorem dksX7_tries_8 : cX7_tries.data.toList.drop 182 = dktX7_tries_8 := dk_seg dksX7_tries_7 22 rfl rfl
theorem dX7_tries_0 : decode cX7_tries 0 = .ok (.iconst 0, 1) := dk_3 (dk_at dksX7_tries_0 0 rfl rfl)
theorem dX7_tries_1 : decode cX7_tries 1 = .ok (.istore 5, 2) := dk_54 5 (dk_at dksX7_tries_0 1 rfl rfl)
theorem dX7_tries_3 : decode cX7_tries 3 = .ok (.iload 5, 2) := dk_21 5 (dk_at dksX7_tries_0 3 rfl rfl)
theorem dX7_tries_5 : decode cX7_tries 5 = .ok (.aload_n 0, 1) := dk_42 (dk_at dksX7_tries_0 5 rfl rfl)
theorem dX7_tries_6 : decode cX7_tries 6 = .ok (.getfield 338, 3) := dk_180 1 82 (dk_at dksX7_tries_0 6 rfl rfl)
theorem dX7_tries_9 : decode cX7_tries 9 = .ok (.getfield 264, 3) := dk_180 1 8 (dk_at dksX7_tries_0 9 rfl rfl)
theorem dX7_tries_12 : decode cX7_tries 12 = .ok (.if_icmp .ge 146, 3) := dk_162 0 146 (dk_at dksX7_tries_0 12 rfl rfl)
theorem dX7_tries_15 : decode cX7_tries 15 = .ok (.iconst 0, 1) := dk_3 (dk_at dksX7_tries_0 15 rfl rfl)
theorem dX7_tries_16 : decode cX7_tries 16 = .ok (.istore 6, 2) := dk_54 6 (dk_at dksX7_tries_0 16 rfl rfl)
theorem dX7_tries_18 : decode cX7_tries 18 = .ok (.iload 6, 2) := dk_21 6 (dk_at dksX7_tries_0 18 rfl rfl)
theorem dX7_tries_20 : decode cX7_tries 20 = .ok (.iconst 2, 1) := dk_5 (dk_at dksX7_tries_0 20 rfl rfl)
theorem dX7_tries_21 : decode cX7_tries 21 = .ok (.if_icmp .ge 131, 3) := dk_162 0 131 (dk_at dksX7_tries_0 21 rfl rfl)
theorem dX7_tries_24 : decode cX7_tries 24 = .ok (.aload_n 0, 1) := dk_42 (dk_at dksX7_tries_1 0 rfl rfl)
theorem dX7_tries_25 : decode cX7_tries 25 = .ok (.getfield 338, 3) := dk_180 1 82 (dk_at dksX7_tries_1 1 rfl rfl)
theorem dX7_tries_28 : decode cX7_tries 28 = .ok (.iload 5, 2) := dk_21 5 (dk_at dksX7_tries_1 4 rfl rfl)
theorem dX7_tries_30 : decode cX7_tries 30 = .ok (.iload 6, 2) := dk_21 6 (dk_at dksX7_tries_1 6 rfl rfl)
theorem dX7_tries_32 : decode cX7_tries 32 = .ok (.invokevirtual 436, 3) := dk_182 1 180 (dk_at dksX7_tries_1 8 rfl rfl)
theorem dX7_tries_35 : decode cX7_tries 35 = .ok (.iload_n 2, 1) := dk_28 (dk_at dksX7_tries_1 11 rfl rfl)
theorem dX7_tries_36 : decode cX7_tries 36 = .ok (.if_icmp .eq 6, 3) := dk_159 0 6 (dk_at dksX7_tries_1 12 rfl rfl)
theorem dX7_tries_39 : decode cX7_tries 39 = .ok (.goto 107, 3) := dk_167 0 107 (dk_at dksX7_tries_1 15 rfl rfl)
theorem dX7_tries_42 : decode cX7_tries 42 = .ok (.aload_n 0, 1) := dk_42 (dk_at dksX7_tries_1 18 rfl rfl)
theorem dX7_tries_43 : decode cX7_tries 43 = .ok (.getfield 338, 3) := dk_180 1 82 (dk_at dksX7_tries_1 19 rfl rfl)
theorem dX7_tries_46 : decode cX7_tries 46 = .ok (.getfield 317, 3) := dk_180 1 61 (dk_at dksX7_tries_2 0 rfl rfl)
theorem dX7_tries_49 : decode cX7_tries 49 = .ok (.iload_n 1, 1) := dk_27 (dk_at dksX7_tries_2 3 rfl rfl)
theorem dX7_tries_50 : decode cX7_tries 50 = .ok (.iaload, 1) := dk_46 (dk_at dksX7_tries_2 4 rfl rfl)
theorem dX7_tries_51 : decode cX7_tries 51 = .ok (.istore 7, 2) := dk_54 7 (dk_at dksX7_tries_2 5 rfl rfl)
theorem dX7_tries_53 : decode cX7_tries 53 = .ok (.iload 7, 2) := dk_21 7 (dk_at dksX7_tries_2 7 rfl rfl)
theorem dX7_tries_55 : decode cX7_tries 55 = .ok (.aload_n 0, 1) := dk_42 (dk_at dksX7_tries_2 9 rfl rfl)
theorem dX7_tries_56 : decode cX7_tries 56 = .ok (.getfield 338, 3) := dk_180 1 82 (dk_at dksX7_tries_2 10 rfl rfl)
theorem dX7_tries_59 : decode cX7_tries 59 = .ok (.getfield 320, 3) := dk_180 1 64 (dk_at dksX7_tries_2 13 rfl rfl)
theorem dX7_tries_62 : decode cX7_tries 62 = .ok (.iload_n 1, 1) := dk_27 (dk_at dksX7_tries_2 16 rfl rfl)
theorem dX7_tries_63 : decode cX7_tries 63 = .ok (.iaload, 1) := dk_46 (dk_at dksX7_tries_2 17 rfl rfl)
theorem dX7_tries_64 : decode cX7_tries 64 = .ok (.if_icmp .gt 82, 3) := dk_163 0 82 (dk_at dksX7_tries_2 18 rfl rfl)
theorem dX7_tries_67 : decode cX7_tries 67 = .ok (.iload_n 3, 1) := dk_29 (dk_at dksX7_tries_2 21 rfl rfl)
theorem dX7_tries_68 : decode cX7_tries 68 = .ok (.aload_n 0, 1) := dk_42 (dk_at dksX7_tries_2 22 rfl rfl)
theorem dX7_tries_69 : decode cX7_tries 69 = .ok (.getfield 338, 3) := dk_180 1 82 (dk_at dksX7_tries_3 0 rfl rfl)
theorem dX7_tries_72 : decode cX7_tries 72 = .ok (.iload 5, 2) := dk_21 5 (dk_at dksX7_tries_3 3 rfl rfl)
theorem dX7_tries_74 : decode cX7_tries 74 = .ok (.iload 7, 2) := dk_21 7 (dk_at dksX7_tries_3 5 rfl rfl)
theorem dX7_tries_76 : decode cX7_tries 76 = .ok (.invokevirtual 399, 3) := dk_182 1 143 (dk_at dksX7_tries_3 7 rfl rfl)
theorem dX7_tries_79 : decode cX7_tries 79 = .ok (.iadd, 1) := dk_96 (dk_at dksX7_tries_3 10 rfl rfl)
theorem dX7_tries_80 : decode cX7_tries 80 = .ok (.istore 8, 2) := dk_54 8 (dk_at dksX7_tries_3 11 rfl rfl)
theorem dX7_tries_82 : decode cX7_tries 82 = .ok (.iload 8, 2) := dk_21 8 (dk_at dksX7_tries_3 13 rfl rfl)
theorem dX7_tries_84 : decode cX7_tries 84 = .ok (.iload 4, 2) := dk_21 4 (dk_at dksX7_tries_3 15 rfl rfl)
theorem dX7_tries_86 : decode cX7_tries 86 = .ok (.if_icmp .gt 54, 3) := dk_163 0 54 (dk_at dksX7_tries_3 17 rfl rfl)
theorem dX7_tries_89 : decode cX7_tries 89 = .ok (.aload_n 0, 1) := dk_42 (dk_at dksX7_tries_3 20 rfl rfl)
theorem dX7_tries_90 : decode cX7_tries 90 = .ok (.iload_n 2, 1) := dk_28 (dk_at dksX7_tries_3 21 rfl rfl)
theorem dX7_tries_91 : decode cX7_tries 91 = .ok (.iload_n 3, 1) := dk_29 (dk_at dksX7_tries_3 22 rfl rfl)
theorem dX7_tries_92 : decode cX7_tries 92 = .ok (.invokestatic 427, 3) := dk_184 1 171 (dk_at dksX7_tries_4 0 rfl rfl)
theorem dX7_tries_95 : decode cX7_tries 95 = .ok (.aload_n 0, 1) := dk_42 (dk_at dksX7_tries_4 3 rfl rfl)
theorem dX7_tries_96 : decode cX7_tries 96 = .ok (.getfield 338, 3) := dk_180 1 82 (dk_at dksX7_tries_4 4 rfl rfl)
theorem dX7_tries_99 : decode cX7_tries 99 = .ok (.iload 5, 2) := dk_21 5 (dk_at dksX7_tries_4 7 rfl rfl)
theorem dX7_tries_101 : decode cX7_tries 101 = .ok (.iload 6, 2) := dk_21 6 (dk_at dksX7_tries_4 9 rfl rfl)
theorem dX7_tries_103 : decode cX7_tries 103 = .ok (.invokevirtual 438, 3) := dk_182 1 182 (dk_at dksX7_tries_4 11 rfl rfl)
theorem dX7_tries_106 : decode cX7_tries 106 = .ok (.iload 8, 2) := dk_21 8 (dk_at dksX7_tries_4 14 rfl rfl)
theorem dX7_tries_108 : decode cX7_tries 108 = .ok (.invokestatic 427, 3) := dk_184 1 171 (dk_at dksX7_tries_4 16 rfl rfl)
theorem dX7_tries_111 : decode cX7_tries 111 = .ok (.aload_n 0, 1) := dk_42 (dk_at dksX7_tries_4 19 rfl rfl)
theorem dX7_tries_112 : decode cX7_tries 112 = .ok (.iload_n 1, 1) := dk_27 (dk_at dksX7_tries_4 20 rfl rfl)
theorem dX7_tries_113 : decode cX7_tries 113 = .ok (.iload 5, 2) := dk_21 5 (dk_at dksX7_tries_4 21 rfl rfl)
theorem dX7_tries_115 : decode cX7_tries 115 = .ok (.iload 6, 2) := dk_21 6 (dk_at dksX7_tries_5 0 rfl rfl)
theorem dX7_tries_117 : decode cX7_tries 117 = .ok (.iload_n 3, 1) := dk_29 (dk_at dksX7_tries_5 2 rfl rfl)
theorem dX7_tries_118 : decode cX7_tries 118 = .ok (.iload 7, 2) := dk_21 7 (dk_at dksX7_tries_5 3 rfl rfl)
theorem dX7_tries_120 : decode cX7_tries 120 = .ok (.invokevirtual 441, 3) := dk_182 1 185 (dk_at dksX7_tries_5 5 rfl rfl)
theorem dX7_tries_123 : decode cX7_tries 123 = .ok (.bipush 100, 2) := dk_16 100 (dk_at dksX7_tries_5 8 rfl rfl)
theorem dX7_tries_125 : decode cX7_tries 125 = .ok (.iload 5, 2) := dk_21 5 (dk_at dksX7_tries_5 10 rfl rfl)
theorem dX7_tries_127 : decode cX7_tries 127 = .ok (.imul, 1) := dk_104 (dk_at dksX7_tries_5 12 rfl rfl)
theorem dX7_tries_128 : decode cX7_tries 128 = .ok (.bipush 10, 2) := dk_16 10 (dk_at dksX7_tries_5 13 rfl rfl)
theorem dX7_tries_130 : decode cX7_tries 130 = .ok (.iload 6, 2) := dk_21 6 (dk_at dksX7_tries_5 15 rfl rfl)
theorem dX7_tries_132 : decode cX7_tries 132 = .ok (.imul, 1) := dk_104 (dk_at dksX7_tries_5 17 rfl rfl)
theorem dX7_tries_133 : decode cX7_tries 133 = .ok (.iadd, 1) := dk_96 (dk_at dksX7_tries_5 18 rfl rfl)
theorem dX7_tries_134 : decode cX7_tries 134 = .ok (.iload 7, 2) := dk_21 7 (dk_at dksX7_tries_5 19 rfl rfl)
theorem dX7_tries_136 : decode cX7_tries 136 = .ok (.iadd, 1) := dk_96 (dk_at dksX7_tries_5 21 rfl rfl)
theorem dX7_tries_137 : decode cX7_tries 137 = .ok (.invokevirtual 444, 3) := dk_182 1 188 (dk_at dksX7_tries_6 0 rfl rfl)
theorem dX7_tries_140 : decode cX7_tries 140 = .ok (.iinc 7 1, 3) := dk_132 7 1 (dk_at dksX7_tries_6 3 rfl rfl)
theorem dX7_tries_143 : decode cX7_tries 143 = .ok (.goto (-90), 3) := dk_167 255 166 (dk_at dksX7_tries_6 6 rfl rfl)
theorem dX7_tries_146 : decode cX7_tries 146 = .ok (.iinc 6 1, 3) := dk_132 6 1 (dk_at dksX7_tries_6 9 rfl rfl)
theorem dX7_tries_149 : decode cX7_tries 149 = .ok (.goto (-131), 3) := dk_167 255 125 (dk_at dksX7_tries_6 12 rfl rfl)
theorem dX7_tries_152 : decode cX7_tries 152 = .ok (.iinc 5 1, 3) := dk_132 5 1 (dk_at dksX7_tries_6 15 rfl rfl)
theorem dX7_tries_155 : decode cX7_tries 155 = .ok (.goto (-152), 3) := dk_167 255 104 (dk_at dksX7_tries_6 18 rfl rfl)
theorem dX7_tries_158 : decode cX7_tries 158 = .ok (.aload_n 0, 1) := dk_42 (dk_at dksX7_tries_6 21 rfl rfl)
theorem dX7_tries_159 : decode cX7_tries 159 = .ok (.iload_n 2, 1) := dk_28 (dk_at dksX7_tries_6 22 rfl rfl)
theorem dX7_tries_160 : decode cX7_tries 160 = .ok (.invokevirtual 448, 3) := dk_182 1 192 (dk_at dksX7_tries_7 0 rfl rfl)
theorem dX7_tries_163 : decode cX7_tries 163 = .ok (.ifCond .eq 34, 3) := dk_153 0 34 (dk_at dksX7_tries_7 3 rfl rfl)
theorem dX7_tries_166 : decode cX7_tries 166 = .ok (.iload_n 3, 1) := dk_29 (dk_at dksX7_tries_7 6 rfl rfl)
theorem dX7_tries_167 : decode cX7_tries 167 = .ok (.iload 4, 2) := dk_21 4 (dk_at dksX7_tries_7 7 rfl rfl)
theorem dX7_tries_169 : decode cX7_tries 169 = .ok (.if_icmp .ge 28, 3) := dk_162 0 28 (dk_at dksX7_tries_7 9 rfl rfl)
theorem dX7_tries_172 : decode cX7_tries 172 = .ok (.aload_n 0, 1) := dk_42 (dk_at dksX7_tries_7 12 rfl rfl)
theorem dX7_tries_173 : decode cX7_tries 173 = .ok (.iload_n 2, 1) := dk_28 (dk_at dksX7_tries_7 13 rfl rfl)
theorem dX7_tries_174 : decode cX7_tries 174 = .ok (.iload_n 3, 1) := dk_29 (dk_at dksX7_tries_7 14 rfl rfl)
theorem dX7_tries_175 : decode cX7_tries 175 = .ok (.invokestatic 427, 3) := dk_184 1 171 (dk_at dksX7_tries_7 15 rfl rfl)
theorem dX7_tries_178 : decode cX7_tries 178 = .ok (.iload_n 2, 1) := dk_28 (dk_at dksX7_tries_7 18 rfl rfl)
theorem dX7_tries_179 : decode cX7_tries 179 = .ok (.iload_n 3, 1) := dk_29 (dk_at dksX7_tries_7 19 rfl rfl)
theorem dX7_tries_180 : decode cX7_tries 180 = .ok (.iconst 1, 1) := dk_4 (dk_at dksX7_tries_7 20 rfl rfl)
theorem dX7_tries_181 : decode cX7_tries 181 = .ok (.iadd, 1) := dk_96 (dk_at dksX7_tries_7 21 rfl rfl)
theorem dX7_tries_182 : decode cX7_tries 182 = .ok (.invokestatic 427, 3) := dk_184 1 171 (dk_at dksX7_tries_8 0 rfl rfl)
theorem dX7_tries_185 : decode cX7_tries 185 = .ok (.aload_n 0, 1) := dk_42 (dk_at dksX7_tries_8 3 rfl rfl)
theorem dX7_tries_186 : decode cX7_tries 186 = .ok (.iload_n 1, 1) := dk_27 (dk_at dksX7_tries_8 4 rfl rfl)
theorem dX7_tries_187 : decode cX7_tries 187 = .ok (.iload_n 2, 1) := dk_28 (dk_at dksX7_tries_8 5 rfl rfl)
theorem dX7_tries_188 : decode cX7_tries 188 = .ok (.iload_n 3, 1) := dk_29 (dk_at dksX7_tries_8 6 rfl rfl)
theorem dX7_tries_189 : decode cX7_tries 189 = .ok (.invokevirtual 451, 3) := dk_182 1 195 (dk_at dksX7_tries_8 7 rfl rfl)
theorem dX7_tries_192 : decode cX7_tries 192 = .ok (.bipush (-2), 2) := dk_16 254 (dk_at dksX7_tries_8 10 rfl rfl)
theorem dX7_tries_194 : decode cX7_tries 194 = .ok (.invokevirtual 444, 3) := dk_182 1 188 (dk_at dksX7_tries_8 12 rfl rfl)
theorem dX7_tries_197 : decode cX7_tries 197 = .ok (.return_, 1) := dk_177 (dk_at dksX7_tries_8 15 rfl rfl)
abbrev cX7_meanOf : ByteArray := prog_19_method_71_code
def yX7_meanOf : MethodName := ⟨RX7, "meanOf", "(IIIII)J"⟩
def dkwX7_meanOf_1 : List UInt8 := [21, 6, 21, 5, 182, 1, 137, 42, 180, 1, 82, 180, 0, 246, 21, 6, 46, 133, 105, 167, 0, 4, 9, 173]
abbrev dktX7_meanOf_1 : List UInt8 := dkwX7_meanOf_1 ++ []
def dkwX7_meanOf_0 : List UInt8 := [42, 21, 4, 182, 1, 164, 54, 6, 21, 6, 42, 180, 1, 82, 180, 0, 219, 162, 0, 29, 42, 27, 28, 29]
abbrev dktX7_meanOf_0 : List UInt8 := dkwX7_meanOf_0 ++ dktX7_meanOf_1
theorem dksX7_meanOf_0 : cX7_meanOf.data.toList.drop 0 = dktX7_meanOf_0 := by decide +kernel
theorem dksX7_meanOf_1 : cX7_meanOf.data.toList.drop 24 = dktX7_meanOf_1 := dk_seg dksX7_meanOf_0 24 rfl rfl
theorem dX7_meanOf_0 : decode cX7_meanOf 0 = .ok (.aload_n 0, 1) := dk_42 (dk_at dksX7_meanOf_0 0 rfl rfl)
theorem dX7_meanOf_1 : decode cX7_meanOf 1 = .ok (.iload 4, 2) := dk_21 4 (dk_at dksX7_meanOf_0 1 rfl rfl)
theorem dX7_meanOf_3 : decode cX7_meanOf 3 = .ok (.invokevirtual 420, 3) := dk_182 1 164 (dk_at dksX7_meanOf_0 3 rfl rfl)
theorem dX7_meanOf_6 : decode cX7_meanOf 6 = .ok (.istore 6, 2) := dk_54 6 (dk_at dksX7_meanOf_0 6 rfl rfl)
theorem dX7_meanOf_8 : decode cX7_meanOf 8 = .ok (.iload 6, 2) := dk_21 6 (dk_at dksX7_meanOf_0 8 rfl rfl)
theorem dX7_meanOf_10 : decode cX7_meanOf 10 = .ok (.aload_n 0, 1) := dk_42 (dk_at dksX7_meanOf_0 10 rfl rfl)
theorem dX7_meanOf_11 : decode cX7_meanOf 11 = .ok (.getfield 338, 3) := dk_180 1 82 (dk_at dksX7_meanOf_0 11 rfl rfl)
theorem dX7_meanOf_14 : decode cX7_meanOf 14 = .ok (.getfield 219, 3) := dk_180 0 219 (dk_at dksX7_meanOf_0 14 rfl rfl)
theorem dX7_meanOf_17 : decode cX7_meanOf 17 = .ok (.if_icmp .ge 29, 3) := dk_162 0 29 (dk_at dksX7_meanOf_0 17 rfl rfl)
theorem dX7_meanOf_20 : decode cX7_meanOf 20 = .ok (.aload_n 0, 1) := dk_42 (dk_at dksX7_meanOf_0 20 rfl rfl)
theorem dX7_meanOf_21 : decode cX7_meanOf 21 = .ok (.iload_n 1, 1) := dk_27 (dk_at dksX7_meanOf_0 21 rfl rfl)
theorem dX7_meanOf_22 : decode cX7_meanOf 22 = .ok (.iload_n 2, 1) := dk_28 (dk_at dksX7_meanOf_0 22 rfl rfl)
theorem dX7_meanOf_23 : decode cX7_meanOf 23 = .ok (.iload_n 3, 1) := dk_29 (dk_at dksX7_meanOf_0 23 rfl rfl)
theorem dX7_meanOf_24 : decode cX7_meanOf 24 = .ok (.iload 6, 2) := dk_21 6 (dk_at dksX7_meanOf_1 0 rfl rfl)
theorem dX7_meanOf_26 : decode cX7_meanOf 26 = .ok (.iload 5, 2) := dk_21 5 (dk_at dksX7_meanOf_1 2 rfl rfl)
theorem dX7_meanOf_28 : decode cX7_meanOf 28 = .ok (.invokevirtual 393, 3) := dk_182 1 137 (dk_at dksX7_meanOf_1 4 rfl rfl)
theorem dX7_meanOf_31 : decode cX7_meanOf 31 = .ok (.aload_n 0, 1) := dk_42 (dk_at dksX7_meanOf_1 7 rfl rfl)
theorem dX7_meanOf_32 : decode cX7_meanOf 32 = .ok (.getfield 338, 3) := dk_180 1 82 (dk_at dksX7_meanOf_1 8 rfl rfl)
theorem dX7_meanOf_35 : decode cX7_meanOf 35 = .ok (.getfield 246, 3) := dk_180 0 246 (dk_at dksX7_meanOf_1 11 rfl rfl)
theorem dX7_meanOf_38 : decode cX7_meanOf 38 = .ok (.iload 6, 2) := dk_21 6 (dk_at dksX7_meanOf_1 14 rfl rfl)
theorem dX7_meanOf_40 : decode cX7_meanOf 40 = .ok (.iaload, 1) := dk_46 (dk_at dksX7_meanOf_1 16 rfl rfl)
theorem dX7_meanOf_41 : decode cX7_meanOf 41 = .ok (.i2l, 1) := dk_133 (dk_at dksX7_meanOf_1 17 rfl rfl)
theorem dX7_meanOf_42 : decode cX7_meanOf 42 = .ok (.lmul, 1) := dk_105 (dk_at dksX7_meanOf_1 18 rfl rfl)
theorem dX7_meanOf_43 : decode cX7_meanOf 43 = .ok (.goto 4, 3) := dk_167 0 4 (dk_at dksX7_meanOf_1 19 rfl rfl)
theorem dX7_meanOf_46 : decode cX7_meanOf 46 = .ok (.lconst 0, 1) := dk_9 (dk_at dksX7_meanOf_1 22 rfl rfl)
theorem dX7_meanOf_47 : decode cX7_meanOf 47 = .ok (.lreturn, 1) := dk_173 (dk_at dksX7_meanOf_1 23 rfl rfl)
abbrev cX7_hourOf : ByteArray := prog_19_method_70_code
def yX7_hourOf : MethodName := ⟨RX7, "hourOf", "(I)I"⟩
def dkwX7_hourOf_0 : List UInt8 := [27, 42, 180, 1, 82, 180, 0, 151, 108, 172]
abbrev dktX7_hourOf_0 : List UInt8 := dkwX7_hourOf_0 ++ []
theorem dksX7_hourOf_0 : cX7_hourOf.data.toList.drop 0 = dktX7_hourOf_0 := by decide +kernel
theorem dX7_hourOf_0 : decode cX7_hourOf 0 = .ok (.iload_n 1, 1) := dk_27 (dk_at dksX7_hourOf_0 0 rfl rfl)
theorem dX7_hourOf_1 : decode cX7_hourOf 1 = .ok (.aload_n 0, 1) := dk_42 (dk_at dksX7_hourOf_0 1 rfl rfl)
theorem dX7_hourOf_2 : decode cX7_hourOf 2 = .ok (.getfield 338, 3) := dk_180 1 82 (dk_at dksX7_hourOf_0 2 rfl rfl)
theorem dX7_hourOf_5 : decode cX7_hourOf 5 = .ok (.getfield 151, 3) := dk_180 0 151 (dk_at dksX7_hourOf_0 5 rfl rfl)
theorem dX7_hourOf_8 : decode cX7_hourOf 8 = .ok (.idiv, 1) := dk_108 (dk_at dksX7_hourOf_0 8 rfl rfl)
theorem dX7_hourOf_9 : decode cX7_hourOf 9 = .ok (.ireturn, 1) := dk_172 (dk_at dksX7_hourOf_0 9 rfl rfl)
abbrev cX7_takes : ByteArray := prog_19_method_77_code
def yX7_takes : MethodName := ⟨RX7, "takes", "(IIJI)V"⟩
def dkwX7_takes_4 : List UInt8 := [180, 0, 21, 28, 46, 79, 42, 180, 0, 25, 27, 21, 5, 79, 177]
abbrev dktX7_takes_4 : List UInt8 := dkwX7_takes_4 ++ []
def dkwX7_takes_3 : List UInt8 := [180, 0, 21, 27, 46, 161, 0, 4, 177, 42, 180, 0, 17, 27, 22, 6, 80, 42, 180, 0, 21, 27, 42]
abbrev dktX7_takes_3 : List UInt8 := dkwX7_takes_3 ++ dktX7_takes_4
def dkwX7_takes_2 : List UInt8 := [157, 0, 30, 22, 6, 42, 180, 0, 17, 27, 47, 148, 154, 0, 19, 42, 180, 0, 21, 28, 46, 42]
abbrev dktX7_takes_2 : List UInt8 := dkwX7_takes_2 ++ dktX7_takes_3
def dkwX7_takes_1 : List UInt8 := [42, 180, 0, 17, 27, 47, 20, 1, 174, 148, 153, 0, 43, 22, 6, 42, 180, 0, 17, 27, 47, 148]
abbrev dktX7_takes_1 : List UInt8 := dkwX7_takes_1 ++ dktX7_takes_2
def dkwX7_takes_0 : List UInt8 := [42, 180, 0, 17, 28, 47, 20, 1, 174, 148, 154, 0, 4, 177, 33, 42, 180, 0, 17, 28, 47, 97, 55, 6]
abbrev dktX7_takes_0 : List UInt8 := dkwX7_takes_0 ++ dktX7_takes_1
theorem dksX7_takes_0 : cX7_takes.data.toList.drop 0 = dktX7_takes_0 := by decide +kernel
theorem dksX7_takes_1 : cX7_takes.data.toList.drop 24 = dktX7_takes_1 := dk_seg dksX7_takes_0 24 rfl rfl
theorem dksX7_takes_2 : cX7_takes.data.toList.drop 46 = dktX7_takes_2 := dk_seg dksX7_takes_1 22 rfl rfl
theorem dksX7_takes_3 : cX7_takes.data.toList.drop 68 = dktX7_takes_3 := dk_seg dksX7_takes_2 22 rfl rfl
theorem dksX7_takes_4 : cX7_takes.data.toList.drop 91 = dktX7_takes_4 := dk_seg dksX7_takes_3 23 rfl rfl
theorem dX7_takes_0 : decode cX7_takes 0 = .ok (.aload_n 0, 1) := dk_42 (dk_at dksX7_takes_0 0 rfl rfl)
theorem dX7_takes_1 : decode cX7_takes 1 = .ok (.getfield 17, 3) := dk_180 0 17 (dk_at dksX7_takes_0 1 rfl rfl)
theorem dX7_takes_4 : decode cX7_takes 4 = .ok (.iload_n 2, 1) := dk_28 (dk_at dksX7_takes_0 4 rfl rfl)
theorem dX7_takes_5 : decode cX7_takes 5 = .ok (.laload, 1) := dk_47 (dk_at dksX7_takes_0 5 rfl rfl)
theorem dX7_takes_6 : decode cX7_takes 6 = .ok (.ldc2_w 430, 3) := dk_20 1 174 (dk_at dksX7_takes_0 6 rfl rfl)
theorem dX7_takes_9 : decode cX7_takes 9 = .ok (.lcmp, 1) := dk_148 (dk_at dksX7_takes_0 9 rfl rfl)
theorem dX7_takes_10 : decode cX7_takes 10 = .ok (.ifCond .ne 4, 3) := dk_154 0 4 (dk_at dksX7_takes_0 10 rfl rfl)
theorem dX7_takes_13 : decode cX7_takes 13 = .ok (.return_, 1) := dk_177 (dk_at dksX7_takes_0 13 rfl rfl)
theorem dX7_takes_14 : decode cX7_takes 14 = .ok (.lload_n 3, 1) := dk_33 (dk_at dksX7_takes_0 14 rfl rfl)
theorem dX7_takes_15 : decode cX7_takes 15 = .ok (.aload_n 0, 1) := dk_42 (dk_at dksX7_takes_0 15 rfl rfl)
theorem dX7_takes_16 : decode cX7_takes 16 = .ok (.getfield 17, 3) := dk_180 0 17 (dk_at dksX7_takes_0 16 rfl rfl)
theorem dX7_takes_19 : decode cX7_takes 19 = .ok (.iload_n 2, 1) := dk_28 (dk_at dksX7_takes_0 19 rfl rfl)
theorem dX7_takes_20 : decode cX7_takes 20 = .ok (.laload, 1) := dk_47 (dk_at dksX7_takes_0 20 rfl rfl)
theorem dX7_takes_21 : decode cX7_takes 21 = .ok (.ladd, 1) := dk_97 (dk_at dksX7_takes_0 21 rfl rfl)
theorem dX7_takes_22 : decode cX7_takes 22 = .ok (.lstore 6, 2) := dk_55 6 (dk_at dksX7_takes_0 22 rfl rfl)
theorem dX7_takes_24 : decode cX7_takes 24 = .ok (.aload_n 0, 1) := dk_42 (dk_at dksX7_takes_1 0 rfl rfl)
theorem dX7_takes_25 : decode cX7_takes 25 = .ok (.getfield 17, 3) := dk_180 0 17 (dk_at dksX7_takes_1 1 rfl rfl)
theorem dX7_takes_28 : decode cX7_takes 28 = .ok (.iload_n 1, 1) := dk_27 (dk_at dksX7_takes_1 4 rfl rfl)
theorem dX7_takes_29 : decode cX7_takes 29 = .ok (.laload, 1) := dk_47 (dk_at dksX7_takes_1 5 rfl rfl)
theorem dX7_takes_30 : decode cX7_takes 30 = .ok (.ldc2_w 430, 3) := dk_20 1 174 (dk_at dksX7_takes_1 6 rfl rfl)
theorem dX7_takes_33 : decode cX7_takes 33 = .ok (.lcmp, 1) := dk_148 (dk_at dksX7_takes_1 9 rfl rfl)
theorem dX7_takes_34 : decode cX7_takes 34 = .ok (.ifCond .eq 43, 3) := dk_153 0 43 (dk_at dksX7_takes_1 10 rfl rfl)
theorem dX7_takes_37 : decode cX7_takes 37 = .ok (.lload 6, 2) := dk_22 6 (dk_at dksX7_takes_1 13 rfl rfl)
theorem dX7_takes_39 : decode cX7_takes 39 = .ok (.aload_n 0, 1) := dk_42 (dk_at dksX7_takes_1 15 rfl rfl)
theorem dX7_takes_40 : decode cX7_takes 40 = .ok (.getfield 17, 3) := dk_180 0 17 (dk_at dksX7_takes_1 16 rfl rfl)
theorem dX7_takes_43 : decode cX7_takes 43 = .ok (.iload_n 1, 1) := dk_27 (dk_at dksX7_takes_1 19 rfl rfl)
theorem dX7_takes_44 : decode cX7_takes 44 = .ok (.laload, 1) := dk_47 (dk_at dksX7_takes_1 20 rfl rfl)
theorem dX7_takes_45 : decode cX7_takes 45 = .ok (.lcmp, 1) := dk_148 (dk_at dksX7_takes_1 21 rfl rfl)
theorem dX7_takes_46 : decode cX7_takes 46 = .ok (.ifCond .gt 30, 3) := dk_157 0 30 (dk_at dksX7_takes_2 0 rfl rfl)
theorem dX7_takes_49 : decode cX7_takes 49 = .ok (.lload 6, 2) := dk_22 6 (dk_at dksX7_takes_2 3 rfl rfl)
theorem dX7_takes_51 : decode cX7_takes 51 = .ok (.aload_n 0, 1) := dk_42 (dk_at dksX7_takes_2 5 rfl rfl)
theorem dX7_takes_52 : decode cX7_takes 52 = .ok (.getfield 17, 3) := dk_180 0 17 (dk_at dksX7_takes_2 6 rfl rfl)
theorem dX7_takes_55 : decode cX7_takes 55 = .ok (.iload_n 1, 1) := dk_27 (dk_at dksX7_takes_2 9 rfl rfl)
theorem dX7_takes_56 : decode cX7_takes 56 = .ok (.laload, 1) := dk_47 (dk_at dksX7_takes_2 10 rfl rfl)
theorem dX7_takes_57 : decode cX7_takes 57 = .ok (.lcmp, 1) := dk_148 (dk_at dksX7_takes_2 11 rfl rfl)
theorem dX7_takes_58 : decode cX7_takes 58 = .ok (.ifCond .ne 19, 3) := dk_154 0 19 (dk_at dksX7_takes_2 12 rfl rfl)
theorem dX7_takes_61 : decode cX7_takes 61 = .ok (.aload_n 0, 1) := dk_42 (dk_at dksX7_takes_2 15 rfl rfl)
theorem dX7_takes_62 : decode cX7_takes 62 = .ok (.getfield 21, 3) := dk_180 0 21 (dk_at dksX7_takes_2 16 rfl rfl)
theorem dX7_takes_65 : decode cX7_takes 65 = .ok (.iload_n 2, 1) := dk_28 (dk_at dksX7_takes_2 19 rfl rfl)
theorem dX7_takes_66 : decode cX7_takes 66 = .ok (.iaload, 1) := dk_46 (dk_at dksX7_takes_2 20 rfl rfl)
theorem dX7_takes_67 : decode cX7_takes 67 = .ok (.aload_n 0, 1) := dk_42 (dk_at dksX7_takes_2 21 rfl rfl)
theorem dX7_takes_68 : decode cX7_takes 68 = .ok (.getfield 21, 3) := dk_180 0 21 (dk_at dksX7_takes_3 0 rfl rfl)
theorem dX7_takes_71 : decode cX7_takes 71 = .ok (.iload_n 1, 1) := dk_27 (dk_at dksX7_takes_3 3 rfl rfl)
theorem dX7_takes_72 : decode cX7_takes 72 = .ok (.iaload, 1) := dk_46 (dk_at dksX7_takes_3 4 rfl rfl)
theorem dX7_takes_73 : decode cX7_takes 73 = .ok (.if_icmp .lt 4, 3) := dk_161 0 4 (dk_at dksX7_takes_3 5 rfl rfl)
theorem dX7_takes_76 : decode cX7_takes 76 = .ok (.return_, 1) := dk_177 (dk_at dksX7_takes_3 8 rfl rfl)
theorem dX7_takes_77 : decode cX7_takes 77 = .ok (.aload_n 0, 1) := dk_42 (dk_at dksX7_takes_3 9 rfl rfl)
theorem dX7_takes_78 : decode cX7_takes 78 = .ok (.getfield 17, 3) := dk_180 0 17 (dk_at dksX7_takes_3 10 rfl rfl)
theorem dX7_takes_81 : decode cX7_takes 81 = .ok (.iload_n 1, 1) := dk_27 (dk_at dksX7_takes_3 13 rfl rfl)
theorem dX7_takes_82 : decode cX7_takes 82 = .ok (.lload 6, 2) := dk_22 6 (dk_at dksX7_takes_3 14 rfl rfl)
theorem dX7_takes_84 : decode cX7_takes 84 = .ok (.lastore, 1) := dk_80 (dk_at dksX7_takes_3 16 rfl rfl)
theorem dX7_takes_85 : decode cX7_takes 85 = .ok (.aload_n 0, 1) := dk_42 (dk_at dksX7_takes_3 17 rfl rfl)
theorem dX7_takes_86 : decode cX7_takes 86 = .ok (.getfield 21, 3) := dk_180 0 21 (dk_at dksX7_takes_3 18 rfl rfl)
theorem dX7_takes_89 : decode cX7_takes 89 = .ok (.iload_n 1, 1) := dk_27 (dk_at dksX7_takes_3 21 rfl rfl)
theorem dX7_takes_90 : decode cX7_takes 90 = .ok (.aload_n 0, 1) := dk_42 (dk_at dksX7_takes_3 22 rfl rfl)
theorem dX7_takes_91 : decode cX7_takes 91 = .ok (.getfield 21, 3) := dk_180 0 21 (dk_at dksX7_takes_4 0 rfl rfl)
theorem dX7_takes_94 : decode cX7_takes 94 = .ok (.iload_n 2, 1) := dk_28 (dk_at dksX7_takes_4 3 rfl rfl)
theorem dX7_takes_95 : decode cX7_takes 95 = .ok (.iaload, 1) := dk_46 (dk_at dksX7_takes_4 4 rfl rfl)
theorem dX7_takes_96 : decode cX7_takes 96 = .ok (.iastore, 1) := dk_79 (dk_at dksX7_takes_4 5 rfl rfl)
theorem dX7_takes_97 : decode cX7_takes 97 = .ok (.aload_n 0, 1) := dk_42 (dk_at dksX7_takes_4 6 rfl rfl)
theorem dX7_takes_98 : decode cX7_takes 98 = .ok (.getfield 25, 3) := dk_180 0 25 (dk_at dksX7_takes_4 7 rfl rfl)
theorem dX7_takes_101 : decode cX7_takes 101 = .ok (.iload_n 1, 1) := dk_27 (dk_at dksX7_takes_4 10 rfl rfl)
theorem dX7_takes_102 : decode cX7_takes 102 = .ok (.iload 5, 2) := dk_21 5 (dk_at dksX7_takes_4 11 rfl rfl)
theorem dX7_takes_104 : decode cX7_takes 104 = .ok (.iastore, 1) := dk_79 (dk_at dksX7_takes_4 13 rfl rfl)
theorem dX7_takes_105 : decode cX7_takes 105 = .ok (.return_, 1) := dk_177 (dk_at dksX7_takes_4 14 rfl rfl)
abbrev cX7_canWait : ByteArray := prog_19_method_73_code
def yX7_canWait : MethodName := ⟨RX7, "canWait", "(I)Z"⟩
def dkwX7_canWait_1 : List UInt8 := [159, 0, 7, 4, 167, 0, 4, 3, 172]
abbrev dktX7_canWait_1 : List UInt8 := dkwX7_canWait_1 ++ []
def dkwX7_canWait_0 : List UInt8 := [42, 180, 1, 82, 180, 1, 2, 27, 51, 154, 0, 17, 42, 180, 1, 82, 180, 1, 6, 27, 46, 16, 254]
abbrev dktX7_canWait_0 : List UInt8 := dkwX7_canWait_0 ++ dktX7_canWait_1
theorem dksX7_canWait_0 : cX7_canWait.data.toList.drop 0 = dktX7_canWait_0 := by decide +kernel
theorem dksX7_canWait_1 : cX7_canWait.data.toList.drop 23 = dktX7_canWait_1 := dk_seg dksX7_canWait_0 23 rfl rfl
theorem dX7_canWait_0 : decode cX7_canWait 0 = .ok (.aload_n 0, 1) := dk_42 (dk_at dksX7_canWait_0 0 rfl rfl)
theorem dX7_canWait_1 : decode cX7_canWait 1 = .ok (.getfield 338, 3) := dk_180 1 82 (dk_at dksX7_canWait_0 1 rfl rfl)
theorem dX7_canWait_4 : decode cX7_canWait 4 = .ok (.getfield 258, 3) := dk_180 1 2 (dk_at dksX7_canWait_0 4 rfl rfl)
theorem dX7_canWait_7 : decode cX7_canWait 7 = .ok (.iload_n 1, 1) := dk_27 (dk_at dksX7_canWait_0 7 rfl rfl)
theorem dX7_canWait_8 : decode cX7_canWait 8 = .ok (.baload, 1) := dk_51 (dk_at dksX7_canWait_0 8 rfl rfl)
theorem dX7_canWait_9 : decode cX7_canWait 9 = .ok (.ifCond .ne 17, 3) := dk_154 0 17 (dk_at dksX7_canWait_0 9 rfl rfl)
theorem dX7_canWait_12 : decode cX7_canWait 12 = .ok (.aload_n 0, 1) := dk_42 (dk_at dksX7_canWait_0 12 rfl rfl)
theorem dX7_canWait_13 : decode cX7_canWait 13 = .ok (.getfield 338, 3) := dk_180 1 82 (dk_at dksX7_canWait_0 13 rfl rfl)
theorem dX7_canWait_16 : decode cX7_canWait 16 = .ok (.getfield 262, 3) := dk_180 1 6 (dk_at dksX7_canWait_0 16 rfl rfl)
theorem dX7_canWait_19 : decode cX7_canWait 19 = .ok (.iload_n 1, 1) := dk_27 (dk_at dksX7_canWait_0 19 rfl rfl)
theorem dX7_canWait_20 : decode cX7_canWait 20 = .ok (.iaload, 1) := dk_46 (dk_at dksX7_canWait_0 20 rfl rfl)
theorem dX7_canWait_21 : decode cX7_canWait 21 = .ok (.bipush (-2), 2) := dk_16 254 (dk_at dksX7_canWait_0 21 rfl rfl)
theorem dX7_canWait_23 : decode cX7_canWait 23 = .ok (.if_icmp .eq 7, 3) := dk_159 0 7 (dk_at dksX7_canWait_1 0 rfl rfl)
theorem dX7_canWait_26 : decode cX7_canWait 26 = .ok (.iconst 1, 1) := dk_4 (dk_at dksX7_canWait_1 3 rfl rfl)
theorem dX7_canWait_27 : decode cX7_canWait 27 = .ok (.goto 4, 3) := dk_167 0 4 (dk_at dksX7_canWait_1 4 rfl rfl)
theorem dX7_canWait_30 : decode cX7_canWait 30 = .ok (.iconst 0, 1) := dk_3 (dk_at dksX7_canWait_1 7 rfl rfl)
theorem dX7_canWait_31 : decode cX7_canWait 31 = .ok (.ireturn, 1) := dk_172 (dk_at dksX7_canWait_1 8 rfl rfl)
abbrev cX7_waitsOf : ByteArray := prog_19_method_74_code
def yX7_waitsOf : MethodName := ⟨RX7, "waitsOf", "(III)J"⟩
def dkwX7_waitsOf_2 : List UInt8 := [180, 0, 246, 21, 4, 46, 133, 105, 173]
abbrev dktX7_waitsOf_2 : List UInt8 := dkwX7_waitsOf_2 ++ []
def dkwX7_waitsOf_1 : List UInt8 := [180, 1, 82, 180, 0, 219, 161, 0, 7, 9, 167, 0, 21, 42, 27, 28, 182, 1, 167, 42, 180, 1, 82]
abbrev dktX7_waitsOf_1 : List UInt8 := dkwX7_waitsOf_1 ++ dktX7_waitsOf_2
def dkwX7_waitsOf_0 : List UInt8 := [42, 29, 182, 1, 164, 54, 4, 42, 180, 1, 82, 180, 1, 2, 28, 51, 154, 0, 15, 21, 4, 42]
abbrev dktX7_waitsOf_0 : List UInt8 := dkwX7_waitsOf_0 ++ dktX7_waitsOf_1
theorem dksX7_waitsOf_0 : cX7_waitsOf.data.toList.drop 0 = dktX7_waitsOf_0 := by decide +kernel
theorem dksX7_waitsOf_1 : cX7_waitsOf.data.toList.drop 22 = dktX7_waitsOf_1 := dk_seg dksX7_waitsOf_0 22 rfl rfl
theorem dksX7_waitsOf_2 : cX7_waitsOf.data.toList.drop 45 = dktX7_waitsOf_2 := dk_seg dksX7_waitsOf_1 23 rfl rfl
theorem dX7_waitsOf_0 : decode cX7_waitsOf 0 = .ok (.aload_n 0, 1) := dk_42 (dk_at dksX7_waitsOf_0 0 rfl rfl)
theorem dX7_waitsOf_1 : decode cX7_waitsOf 1 = .ok (.iload_n 3, 1) := dk_29 (dk_at dksX7_waitsOf_0 1 rfl rfl)
theorem dX7_waitsOf_2 : decode cX7_waitsOf 2 = .ok (.invokevirtual 420, 3) := dk_182 1 164 (dk_at dksX7_waitsOf_0 2 rfl rfl)
theorem dX7_waitsOf_5 : decode cX7_waitsOf 5 = .ok (.istore 4, 2) := dk_54 4 (dk_at dksX7_waitsOf_0 5 rfl rfl)
theorem dX7_waitsOf_7 : decode cX7_waitsOf 7 = .ok (.aload_n 0, 1) := dk_42 (dk_at dksX7_waitsOf_0 7 rfl rfl)
theorem dX7_waitsOf_8 : decode cX7_waitsOf 8 = .ok (.getfield 338, 3) := dk_180 1 82 (dk_at dksX7_waitsOf_0 8 rfl rfl)
theorem dX7_waitsOf_11 : decode cX7_waitsOf 11 = .ok (.getfield 258, 3) := dk_180 1 2 (dk_at dksX7_waitsOf_0 11 rfl rfl)
theorem dX7_waitsOf_14 : decode cX7_waitsOf 14 = .ok (.iload_n 2, 1) := dk_28 (dk_at dksX7_waitsOf_0 14 rfl rfl)
theorem dX7_waitsOf_15 : decode cX7_waitsOf 15 = .ok (.baload, 1) := dk_51 (dk_at dksX7_waitsOf_0 15 rfl rfl)
theorem dX7_waitsOf_16 : decode cX7_waitsOf 16 = .ok (.ifCond .ne 15, 3) := dk_154 0 15 (dk_at dksX7_waitsOf_0 16 rfl rfl)
theorem dX7_waitsOf_19 : decode cX7_waitsOf 19 = .ok (.iload 4, 2) := dk_21 4 (dk_at dksX7_waitsOf_0 19 rfl rfl)
theorem dX7_waitsOf_21 : decode cX7_waitsOf 21 = .ok (.aload_n 0, 1) := dk_42 (dk_at dksX7_waitsOf_0 21 rfl rfl)
theorem dX7_waitsOf_22 : decode cX7_waitsOf 22 = .ok (.getfield 338, 3) := dk_180 1 82 (dk_at dksX7_waitsOf_1 0 rfl rfl)
theorem dX7_waitsOf_25 : decode cX7_waitsOf 25 = .ok (.getfield 219, 3) := dk_180 0 219 (dk_at dksX7_waitsOf_1 3 rfl rfl)
theorem dX7_waitsOf_28 : decode cX7_waitsOf 28 = .ok (.if_icmp .lt 7, 3) := dk_161 0 7 (dk_at dksX7_waitsOf_1 6 rfl rfl)
theorem dX7_waitsOf_31 : decode cX7_waitsOf 31 = .ok (.lconst 0, 1) := dk_9 (dk_at dksX7_waitsOf_1 9 rfl rfl)
theorem dX7_waitsOf_32 : decode cX7_waitsOf 32 = .ok (.goto 21, 3) := dk_167 0 21 (dk_at dksX7_waitsOf_1 10 rfl rfl)
theorem dX7_waitsOf_35 : decode cX7_waitsOf 35 = .ok (.aload_n 0, 1) := dk_42 (dk_at dksX7_waitsOf_1 13 rfl rfl)
theorem dX7_waitsOf_36 : decode cX7_waitsOf 36 = .ok (.iload_n 1, 1) := dk_27 (dk_at dksX7_waitsOf_1 14 rfl rfl)
theorem dX7_waitsOf_37 : decode cX7_waitsOf 37 = .ok (.iload_n 2, 1) := dk_28 (dk_at dksX7_waitsOf_1 15 rfl rfl)
theorem dX7_waitsOf_38 : decode cX7_waitsOf 38 = .ok (.invokevirtual 423, 3) := dk_182 1 167 (dk_at dksX7_waitsOf_1 16 rfl rfl)
theorem dX7_waitsOf_41 : decode cX7_waitsOf 41 = .ok (.aload_n 0, 1) := dk_42 (dk_at dksX7_waitsOf_1 19 rfl rfl)
theorem dX7_waitsOf_42 : decode cX7_waitsOf 42 = .ok (.getfield 338, 3) := dk_180 1 82 (dk_at dksX7_waitsOf_1 20 rfl rfl)
theorem dX7_waitsOf_45 : decode cX7_waitsOf 45 = .ok (.getfield 246, 3) := dk_180 0 246 (dk_at dksX7_waitsOf_2 0 rfl rfl)
theorem dX7_waitsOf_48 : decode cX7_waitsOf 48 = .ok (.iload 4, 2) := dk_21 4 (dk_at dksX7_waitsOf_2 3 rfl rfl)
theorem dX7_waitsOf_50 : decode cX7_waitsOf 50 = .ok (.iaload, 1) := dk_46 (dk_at dksX7_waitsOf_2 5 rfl rfl)
theorem dX7_waitsOf_51 : decode cX7_waitsOf 51 = .ok (.i2l, 1) := dk_133 (dk_at dksX7_waitsOf_2 6 rfl rfl)
theorem dX7_waitsOf_52 : decode cX7_waitsOf 52 = .ok (.lmul, 1) := dk_105 (dk_at dksX7_waitsOf_2 7 rfl rfl)
theorem dX7_waitsOf_53 : decode cX7_waitsOf 53 = .ok (.lreturn, 1) := dk_173 (dk_at dksX7_waitsOf_2 8 rfl rfl)
abbrev cX7_drips : ByteArray := prog_19_method_72_code
def yX7_drips : MethodName := ⟨RX7, "drips", "(II)J"⟩
def dkwX7_drips_1 : List UInt8 := [182, 1, 103, 184, 1, 116, 133, 105, 20, 1, 131, 105, 173]
abbrev dktX7_drips_1 : List UInt8 := dkwX7_drips_1 ++ []
def dkwX7_drips_0 : List UInt8 := [42, 180, 1, 82, 180, 1, 6, 28, 46, 133, 42, 180, 1, 82, 180, 1, 52, 27, 46, 42, 180, 1, 82, 27]
abbrev dktX7_drips_0 : List UInt8 := dkwX7_drips_0 ++ dktX7_drips_1
theorem dksX7_drips_0 : cX7_drips.data.toList.drop 0 = dktX7_drips_0 := by decide +kernel
theorem dksX7_drips_1 : cX7_drips.data.toList.drop 24 = dktX7_drips_1 := dk_seg dksX7_drips_0 24 rfl rfl
theorem dX7_drips_0 : decode cX7_drips 0 = .ok (.aload_n 0, 1) := dk_42 (dk_at dksX7_drips_0 0 rfl rfl)
theorem dX7_drips_1 : decode cX7_drips 1 = .ok (.getfield 338, 3) := dk_180 1 82 (dk_at dksX7_drips_0 1 rfl rfl)
theorem dX7_drips_4 : decode cX7_drips 4 = .ok (.getfield 262, 3) := dk_180 1 6 (dk_at dksX7_drips_0 4 rfl rfl)
theorem dX7_drips_7 : decode cX7_drips 7 = .ok (.iload_n 2, 1) := dk_28 (dk_at dksX7_drips_0 7 rfl rfl)
theorem dX7_drips_8 : decode cX7_drips 8 = .ok (.iaload, 1) := dk_46 (dk_at dksX7_drips_0 8 rfl rfl)
theorem dX7_drips_9 : decode cX7_drips 9 = .ok (.i2l, 1) := dk_133 (dk_at dksX7_drips_0 9 rfl rfl)
theorem dX7_drips_10 : decode cX7_drips 10 = .ok (.aload_n 0, 1) := dk_42 (dk_at dksX7_drips_0 10 rfl rfl)
theorem dX7_drips_11 : decode cX7_drips 11 = .ok (.getfield 338, 3) := dk_180 1 82 (dk_at dksX7_drips_0 11 rfl rfl)
theorem dX7_drips_14 : decode cX7_drips 14 = .ok (.getfield 308, 3) := dk_180 1 52 (dk_at dksX7_drips_0 14 rfl rfl)
theorem dX7_drips_17 : decode cX7_drips 17 = .ok (.iload_n 1, 1) := dk_27 (dk_at dksX7_drips_0 17 rfl rfl)
theorem dX7_drips_18 : decode cX7_drips 18 = .ok (.iaload, 1) := dk_46 (dk_at dksX7_drips_0 18 rfl rfl)
theorem dX7_drips_19 : decode cX7_drips 19 = .ok (.aload_n 0, 1) := dk_42 (dk_at dksX7_drips_0 19 rfl rfl)
theorem dX7_drips_20 : decode cX7_drips 20 = .ok (.getfield 338, 3) := dk_180 1 82 (dk_at dksX7_drips_0 20 rfl rfl)
theorem dX7_drips_23 : decode cX7_drips 23 = .ok (.iload_n 1, 1) := dk_27 (dk_at dksX7_drips_0 23 rfl rfl)
theorem dX7_drips_24 : decode cX7_drips 24 = .ok (.invokevirtual 359, 3) := dk_182 1 103 (dk_at dksX7_drips_1 0 rfl rfl)
theorem dX7_drips_27 : decode cX7_drips 27 = .ok (.invokestatic 372, 3) := dk_184 1 116 (dk_at dksX7_drips_1 3 rfl rfl)
theorem dX7_drips_30 : decode cX7_drips 30 = .ok (.i2l, 1) := dk_133 (dk_at dksX7_drips_1 6 rfl rfl)
theorem dX7_drips_31 : decode cX7_drips 31 = .ok (.lmul, 1) := dk_105 (dk_at dksX7_drips_1 7 rfl rfl)
theorem dX7_drips_32 : decode cX7_drips 32 = .ok (.ldc2_w 387, 3) := dk_20 1 131 (dk_at dksX7_drips_1 8 rfl rfl)
theorem dX7_drips_35 : decode cX7_drips 35 = .ok (.lmul, 1) := dk_105 (dk_at dksX7_drips_1 11 rfl rfl)
theorem dX7_drips_36 : decode cX7_drips 36 = .ok (.lreturn, 1) := dk_173 (dk_at dksX7_drips_1 12 rfl rfl)
abbrev cX7_there : ByteArray := prog_19_method_80_code
def yX7_there : MethodName := ⟨RX7, "there", "(IIIII)I"⟩
def dkwX7_there_1 : List UInt8 := [21, 6, 182, 0, 46, 167, 0, 18, 42, 42, 180, 0, 21, 28, 21, 4, 184, 1, 171, 46, 182, 0, 50, 172]
abbrev dktX7_there_1 : List UInt8 := dkwX7_there_1 ++ []
def dkwX7_there_0 : List UInt8 := [42, 3, 181, 0, 40, 42, 27, 28, 29, 21, 4, 21, 5, 182, 1, 206, 54, 6, 21, 6, 158, 0, 12, 42]
abbrev dktX7_there_0 : List UInt8 := dkwX7_there_0 ++ dktX7_there_1
theorem dksX7_there_0 : cX7_there.data.toList.drop 0 = dktX7_there_0 := by decide +kernel
theorem dksX7_there_1 : cX7_there.data.toList.drop 24 = dktX7_there_1 := dk_seg dksX7_there_0 24 rfl rfl
theorem dX7_there_0 : decode cX7_there 0 = .ok (.aload_n 0, 1) := dk_42 (dk_at dksX7_there_0 0 rfl rfl)
theorem dX7_there_1 : decode cX7_there 1 = .ok (.iconst 0, 1) := dk_3 (dk_at dksX7_there_0 1 rfl rfl)
theorem dX7_there_2 : decode cX7_there 2 = .ok (.putfield 40, 3) := dk_181 0 40 (dk_at dksX7_there_0 2 rfl rfl)
theorem dX7_there_5 : decode cX7_there 5 = .ok (.aload_n 0, 1) := dk_42 (dk_at dksX7_there_0 5 rfl rfl)
theorem dX7_there_6 : decode cX7_there 6 = .ok (.iload_n 1, 1) := dk_27 (dk_at dksX7_there_0 6 rfl rfl)
theorem dX7_there_7 : decode cX7_there 7 = .ok (.iload_n 2, 1) := dk_28 (dk_at dksX7_there_0 7 rfl rfl)
theorem dX7_there_8 : decode cX7_there 8 = .ok (.iload_n 3, 1) := dk_29 (dk_at dksX7_there_0 8 rfl rfl)
theorem dX7_there_9 : decode cX7_there 9 = .ok (.iload 4, 2) := dk_21 4 (dk_at dksX7_there_0 9 rfl rfl)
theorem dX7_there_11 : decode cX7_there 11 = .ok (.iload 5, 2) := dk_21 5 (dk_at dksX7_there_0 11 rfl rfl)
theorem dX7_there_13 : decode cX7_there 13 = .ok (.invokevirtual 462, 3) := dk_182 1 206 (dk_at dksX7_there_0 13 rfl rfl)
theorem dX7_there_16 : decode cX7_there 16 = .ok (.istore 6, 2) := dk_54 6 (dk_at dksX7_there_0 16 rfl rfl)
theorem dX7_there_18 : decode cX7_there 18 = .ok (.iload 6, 2) := dk_21 6 (dk_at dksX7_there_0 18 rfl rfl)
theorem dX7_there_20 : decode cX7_there 20 = .ok (.ifCond .le 12, 3) := dk_158 0 12 (dk_at dksX7_there_0 20 rfl rfl)
theorem dX7_there_23 : decode cX7_there 23 = .ok (.aload_n 0, 1) := dk_42 (dk_at dksX7_there_0 23 rfl rfl)
theorem dX7_there_24 : decode cX7_there 24 = .ok (.iload 6, 2) := dk_21 6 (dk_at dksX7_there_1 0 rfl rfl)
theorem dX7_there_26 : decode cX7_there 26 = .ok (.invokevirtual 46, 3) := dk_182 0 46 (dk_at dksX7_there_1 2 rfl rfl)
theorem dX7_there_29 : decode cX7_there 29 = .ok (.goto 18, 3) := dk_167 0 18 (dk_at dksX7_there_1 5 rfl rfl)
theorem dX7_there_32 : decode cX7_there 32 = .ok (.aload_n 0, 1) := dk_42 (dk_at dksX7_there_1 8 rfl rfl)
theorem dX7_there_33 : decode cX7_there 33 = .ok (.aload_n 0, 1) := dk_42 (dk_at dksX7_there_1 9 rfl rfl)
theorem dX7_there_34 : decode cX7_there 34 = .ok (.getfield 21, 3) := dk_180 0 21 (dk_at dksX7_there_1 10 rfl rfl)
theorem dX7_there_37 : decode cX7_there 37 = .ok (.iload_n 2, 1) := dk_28 (dk_at dksX7_there_1 13 rfl rfl)
theorem dX7_there_38 : decode cX7_there 38 = .ok (.iload 4, 2) := dk_21 4 (dk_at dksX7_there_1 14 rfl rfl)
theorem dX7_there_40 : decode cX7_there 40 = .ok (.invokestatic 427, 3) := dk_184 1 171 (dk_at dksX7_there_1 16 rfl rfl)
theorem dX7_there_43 : decode cX7_there 43 = .ok (.iaload, 1) := dk_46 (dk_at dksX7_there_1 19 rfl rfl)
theorem dX7_there_44 : decode cX7_there 44 = .ok (.invokevirtual 50, 3) := dk_182 0 50 (dk_at dksX7_there_1 20 rfl rfl)
theorem dX7_there_47 : decode cX7_there 47 = .ok (.ireturn, 1) := dk_172 (dk_at dksX7_there_1 23 rfl rfl)
abbrev cX7_steps : ByteArray := prog_19_method_82_code
def yX7_steps : MethodName := ⟨RX7, "steps", "(IIIII)I"⟩
def dkwX7_steps_1 : List UInt8 := [21, 6, 182, 0, 46, 167, 0, 16, 42, 42, 27, 28, 21, 4, 2, 182, 1, 209, 182, 0, 50, 172]
abbrev dktX7_steps_1 : List UInt8 := dkwX7_steps_1 ++ []
def dkwX7_steps_0 : List UInt8 := [42, 3, 181, 0, 40, 42, 27, 28, 29, 21, 4, 21, 5, 182, 1, 206, 54, 6, 21, 6, 158, 0, 12, 42]
abbrev dktX7_steps_0 : List UInt8 := dkwX7_steps_0 ++ dktX7_steps_1
theorem dksX7_steps_0 : cX7_steps.data.toList.drop 0 = dktX7_steps_0 := by decide +kernel
theorem dksX7_steps_1 : cX7_steps.data.toList.drop 24 = dktX7_steps_1 := dk_seg dksX7_steps_0 24 rfl rfl
theorem dX7_steps_0 : decode cX7_steps 0 = .ok (.aload_n 0, 1) := dk_42 (dk_at dksX7_steps_0 0 rfl rfl)
theorem dX7_steps_1 : decode cX7_steps 1 = .ok (.iconst 0, 1) := dk_3 (dk_at dksX7_steps_0 1 rfl rfl)
theorem dX7_steps_2 : decode cX7_steps 2 = .ok (.putfield 40, 3) := dk_181 0 40 (dk_at dksX7_steps_0 2 rfl rfl)
theorem dX7_steps_5 : decode cX7_steps 5 = .ok (.aload_n 0, 1) := dk_42 (dk_at dksX7_steps_0 5 rfl rfl)
theorem dX7_steps_6 : decode cX7_steps 6 = .ok (.iload_n 1, 1) := dk_27 (dk_at dksX7_steps_0 6 rfl rfl)
theorem dX7_steps_7 : decode cX7_steps 7 = .ok (.iload_n 2, 1) := dk_28 (dk_at dksX7_steps_0 7 rfl rfl)
theorem dX7_steps_8 : decode cX7_steps 8 = .ok (.iload_n 3, 1) := dk_29 (dk_at dksX7_steps_0 8 rfl rfl)
theorem dX7_steps_9 : decode cX7_steps 9 = .ok (.iload 4, 2) := dk_21 4 (dk_at dksX7_steps_0 9 rfl rfl)
theorem dX7_steps_11 : decode cX7_steps 11 = .ok (.iload 5, 2) := dk_21 5 (dk_at dksX7_steps_0 11 rfl rfl)
theorem dX7_steps_13 : decode cX7_steps 13 = .ok (.invokevirtual 462, 3) := dk_182 1 206 (dk_at dksX7_steps_0 13 rfl rfl)
theorem dX7_steps_16 : decode cX7_steps 16 = .ok (.istore 6, 2) := dk_54 6 (dk_at dksX7_steps_0 16 rfl rfl)
theorem dX7_steps_18 : decode cX7_steps 18 = .ok (.iload 6, 2) := dk_21 6 (dk_at dksX7_steps_0 18 rfl rfl)
theorem dX7_steps_20 : decode cX7_steps 20 = .ok (.ifCond .le 12, 3) := dk_158 0 12 (dk_at dksX7_steps_0 20 rfl rfl)
theorem dX7_steps_23 : decode cX7_steps 23 = .ok (.aload_n 0, 1) := dk_42 (dk_at dksX7_steps_0 23 rfl rfl)
theorem dX7_steps_24 : decode cX7_steps 24 = .ok (.iload 6, 2) := dk_21 6 (dk_at dksX7_steps_1 0 rfl rfl)
theorem dX7_steps_26 : decode cX7_steps 26 = .ok (.invokevirtual 46, 3) := dk_182 0 46 (dk_at dksX7_steps_1 2 rfl rfl)
theorem dX7_steps_29 : decode cX7_steps 29 = .ok (.goto 16, 3) := dk_167 0 16 (dk_at dksX7_steps_1 5 rfl rfl)
theorem dX7_steps_32 : decode cX7_steps 32 = .ok (.aload_n 0, 1) := dk_42 (dk_at dksX7_steps_1 8 rfl rfl)
theorem dX7_steps_33 : decode cX7_steps 33 = .ok (.aload_n 0, 1) := dk_42 (dk_at dksX7_steps_1 9 rfl rfl)
theorem dX7_steps_34 : decode cX7_steps 34 = .ok (.iload_n 1, 1) := dk_27 (dk_at dksX7_steps_1 10 rfl rfl)
theorem dX7_steps_35 : decode cX7_steps 35 = .ok (.iload_n 2, 1) := dk_28 (dk_at dksX7_steps_1 11 rfl rfl)
theorem dX7_steps_36 : decode cX7_steps 36 = .ok (.iload 4, 2) := dk_21 4 (dk_at dksX7_steps_1 12 rfl rfl)
theorem dX7_steps_38 : decode cX7_steps 38 = .ok (.iconst (-1), 1) := dk_2 (dk_at dksX7_steps_1 14 rfl rfl)
theorem dX7_steps_39 : decode cX7_steps 39 = .ok (.invokevirtual 465, 3) := dk_182 1 209 (dk_at dksX7_steps_1 15 rfl rfl)
theorem dX7_steps_42 : decode cX7_steps 42 = .ok (.invokevirtual 50, 3) := dk_182 0 50 (dk_at dksX7_steps_1 18 rfl rfl)
theorem dX7_steps_45 : decode cX7_steps 45 = .ok (.ireturn, 1) := dk_172 (dk_at dksX7_steps_1 21 rfl rfl)
abbrev cX7_stepOf : ByteArray := prog_19_method_81_code
def yX7_stepOf : MethodName := ⟨RX7, "stepOf", "(IIII)I"⟩
def dkwX7_stepOf_5 : List UInt8 := [182, 1, 182, 54, 5, 167, 255, 146, 21, 4, 156, 0, 8, 21, 7, 167, 0, 4, 2, 172]
abbrev dktX7_stepOf_5 : List UInt8 := dkwX7_stepOf_5 ++ []
def dkwX7_stepOf_4 : List UInt8 := [21, 5, 167, 0, 23, 42, 180, 1, 82, 21, 8, 16, 100, 108, 21, 8, 16, 10, 108, 16, 10, 112]
abbrev dktX7_stepOf_4 : List UInt8 := dkwX7_stepOf_4 ++ dktX7_stepOf_5
def dkwX7_stepOf_3 : List UInt8 := [21, 8, 16, 100, 108, 21, 8, 16, 10, 112, 182, 1, 143, 96, 54, 6, 21, 8, 16, 254, 160, 0, 8]
abbrev dktX7_stepOf_3 : List UInt8 := dkwX7_stepOf_3 ++ dktX7_stepOf_4
def dkwX7_stepOf_2 : List UInt8 := [21, 8, 172, 132, 7, 1, 21, 6, 21, 8, 16, 254, 160, 0, 7, 4, 167, 0, 20, 42, 180, 1, 82]
abbrev dktX7_stepOf_2 : List UInt8 := dkwX7_stepOf_2 ++ dktX7_stepOf_3
def dkwX7_stepOf_1 : List UInt8 := [159, 0, 100, 42, 180, 0, 25, 21, 5, 21, 6, 184, 1, 171, 46, 54, 8, 21, 7, 21, 4, 160, 0, 6]
abbrev dktX7_stepOf_1 : List UInt8 := dkwX7_stepOf_1 ++ dktX7_stepOf_2
def dkwX7_stepOf_0 : List UInt8 := [28, 54, 5, 29, 54, 6, 3, 54, 7, 42, 180, 0, 25, 21, 5, 21, 6, 184, 1, 171, 46, 2]
abbrev dktX7_stepOf_0 : List UInt8 := dkwX7_stepOf_0 ++ dktX7_stepOf_1
theorem dksX7_stepOf_0 : cX7_stepOf.data.toList.drop 0 = dktX7_stepOf_0 := by decide +kernel
theorem dksX7_stepOf_1 : cX7_stepOf.data.toList.drop 22 = dktX7_stepOf_1 := dk_seg dksX7_stepOf_0 22 rfl rfl
theorem dksX7_stepOf_2 : cX7_stepOf.data.toList.drop 46 = dktX7_stepOf_2 := dk_seg dksX7_stepOf_1 24 rfl rfl
theorem dksX7_stepOf_3 : cX7_stepOf.data.toList.drop 69 = dktX7_stepOf_3 := dk_seg dksX7_stepOf_2 23 rfl rfl
theorem dksX7_stepOf_4 : cX7_stepOf.data.toList.drop 92 = dktX7_stepOf_4 := dk_seg dksX7_stepOf_3 23 rfl rfl
theorem dksX7_stepOf_5 : cX7_stepOf.data.toList.drop 114 = dktX7_stepOf_5 := dk_seg dksX7_stepOf_4 22 rfl rfl
theorem dX7_stepOf_0 : decode cX7_stepOf 0 = .ok (.iload_n 2, 1) := dk_28 (dk_at dksX7_stepOf_0 0 rfl rfl)
theorem dX7_stepOf_1 : decode cX7_stepOf 1 = .ok (.istore 5, 2) := dk_54 5 (dk_at dksX7_stepOf_0 1 rfl rfl)
theorem dX7_stepOf_3 : decode cX7_stepOf 3 = .ok (.iload_n 3, 1) := dk_29 (dk_at dksX7_stepOf_0 3 rfl rfl)
theorem dX7_stepOf_4 : decode cX7_stepOf 4 = .ok (.istore 6, 2) := dk_54 6 (dk_at dksX7_stepOf_0 4 rfl rfl)
theorem dX7_stepOf_6 : decode cX7_stepOf 6 = .ok (.iconst 0, 1) := dk_3 (dk_at dksX7_stepOf_0 6 rfl rfl)
theorem dX7_stepOf_7 : decode cX7_stepOf 7 = .ok (.istore 7, 2) := dk_54 7 (dk_at dksX7_stepOf_0 7 rfl rfl)
theorem dX7_stepOf_9 : decode cX7_stepOf 9 = .ok (.aload_n 0, 1) := dk_42 (dk_at dksX7_stepOf_0 9 rfl rfl)
theorem dX7_stepOf_10 : decode cX7_stepOf 10 = .ok (.getfield 25, 3) := dk_180 0 25 (dk_at dksX7_stepOf_0 10 rfl rfl)
theorem dX7_stepOf_13 : decode cX7_stepOf 13 = .ok (.iload 5, 2) := dk_21 5 (dk_at dksX7_stepOf_0 13 rfl rfl)
theorem dX7_stepOf_15 : decode cX7_stepOf 15 = .ok (.iload 6, 2) := dk_21 6 (dk_at dksX7_stepOf_0 15 rfl rfl)
theorem dX7_stepOf_17 : decode cX7_stepOf 17 = .ok (.invokestatic 427, 3) := dk_184 1 171 (dk_at dksX7_stepOf_0 17 rfl rfl)
theorem dX7_stepOf_20 : decode cX7_stepOf 20 = .ok (.iaload, 1) := dk_46 (dk_at dksX7_stepOf_0 20 rfl rfl)
theorem dX7_stepOf_21 : decode cX7_stepOf 21 = .ok (.iconst (-1), 1) := dk_2 (dk_at dksX7_stepOf_0 21 rfl rfl)
theorem dX7_stepOf_22 : decode cX7_stepOf 22 = .ok (.if_icmp .eq 100, 3) := dk_159 0 100 (dk_at dksX7_stepOf_1 0 rfl rfl)
theorem dX7_stepOf_25 : decode cX7_stepOf 25 = .ok (.aload_n 0, 1) := dk_42 (dk_at dksX7_stepOf_1 3 rfl rfl)
theorem dX7_stepOf_26 : decode cX7_stepOf 26 = .ok (.getfield 25, 3) := dk_180 0 25 (dk_at dksX7_stepOf_1 4 rfl rfl)
theorem dX7_stepOf_29 : decode cX7_stepOf 29 = .ok (.iload 5, 2) := dk_21 5 (dk_at dksX7_stepOf_1 7 rfl rfl)
theorem dX7_stepOf_31 : decode cX7_stepOf 31 = .ok (.iload 6, 2) := dk_21 6 (dk_at dksX7_stepOf_1 9 rfl rfl)
theorem dX7_stepOf_33 : decode cX7_stepOf 33 = .ok (.invokestatic 427, 3) := dk_184 1 171 (dk_at dksX7_stepOf_1 11 rfl rfl)
theorem dX7_stepOf_36 : decode cX7_stepOf 36 = .ok (.iaload, 1) := dk_46 (dk_at dksX7_stepOf_1 14 rfl rfl)
theorem dX7_stepOf_37 : decode cX7_stepOf 37 = .ok (.istore 8, 2) := dk_54 8 (dk_at dksX7_stepOf_1 15 rfl rfl)
theorem dX7_stepOf_39 : decode cX7_stepOf 39 = .ok (.iload 7, 2) := dk_21 7 (dk_at dksX7_stepOf_1 17 rfl rfl)
theorem dX7_stepOf_41 : decode cX7_stepOf 41 = .ok (.iload 4, 2) := dk_21 4 (dk_at dksX7_stepOf_1 19 rfl rfl)
theorem dX7_stepOf_43 : decode cX7_stepOf 43 = .ok (.if_icmp .ne 6, 3) := dk_160 0 6 (dk_at dksX7_stepOf_1 21 rfl rfl)
theorem dX7_stepOf_46 : decode cX7_stepOf 46 = .ok (.iload 8, 2) := dk_21 8 (dk_at dksX7_stepOf_2 0 rfl rfl)
theorem dX7_stepOf_48 : decode cX7_stepOf 48 = .ok (.ireturn, 1) := dk_172 (dk_at dksX7_stepOf_2 2 rfl rfl)
theorem dX7_stepOf_49 : decode cX7_stepOf 49 = .ok (.iinc 7 1, 3) := dk_132 7 1 (dk_at dksX7_stepOf_2 3 rfl rfl)
theorem dX7_stepOf_52 : decode cX7_stepOf 52 = .ok (.iload 6, 2) := dk_21 6 (dk_at dksX7_stepOf_2 6 rfl rfl)
theorem dX7_stepOf_54 : decode cX7_stepOf 54 = .ok (.iload 8, 2) := dk_21 8 (dk_at dksX7_stepOf_2 8 rfl rfl)
theorem dX7_stepOf_56 : decode cX7_stepOf 56 = .ok (.bipush (-2), 2) := dk_16 254 (dk_at dksX7_stepOf_2 10 rfl rfl)
theorem dX7_stepOf_58 : decode cX7_stepOf 58 = .ok (.if_icmp .ne 7, 3) := dk_160 0 7 (dk_at dksX7_stepOf_2 12 rfl rfl)
theorem dX7_stepOf_61 : decode cX7_stepOf 61 = .ok (.iconst 1, 1) := dk_4 (dk_at dksX7_stepOf_2 15 rfl rfl)
theorem dX7_stepOf_62 : decode cX7_stepOf 62 = .ok (.goto 20, 3) := dk_167 0 20 (dk_at dksX7_stepOf_2 16 rfl rfl)
theorem dX7_stepOf_65 : decode cX7_stepOf 65 = .ok (.aload_n 0, 1) := dk_42 (dk_at dksX7_stepOf_2 19 rfl rfl)
theorem dX7_stepOf_66 : decode cX7_stepOf 66 = .ok (.getfield 338, 3) := dk_180 1 82 (dk_at dksX7_stepOf_2 20 rfl rfl)
theorem dX7_stepOf_69 : decode cX7_stepOf 69 = .ok (.iload 8, 2) := dk_21 8 (dk_at dksX7_stepOf_3 0 rfl rfl)
theorem dX7_stepOf_71 : decode cX7_stepOf 71 = .ok (.bipush 100, 2) := dk_16 100 (dk_at dksX7_stepOf_3 2 rfl rfl)
theorem dX7_stepOf_73 : decode cX7_stepOf 73 = .ok (.idiv, 1) := dk_108 (dk_at dksX7_stepOf_3 4 rfl rfl)
theorem dX7_stepOf_74 : decode cX7_stepOf 74 = .ok (.iload 8, 2) := dk_21 8 (dk_at dksX7_stepOf_3 5 rfl rfl)
theorem dX7_stepOf_76 : decode cX7_stepOf 76 = .ok (.bipush 10, 2) := dk_16 10 (dk_at dksX7_stepOf_3 7 rfl rfl)
theorem dX7_stepOf_78 : decode cX7_stepOf 78 = .ok (.irem, 1) := dk_112 (dk_at dksX7_stepOf_3 9 rfl rfl)
theorem dX7_stepOf_79 : decode cX7_stepOf 79 = .ok (.invokevirtual 399, 3) := dk_182 1 143 (dk_at dksX7_stepOf_3 10 rfl rfl)
theorem dX7_stepOf_82 : decode cX7_stepOf 82 = .ok (.iadd, 1) := dk_96 (dk_at dksX7_stepOf_3 13 rfl rfl)
theorem dX7_stepOf_83 : decode cX7_stepOf 83 = .ok (.istore 6, 2) := dk_54 6 (dk_at dksX7_stepOf_3 14 rfl rfl)
theorem dX7_stepOf_85 : decode cX7_stepOf 85 = .ok (.iload 8, 2) := dk_21 8 (dk_at dksX7_stepOf_3 16 rfl rfl)
theorem dX7_stepOf_87 : decode cX7_stepOf 87 = .ok (.bipush (-2), 2) := dk_16 254 (dk_at dksX7_stepOf_3 18 rfl rfl)
theorem dX7_stepOf_89 : decode cX7_stepOf 89 = .ok (.if_icmp .ne 8, 3) := dk_160 0 8 (dk_at dksX7_stepOf_3 20 rfl rfl)
theorem dX7_stepOf_92 : decode cX7_stepOf 92 = .ok (.iload 5, 2) := dk_21 5 (dk_at dksX7_stepOf_4 0 rfl rfl)
theorem dX7_stepOf_94 : decode cX7_stepOf 94 = .ok (.goto 23, 3) := dk_167 0 23 (dk_at dksX7_stepOf_4 2 rfl rfl)
theorem dX7_stepOf_97 : decode cX7_stepOf 97 = .ok (.aload_n 0, 1) := dk_42 (dk_at dksX7_stepOf_4 5 rfl rfl)
theorem dX7_stepOf_98 : decode cX7_stepOf 98 = .ok (.getfield 338, 3) := dk_180 1 82 (dk_at dksX7_stepOf_4 6 rfl rfl)
theorem dX7_stepOf_101 : decode cX7_stepOf 101 = .ok (.iload 8, 2) := dk_21 8 (dk_at dksX7_stepOf_4 9 rfl rfl)
theorem dX7_stepOf_103 : decode cX7_stepOf 103 = .ok (.bipush 100, 2) := dk_16 100 (dk_at dksX7_stepOf_4 11 rfl rfl)
theorem dX7_stepOf_105 : decode cX7_stepOf 105 = .ok (.idiv, 1) := dk_108 (dk_at dksX7_stepOf_4 13 rfl rfl)
theorem dX7_stepOf_106 : decode cX7_stepOf 106 = .ok (.iload 8, 2) := dk_21 8 (dk_at dksX7_stepOf_4 14 rfl rfl)
theorem dX7_stepOf_108 : decode cX7_stepOf 108 = .ok (.bipush 10, 2) := dk_16 10 (dk_at dksX7_stepOf_4 16 rfl rfl)
theorem dX7_stepOf_110 : decode cX7_stepOf 110 = .ok (.idiv, 1) := dk_108 (dk_at dksX7_stepOf_4 18 rfl rfl)
theorem dX7_stepOf_111 : decode cX7_stepOf 111 = .ok (.bipush 10, 2) := dk_16 10 (dk_at dksX7_stepOf_4 19 rfl rfl)
theorem dX7_stepOf_113 : decode cX7_stepOf 113 = .ok (.irem, 1) := dk_112 (dk_at dksX7_stepOf_4 21 rfl rfl)
theorem dX7_stepOf_114 : decode cX7_stepOf 114 = .ok (.invokevirtual 438, 3) := dk_182 1 182 (dk_at dksX7_stepOf_5 0 rfl rfl)
theorem dX7_stepOf_117 : decode cX7_stepOf 117 = .ok (.istore 5, 2) := dk_54 5 (dk_at dksX7_stepOf_5 3 rfl rfl)
theorem dX7_stepOf_119 : decode cX7_stepOf 119 = .ok (.goto (-110), 3) := dk_167 255 146 (dk_at dksX7_stepOf_5 5 rfl rfl)
theorem dX7_stepOf_122 : decode cX7_stepOf 122 = .ok (.iload 4, 2) := dk_21 4 (dk_at dksX7_stepOf_5 8 rfl rfl)
theorem dX7_stepOf_124 : decode cX7_stepOf 124 = .ok (.ifCond .ge 8, 3) := dk_156 0 8 (dk_at dksX7_stepOf_5 10 rfl rfl)
theorem dX7_stepOf_127 : decode cX7_stepOf 127 = .ok (.iload 7, 2) := dk_21 7 (dk_at dksX7_stepOf_5 13 rfl rfl)
theorem dX7_stepOf_129 : decode cX7_stepOf 129 = .ok (.goto 4, 3) := dk_167 0 4 (dk_at dksX7_stepOf_5 15 rfl rfl)
theorem dX7_stepOf_132 : decode cX7_stepOf 132 = .ok (.iconst (-1), 1) := dk_2 (dk_at dksX7_stepOf_5 18 rfl rfl)
theorem dX7_stepOf_133 : decode cX7_stepOf 133 = .ok (.ireturn, 1) := dk_172 (dk_at dksX7_stepOf_5 19 rfl rfl)
abbrev cX7_step : ByteArray := prog_19_method_83_code
def yX7_step : MethodName := ⟨RX7, "step", "(IIIIII)I"⟩
def dkwX7_step_3 : List UInt8 := [182, 0, 50, 172]
abbrev dktX7_step_3 : List UInt8 := dkwX7_step_3 ++ []
def dkwX7_step_2 : List UInt8 := [182, 1, 209, 54, 8, 21, 8, 2, 160, 0, 11, 42, 4, 182, 0, 46, 167, 0, 9, 42, 21, 8]
abbrev dktX7_step_2 : List UInt8 := dkwX7_step_2 ++ dktX7_step_3
def dkwX7_step_1 : List UInt8 := [21, 7, 182, 0, 46, 172, 21, 6, 156, 0, 7, 2, 167, 0, 13, 42, 27, 28, 21, 4, 21, 6]
abbrev dktX7_step_1 : List UInt8 := dkwX7_step_1 ++ dktX7_step_2
def dkwX7_step_0 : List UInt8 := [42, 3, 181, 0, 40, 42, 27, 28, 29, 21, 4, 21, 5, 182, 1, 206, 54, 7, 21, 7, 158, 0, 10, 42]
abbrev dktX7_step_0 : List UInt8 := dkwX7_step_0 ++ dktX7_step_1
theorem dksX7_step_0 : cX7_step.data.toList.drop 0 = dktX7_step_0 := by decide +kernel
theorem dksX7_step_1 : cX7_step.data.toList.drop 24 = dktX7_step_1 := dk_seg dksX7_step_0 24 rfl rfl
theorem dksX7_step_2 : cX7_step.data.toList.drop 46 = dktX7_step_2 := dk_seg dksX7_step_1 22 rfl rfl
theorem dksX7_step_3 : cX7_step.data.toList.drop 68 = dktX7_step_3 := dk_seg dksX7_step_2 22 rfl rfl
theorem dX7_step_0 : decode cX7_step 0 = .ok (.aload_n 0, 1) := dk_42 (dk_at dksX7_step_0 0 rfl rfl)
theorem dX7_step_1 : decode cX7_step 1 = .ok (.iconst 0, 1) := dk_3 (dk_at dksX7_step_0 1 rfl rfl)
theorem dX7_step_2 : decode cX7_step 2 = .ok (.putfield 40, 3) := dk_181 0 40 (dk_at dksX7_step_0 2 rfl rfl)
theorem dX7_step_5 : decode cX7_step 5 = .ok (.aload_n 0, 1) := dk_42 (dk_at dksX7_step_0 5 rfl rfl)
theorem dX7_step_6 : decode cX7_step 6 = .ok (.iload_n 1, 1) := dk_27 (dk_at dksX7_step_0 6 rfl rfl)
theorem dX7_step_7 : decode cX7_step 7 = .ok (.iload_n 2, 1) := dk_28 (dk_at dksX7_step_0 7 rfl rfl)
theorem dX7_step_8 : decode cX7_step 8 = .ok (.iload_n 3, 1) := dk_29 (dk_at dksX7_step_0 8 rfl rfl)
theorem dX7_step_9 : decode cX7_step 9 = .ok (.iload 4, 2) := dk_21 4 (dk_at dksX7_step_0 9 rfl rfl)
theorem dX7_step_11 : decode cX7_step 11 = .ok (.iload 5, 2) := dk_21 5 (dk_at dksX7_step_0 11 rfl rfl)
theorem dX7_step_13 : decode cX7_step 13 = .ok (.invokevirtual 462, 3) := dk_182 1 206 (dk_at dksX7_step_0 13 rfl rfl)
theorem dX7_step_16 : decode cX7_step 16 = .ok (.istore 7, 2) := dk_54 7 (dk_at dksX7_step_0 16 rfl rfl)
theorem dX7_step_18 : decode cX7_step 18 = .ok (.iload 7, 2) := dk_21 7 (dk_at dksX7_step_0 18 rfl rfl)
theorem dX7_step_20 : decode cX7_step 20 = .ok (.ifCond .le 10, 3) := dk_158 0 10 (dk_at dksX7_step_0 20 rfl rfl)
theorem dX7_step_23 : decode cX7_step 23 = .ok (.aload_n 0, 1) := dk_42 (dk_at dksX7_step_0 23 rfl rfl)
theorem dX7_step_24 : decode cX7_step 24 = .ok (.iload 7, 2) := dk_21 7 (dk_at dksX7_step_1 0 rfl rfl)
theorem dX7_step_26 : decode cX7_step 26 = .ok (.invokevirtual 46, 3) := dk_182 0 46 (dk_at dksX7_step_1 2 rfl rfl)
theorem dX7_step_29 : decode cX7_step 29 = .ok (.ireturn, 1) := dk_172 (dk_at dksX7_step_1 5 rfl rfl)
theorem dX7_step_30 : decode cX7_step 30 = .ok (.iload 6, 2) := dk_21 6 (dk_at dksX7_step_1 6 rfl rfl)
theorem dX7_step_32 : decode cX7_step 32 = .ok (.ifCond .ge 7, 3) := dk_156 0 7 (dk_at dksX7_step_1 8 rfl rfl)
theorem dX7_step_35 : decode cX7_step 35 = .ok (.iconst (-1), 1) := dk_2 (dk_at dksX7_step_1 11 rfl rfl)
theorem dX7_step_36 : decode cX7_step 36 = .ok (.goto 13, 3) := dk_167 0 13 (dk_at dksX7_step_1 12 rfl rfl)
theorem dX7_step_39 : decode cX7_step 39 = .ok (.aload_n 0, 1) := dk_42 (dk_at dksX7_step_1 15 rfl rfl)
theorem dX7_step_40 : decode cX7_step 40 = .ok (.iload_n 1, 1) := dk_27 (dk_at dksX7_step_1 16 rfl rfl)
theorem dX7_step_41 : decode cX7_step 41 = .ok (.iload_n 2, 1) := dk_28 (dk_at dksX7_step_1 17 rfl rfl)
theorem dX7_step_42 : decode cX7_step 42 = .ok (.iload 4, 2) := dk_21 4 (dk_at dksX7_step_1 18 rfl rfl)
theorem dX7_step_44 : decode cX7_step 44 = .ok (.iload 6, 2) := dk_21 6 (dk_at dksX7_step_1 20 rfl rfl)
theorem dX7_step_46 : decode cX7_step 46 = .ok (.invokevirtual 465, 3) := dk_182 1 209 (dk_at dksX7_step_2 0 rfl rfl)
theorem dX7_step_49 : decode cX7_step 49 = .ok (.istore 8, 2) := dk_54 8 (dk_at dksX7_step_2 3 rfl rfl)
theorem dX7_step_51 : decode cX7_step 51 = .ok (.iload 8, 2) := dk_21 8 (dk_at dksX7_step_2 5 rfl rfl)
theorem dX7_step_53 : decode cX7_step 53 = .ok (.iconst (-1), 1) := dk_2 (dk_at dksX7_step_2 7 rfl rfl)
theorem dX7_step_54 : decode cX7_step 54 = .ok (.if_icmp .ne 11, 3) := dk_160 0 11 (dk_at dksX7_step_2 8 rfl rfl)
theorem dX7_step_57 : decode cX7_step 57 = .ok (.aload_n 0, 1) := dk_42 (dk_at dksX7_step_2 11 rfl rfl)
theorem dX7_step_58 : decode cX7_step 58 = .ok (.iconst 1, 1) := dk_4 (dk_at dksX7_step_2 12 rfl rfl)
theorem dX7_step_59 : decode cX7_step 59 = .ok (.invokevirtual 46, 3) := dk_182 0 46 (dk_at dksX7_step_2 13 rfl rfl)
theorem dX7_step_62 : decode cX7_step 62 = .ok (.goto 9, 3) := dk_167 0 9 (dk_at dksX7_step_2 16 rfl rfl)
theorem dX7_step_65 : decode cX7_step 65 = .ok (.aload_n 0, 1) := dk_42 (dk_at dksX7_step_2 19 rfl rfl)
theorem dX7_step_66 : decode cX7_step 66 = .ok (.iload 8, 2) := dk_21 8 (dk_at dksX7_step_2 20 rfl rfl)
theorem dX7_step_68 : decode cX7_step 68 = .ok (.invokevirtual 50, 3) := dk_182 0 50 (dk_at dksX7_step_3 0 rfl rfl)
theorem dX7_step_71 : decode cX7_step 71 = .ok (.ireturn, 1) := dk_172 (dk_at dksX7_step_3 3 rfl rfl)
abbrev cX7_off : ByteArray := prog_19_method_84_code
def yX7_off : MethodName := ⟨RX7, "off", "(IIII)I"⟩
def dkwX7_off_6 : List UInt8 := [182, 0, 46, 167, 0, 9, 42, 21, 5, 182, 0, 50, 172]
abbrev dktX7_off_6 : List UInt8 := dkwX7_off_6 ++ []
def dkwX7_off_5 : List UInt8 := [47, 148, 156, 0, 7, 21, 6, 54, 5, 132, 6, 1, 167, 255, 192, 21, 5, 2, 160, 0, 12, 42, 16, 6]
abbrev dktX7_off_5 : List UInt8 := dkwX7_off_5 ++ dktX7_off_6
def dkwX7_off_4 : List UInt8 := [159, 0, 29, 42, 180, 0, 17, 28, 21, 6, 184, 1, 171, 47, 42, 180, 0, 17, 28, 21, 5, 184, 1, 171]
abbrev dktX7_off_4 : List UInt8 := dkwX7_off_4 ++ dktX7_off_5
def dkwX7_off_3 : List UInt8 := [163, 0, 63, 42, 180, 0, 17, 28, 21, 6, 184, 1, 171, 47, 20, 1, 174, 148, 153, 0, 39, 21, 5, 2]
abbrev dktX7_off_3 : List UInt8 := dkwX7_off_3 ++ dktX7_off_4
def dkwX7_off_2 : List UInt8 := [42, 5, 182, 0, 46, 172, 42, 27, 29, 21, 4, 182, 1, 202, 2, 54, 5, 3, 54, 6, 21, 6, 21, 4]
abbrev dktX7_off_2 : List UInt8 := dkwX7_off_2 ++ dktX7_off_3
def dkwX7_off_1 : List UInt8 := [182, 1, 199, 154, 0, 9, 42, 4, 182, 0, 46, 172, 21, 4, 3, 17, 1, 144, 184, 0, 118, 154, 0, 9]
abbrev dktX7_off_1 : List UInt8 := dkwX7_off_1 ++ dktX7_off_2
def dkwX7_off_0 : List UInt8 := [42, 3, 181, 0, 40, 42, 27, 182, 1, 90, 153, 0, 19, 42, 28, 182, 1, 199, 153, 0, 11, 42, 29]
abbrev dktX7_off_0 : List UInt8 := dkwX7_off_0 ++ dktX7_off_1
theorem dksX7_off_0 : cX7_off.data.toList.drop 0 = dktX7_off_0 := by decide +kernel
theorem dksX7_off_1 : cX7_off.data.toList.drop 23 = dktX7_off_1 := dk_seg dksX7_off_0 23 rfl rfl
theorem dksX7_off_2 : cX7_off.data.toList.drop 47 = dktX7_off_2 := dk_seg dksX7_off_1 24 rfl rfl
theorem dksX7_off_3 : cX7_off.data.toList.drop 71 = dktX7_off_3 := dk_seg dksX7_off_2 24 rfl rfl
theorem dksX7_off_4 : cX7_off.data.toList.drop 95 = dktX7_off_4 := dk_seg dksX7_off_3 24 rfl rfl
theorem dksX7_off_5 : cX7_off.data.toList.drop 119 = dktX7_off_5 := dk_seg dksX7_off_4 24 rfl rfl
theorem dksX7_off_6 : cX7_off.data.toList.drop 143 = dktX7_off_6 := dk_seg dksX7_off_5 24 rfl rfl
theorem dX7_off_0 : decode cX7_off 0 = .ok (.aload_n 0, 1) := dk_42 (dk_at dksX7_off_0 0 rfl rfl)
theorem dX7_off_1 : decode cX7_off 1 = .ok (.iconst 0, 1) := dk_3 (dk_at dksX7_off_0 1 rfl rfl)
theorem dX7_off_2 : decode cX7_off 2 = .ok (.putfield 40, 3) := dk_181 0 40 (dk_at dksX7_off_0 2 rfl rfl)
theorem dX7_off_5 : decode cX7_off 5 = .ok (.aload_n 0, 1) := dk_42 (dk_at dksX7_off_0 5 rfl rfl)
theorem dX7_off_6 : decode cX7_off 6 = .ok (.iload_n 1, 1) := dk_27 (dk_at dksX7_off_0 6 rfl rfl)
theorem dX7_off_7 : decode cX7_off 7 = .ok (.invokevirtual 346, 3) := dk_182 1 90 (dk_at dksX7_off_0 7 rfl rfl)
theorem dX7_off_10 : decode cX7_off 10 = .ok (.ifCond .eq 19, 3) := dk_153 0 19 (dk_at dksX7_off_0 10 rfl rfl)
theorem dX7_off_13 : decode cX7_off 13 = .ok (.aload_n 0, 1) := dk_42 (dk_at dksX7_off_0 13 rfl rfl)
theorem dX7_off_14 : decode cX7_off 14 = .ok (.iload_n 2, 1) := dk_28 (dk_at dksX7_off_0 14 rfl rfl)
theorem dX7_off_15 : decode cX7_off 15 = .ok (.invokevirtual 455, 3) := dk_182 1 199 (dk_at dksX7_off_0 15 rfl rfl)
theorem dX7_off_18 : decode cX7_off 18 = .ok (.ifCond .eq 11, 3) := dk_153 0 11 (dk_at dksX7_off_0 18 rfl rfl)
theorem dX7_off_21 : decode cX7_off 21 = .ok (.aload_n 0, 1) := dk_42 (dk_at dksX7_off_0 21 rfl rfl)
theorem dX7_off_22 : decode cX7_off 22 = .ok (.iload_n 3, 1) := dk_29 (dk_at dksX7_off_0 22 rfl rfl)
theorem dX7_off_23 : decode cX7_off 23 = .ok (.invokevirtual 455, 3) := dk_182 1 199 (dk_at dksX7_off_1 0 rfl rfl)
theorem dX7_off_26 : decode cX7_off 26 = .ok (.ifCond .ne 9, 3) := dk_154 0 9 (dk_at dksX7_off_1 3 rfl rfl)
theorem dX7_off_29 : decode cX7_off 29 = .ok (.aload_n 0, 1) := dk_42 (dk_at dksX7_off_1 6 rfl rfl)
theorem dX7_off_30 : decode cX7_off 30 = .ok (.iconst 1, 1) := dk_4 (dk_at dksX7_off_1 7 rfl rfl)
theorem dX7_off_31 : decode cX7_off 31 = .ok (.invokevirtual 46, 3) := dk_182 0 46 (dk_at dksX7_off_1 8 rfl rfl)
theorem dX7_off_34 : decode cX7_off 34 = .ok (.ireturn, 1) := dk_172 (dk_at dksX7_off_1 11 rfl rfl)
theorem dX7_off_35 : decode cX7_off 35 = .ok (.iload 4, 2) := dk_21 4 (dk_at dksX7_off_1 12 rfl rfl)
theorem dX7_off_37 : decode cX7_off 37 = .ok (.iconst 0, 1) := dk_3 (dk_at dksX7_off_1 14 rfl rfl)
theorem dX7_off_38 : decode cX7_off 38 = .ok (.sipush 400, 3) := dk_17 1 144 (dk_at dksX7_off_1 15 rfl rfl)
theorem dX7_off_41 : decode cX7_off 41 = .ok (.invokestatic 118, 3) := dk_184 0 118 (dk_at dksX7_off_1 18 rfl rfl)
theorem dX7_off_44 : decode cX7_off 44 = .ok (.ifCond .ne 9, 3) := dk_154 0 9 (dk_at dksX7_off_1 21 rfl rfl)
theorem dX7_off_47 : decode cX7_off 47 = .ok (.aload_n 0, 1) := dk_42 (dk_at dksX7_off_2 0 rfl rfl)
theorem dX7_off_48 : decode cX7_off 48 = .ok (.iconst 2, 1) := dk_5 (dk_at dksX7_off_2 1 rfl rfl)
theorem dX7_off_49 : decode cX7_off 49 = .ok (.invokevirtual 46, 3) := dk_182 0 46 (dk_at dksX7_off_2 2 rfl rfl)
theorem dX7_off_52 : decode cX7_off 52 = .ok (.ireturn, 1) := dk_172 (dk_at dksX7_off_2 5 rfl rfl)
theorem dX7_off_53 : decode cX7_off 53 = .ok (.aload_n 0, 1) := dk_42 (dk_at dksX7_off_2 6 rfl rfl)
theorem dX7_off_54 : decode cX7_off 54 = .ok (.iload_n 1, 1) := dk_27 (dk_at dksX7_off_2 7 rfl rfl)
theorem dX7_off_55 : decode cX7_off 55 = .ok (.iload_n 3, 1) := dk_29 (dk_at dksX7_off_2 8 rfl rfl)
theorem dX7_off_56 : decode cX7_off 56 = .ok (.iload 4, 2) := dk_21 4 (dk_at dksX7_off_2 9 rfl rfl)
theorem dX7_off_58 : decode cX7_off 58 = .ok (.invokevirtual 458, 3) := dk_182 1 202 (dk_at dksX7_off_2 11 rfl rfl)
theorem dX7_off_61 : decode cX7_off 61 = .ok (.iconst (-1), 1) := dk_2 (dk_at dksX7_off_2 14 rfl rfl)
theorem dX7_off_62 : decode cX7_off 62 = .ok (.istore 5, 2) := dk_54 5 (dk_at dksX7_off_2 15 rfl rfl)
theorem dX7_off_64 : decode cX7_off 64 = .ok (.iconst 0, 1) := dk_3 (dk_at dksX7_off_2 17 rfl rfl)
theorem dX7_off_65 : decode cX7_off 65 = .ok (.istore 6, 2) := dk_54 6 (dk_at dksX7_off_2 18 rfl rfl)
theorem dX7_off_67 : decode cX7_off 67 = .ok (.iload 6, 2) := dk_21 6 (dk_at dksX7_off_2 20 rfl rfl)
theorem dX7_off_69 : decode cX7_off 69 = .ok (.iload 4, 2) := dk_21 4 (dk_at dksX7_off_2 22 rfl rfl)
theorem dX7_off_71 : decode cX7_off 71 = .ok (.if_icmp .gt 63, 3) := dk_163 0 63 (dk_at dksX7_off_3 0 rfl rfl)
theorem dX7_off_74 : decode cX7_off 74 = .ok (.aload_n 0, 1) := dk_42 (dk_at dksX7_off_3 3 rfl rfl)
theorem dX7_off_75 : decode cX7_off 75 = .ok (.getfield 17, 3) := dk_180 0 17 (dk_at dksX7_off_3 4 rfl rfl)
theorem dX7_off_78 : decode cX7_off 78 = .ok (.iload_n 2, 1) := dk_28 (dk_at dksX7_off_3 7 rfl rfl)
theorem dX7_off_79 : decode cX7_off 79 = .ok (.iload 6, 2) := dk_21 6 (dk_at dksX7_off_3 8 rfl rfl)
theorem dX7_off_81 : decode cX7_off 81 = .ok (.invokestatic 427, 3) := dk_184 1 171 (dk_at dksX7_off_3 10 rfl rfl)
theorem dX7_off_84 : decode cX7_off 84 = .ok (.laload, 1) := dk_47 (dk_at dksX7_off_3 13 rfl rfl)
theorem dX7_off_85 : decode cX7_off 85 = .ok (.ldc2_w 430, 3) := dk_20 1 174 (dk_at dksX7_off_3 14 rfl rfl)
theorem dX7_off_88 : decode cX7_off 88 = .ok (.lcmp, 1) := dk_148 (dk_at dksX7_off_3 17 rfl rfl)
theorem dX7_off_89 : decode cX7_off 89 = .ok (.ifCond .eq 39, 3) := dk_153 0 39 (dk_at dksX7_off_3 18 rfl rfl)
theorem dX7_off_92 : decode cX7_off 92 = .ok (.iload 5, 2) := dk_21 5 (dk_at dksX7_off_3 21 rfl rfl)
theorem dX7_off_94 : decode cX7_off 94 = .ok (.iconst (-1), 1) := dk_2 (dk_at dksX7_off_3 23 rfl rfl)
theorem dX7_off_95 : decode cX7_off 95 = .ok (.if_icmp .eq 29, 3) := dk_159 0 29 (dk_at dksX7_off_4 0 rfl rfl)
theorem dX7_off_98 : decode cX7_off 98 = .ok (.aload_n 0, 1) := dk_42 (dk_at dksX7_off_4 3 rfl rfl)
theorem dX7_off_99 : decode cX7_off 99 = .ok (.getfield 17, 3) := dk_180 0 17 (dk_at dksX7_off_4 4 rfl rfl)
theorem dX7_off_102 : decode cX7_off 102 = .ok (.iload_n 2, 1) := dk_28 (dk_at dksX7_off_4 7 rfl rfl)
theorem dX7_off_103 : decode cX7_off 103 = .ok (.iload 6, 2) := dk_21 6 (dk_at dksX7_off_4 8 rfl rfl)
theorem dX7_off_105 : decode cX7_off 105 = .ok (.invokestatic 427, 3) := dk_184 1 171 (dk_at dksX7_off_4 10 rfl rfl)
theorem dX7_off_108 : decode cX7_off 108 = .ok (.laload, 1) := dk_47 (dk_at dksX7_off_4 13 rfl rfl)
theorem dX7_off_109 : decode cX7_off 109 = .ok (.aload_n 0, 1) := dk_42 (dk_at dksX7_off_4 14 rfl rfl)
theorem dX7_off_110 : decode cX7_off 110 = .ok (.getfield 17, 3) := dk_180 0 17 (dk_at dksX7_off_4 15 rfl rfl)
theorem dX7_off_113 : decode cX7_off 113 = .ok (.iload_n 2, 1) := dk_28 (dk_at dksX7_off_4 18 rfl rfl)
theorem dX7_off_114 : decode cX7_off 114 = .ok (.iload 5, 2) := dk_21 5 (dk_at dksX7_off_4 19 rfl rfl)
theorem dX7_off_116 : decode cX7_off 116 = .ok (.invokestatic 427, 3) := dk_184 1 171 (dk_at dksX7_off_4 21 rfl rfl)
theorem dX7_off_119 : decode cX7_off 119 = .ok (.laload, 1) := dk_47 (dk_at dksX7_off_5 0 rfl rfl)
theorem dX7_off_120 : decode cX7_off 120 = .ok (.lcmp, 1) := dk_148 (dk_at dksX7_off_5 1 rfl rfl)
theorem dX7_off_121 : decode cX7_off 121 = .ok (.ifCond .ge 7, 3) := dk_156 0 7 (dk_at dksX7_off_5 2 rfl rfl)
theorem dX7_off_124 : decode cX7_off 124 = .ok (.iload 6, 2) := dk_21 6 (dk_at dksX7_off_5 5 rfl rfl)
theorem dX7_off_126 : decode cX7_off 126 = .ok (.istore 5, 2) := dk_54 5 (dk_at dksX7_off_5 7 rfl rfl)
theorem dX7_off_128 : decode cX7_off 128 = .ok (.iinc 6 1, 3) := dk_132 6 1 (dk_at dksX7_off_5 9 rfl rfl)
theorem dX7_off_131 : decode cX7_off 131 = .ok (.goto (-64), 3) := dk_167 255 192 (dk_at dksX7_off_5 12 rfl rfl)
theorem dX7_off_134 : decode cX7_off 134 = .ok (.iload 5, 2) := dk_21 5 (dk_at dksX7_off_5 15 rfl rfl)
theorem dX7_off_136 : decode cX7_off 136 = .ok (.iconst (-1), 1) := dk_2 (dk_at dksX7_off_5 17 rfl rfl)
theorem dX7_off_137 : decode cX7_off 137 = .ok (.if_icmp .ne 12, 3) := dk_160 0 12 (dk_at dksX7_off_5 18 rfl rfl)
theorem dX7_off_140 : decode cX7_off 140 = .ok (.aload_n 0, 1) := dk_42 (dk_at dksX7_off_5 21 rfl rfl)
theorem dX7_off_141 : decode cX7_off 141 = .ok (.bipush 6, 2) := dk_16 6 (dk_at dksX7_off_5 22 rfl rfl)
theorem dX7_off_143 : decode cX7_off 143 = .ok (.invokevirtual 46, 3) := dk_182 0 46 (dk_at dksX7_off_6 0 rfl rfl)
theorem dX7_off_146 : decode cX7_off 146 = .ok (.goto 9, 3) := dk_167 0 9 (dk_at dksX7_off_6 3 rfl rfl)
theorem dX7_off_149 : decode cX7_off 149 = .ok (.aload_n 0, 1) := dk_42 (dk_at dksX7_off_6 6 rfl rfl)
theorem dX7_off_150 : decode cX7_off 150 = .ok (.iload 5, 2) := dk_21 5 (dk_at dksX7_off_6 7 rfl rfl)
theorem dX7_off_152 : decode cX7_off 152 = .ok (.invokevirtual 50, 3) := dk_182 0 50 (dk_at dksX7_off_6 9 rfl rfl)
theorem dX7_off_155 : decode cX7_off 155 = .ok (.ireturn, 1) := dk_172 (dk_at dksX7_off_6 12 rfl rfl)
abbrev cX7_fits : ByteArray := prog_19_method_87_code
def yX7_fits : MethodName := ⟨RX7, "fits", "(I)I"⟩
def dkwX7_fits_1 : List UInt8 := [167, 0, 8, 42, 4, 182, 0, 46, 172]
abbrev dktX7_fits_1 : List UInt8 := dkwX7_fits_1 ++ []
def dkwX7_fits_0 : List UInt8 := [42, 3, 181, 0, 40, 42, 27, 182, 1, 212, 153, 0, 16, 42, 42, 27, 2, 182, 1, 215, 182, 0, 50]
abbrev dktX7_fits_0 : List UInt8 := dkwX7_fits_0 ++ dktX7_fits_1
theorem dksX7_fits_0 : cX7_fits.data.toList.drop 0 = dktX7_fits_0 := by decide +kernel
theorem dksX7_fits_1 : cX7_fits.data.toList.drop 23 = dktX7_fits_1 := dk_seg dksX7_fits_0 23 rfl rfl
theorem dX7_fits_0 : decode cX7_fits 0 = .ok (.aload_n 0, 1) := dk_42 (dk_at dksX7_fits_0 0 rfl rfl)
theorem dX7_fits_1 : decode cX7_fits 1 = .ok (.iconst 0, 1) := dk_3 (dk_at dksX7_fits_0 1 rfl rfl)
theorem dX7_fits_2 : decode cX7_fits 2 = .ok (.putfield 40, 3) := dk_181 0 40 (dk_at dksX7_fits_0 2 rfl rfl)
theorem dX7_fits_5 : decode cX7_fits 5 = .ok (.aload_n 0, 1) := dk_42 (dk_at dksX7_fits_0 5 rfl rfl)
theorem dX7_fits_6 : decode cX7_fits 6 = .ok (.iload_n 1, 1) := dk_27 (dk_at dksX7_fits_0 6 rfl rfl)
theorem dX7_fits_7 : decode cX7_fits 7 = .ok (.invokevirtual 468, 3) := dk_182 1 212 (dk_at dksX7_fits_0 7 rfl rfl)
theorem dX7_fits_10 : decode cX7_fits 10 = .ok (.ifCond .eq 16, 3) := dk_153 0 16 (dk_at dksX7_fits_0 10 rfl rfl)
theorem dX7_fits_13 : decode cX7_fits 13 = .ok (.aload_n 0, 1) := dk_42 (dk_at dksX7_fits_0 13 rfl rfl)
theorem dX7_fits_14 : decode cX7_fits 14 = .ok (.aload_n 0, 1) := dk_42 (dk_at dksX7_fits_0 14 rfl rfl)
theorem dX7_fits_15 : decode cX7_fits 15 = .ok (.iload_n 1, 1) := dk_27 (dk_at dksX7_fits_0 15 rfl rfl)
theorem dX7_fits_16 : decode cX7_fits 16 = .ok (.iconst (-1), 1) := dk_2 (dk_at dksX7_fits_0 16 rfl rfl)
theorem dX7_fits_17 : decode cX7_fits 17 = .ok (.invokevirtual 471, 3) := dk_182 1 215 (dk_at dksX7_fits_0 17 rfl rfl)
theorem dX7_fits_20 : decode cX7_fits 20 = .ok (.invokevirtual 50, 3) := dk_182 0 50 (dk_at dksX7_fits_0 20 rfl rfl)
theorem dX7_fits_23 : decode cX7_fits 23 = .ok (.goto 8, 3) := dk_167 0 8 (dk_at dksX7_fits_1 0 rfl rfl)
theorem dX7_fits_26 : decode cX7_fits 26 = .ok (.aload_n 0, 1) := dk_42 (dk_at dksX7_fits_1 3 rfl rfl)
theorem dX7_fits_27 : decode cX7_fits 27 = .ok (.iconst 1, 1) := dk_4 (dk_at dksX7_fits_1 4 rfl rfl)
theorem dX7_fits_28 : decode cX7_fits 28 = .ok (.invokevirtual 46, 3) := dk_182 0 46 (dk_at dksX7_fits_1 5 rfl rfl)
theorem dX7_fits_31 : decode cX7_fits 31 = .ok (.ireturn, 1) := dk_172 (dk_at dksX7_fits_1 8 rfl rfl)
abbrev cX7_isSeen : ByteArray := prog_19_method_85_code
def yX7_isSeen : MethodName := ⟨RX7, "isSeen", "(I)Z"⟩
def dkwX7_isSeen_1 : List UInt8 := [167, 0, 4, 3, 172]
abbrev dktX7_isSeen_1 : List UInt8 := dkwX7_isSeen_1 ++ []
def dkwX7_isSeen_0 : List UInt8 := [42, 180, 1, 82, 198, 0, 22, 27, 155, 0, 18, 27, 42, 180, 1, 82, 180, 1, 67, 162, 0, 7, 4]
abbrev dktX7_isSeen_0 : List UInt8 := dkwX7_isSeen_0 ++ dktX7_isSeen_1
theorem dksX7_isSeen_0 : cX7_isSeen.data.toList.drop 0 = dktX7_isSeen_0 := by decide +kernel
theorem dksX7_isSeen_1 : cX7_isSeen.data.toList.drop 23 = dktX7_isSeen_1 := dk_seg dksX7_isSeen_0 23 rfl rfl
theorem dX7_isSeen_0 : decode cX7_isSeen 0 = .ok (.aload_n 0, 1) := dk_42 (dk_at dksX7_isSeen_0 0 rfl rfl)
theorem dX7_isSeen_1 : decode cX7_isSeen 1 = .ok (.getfield 338, 3) := dk_180 1 82 (dk_at dksX7_isSeen_0 1 rfl rfl)
theorem dX7_isSeen_4 : decode cX7_isSeen 4 = .ok (.ifnull 22, 3) := dk_198 0 22 (dk_at dksX7_isSeen_0 4 rfl rfl)
theorem dX7_isSeen_7 : decode cX7_isSeen 7 = .ok (.iload_n 1, 1) := dk_27 (dk_at dksX7_isSeen_0 7 rfl rfl)
theorem dX7_isSeen_8 : decode cX7_isSeen 8 = .ok (.ifCond .lt 18, 3) := dk_155 0 18 (dk_at dksX7_isSeen_0 8 rfl rfl)
theorem dX7_isSeen_11 : decode cX7_isSeen 11 = .ok (.iload_n 1, 1) := dk_27 (dk_at dksX7_isSeen_0 11 rfl rfl)
theorem dX7_isSeen_12 : decode cX7_isSeen 12 = .ok (.aload_n 0, 1) := dk_42 (dk_at dksX7_isSeen_0 12 rfl rfl)
theorem dX7_isSeen_13 : decode cX7_isSeen 13 = .ok (.getfield 338, 3) := dk_180 1 82 (dk_at dksX7_isSeen_0 13 rfl rfl)
theorem dX7_isSeen_16 : decode cX7_isSeen 16 = .ok (.getfield 323, 3) := dk_180 1 67 (dk_at dksX7_isSeen_0 16 rfl rfl)
theorem dX7_isSeen_19 : decode cX7_isSeen 19 = .ok (.if_icmp .ge 7, 3) := dk_162 0 7 (dk_at dksX7_isSeen_0 19 rfl rfl)
theorem dX7_isSeen_22 : decode cX7_isSeen 22 = .ok (.iconst 1, 1) := dk_4 (dk_at dksX7_isSeen_0 22 rfl rfl)
theorem dX7_isSeen_23 : decode cX7_isSeen 23 = .ok (.goto 4, 3) := dk_167 0 4 (dk_at dksX7_isSeen_1 0 rfl rfl)
theorem dX7_isSeen_26 : decode cX7_isSeen 26 = .ok (.iconst 0, 1) := dk_3 (dk_at dksX7_isSeen_1 3 rfl rfl)
theorem dX7_isSeen_27 : decode cX7_isSeen 27 = .ok (.ireturn, 1) := dk_172 (dk_at dksX7_isSeen_1 4 rfl rfl)
abbrev cX7_fitOf : ByteArray := prog_19_method_86_code
def yX7_fitOf : MethodName := ⟨RX7, "fitOf", "(II)I"⟩
def dkwX7_fitOf_9 : List UInt8 := [167, 255, 67, 28, 156, 0, 8, 21, 4, 167, 0, 4, 2, 172]
abbrev dktX7_fitOf_9 : List UInt8 := dkwX7_fitOf_9 ++ []
def dkwX7_fitOf_8 : List UInt8 := [132, 4, 1, 132, 8, 1, 167, 255, 132, 132, 7, 1, 167, 255, 103, 132, 6, 1, 167, 255, 88, 132, 5, 1]
abbrev dktX7_fitOf_8 : List UInt8 := dkwX7_fitOf_8 ++ dktX7_fitOf_9
def dkwX7_fitOf_7 : List UInt8 := [17, 3, 232, 21, 5, 104, 16, 100, 21, 6, 104, 96, 16, 10, 21, 7, 104, 96, 21, 8, 96, 172]
abbrev dktX7_fitOf_7 : List UInt8 := dkwX7_fitOf_7 ++ dktX7_fitOf_8
def dkwX7_fitOf_6 : List UInt8 := [54, 9, 132, 10, 1, 167, 255, 197, 21, 9, 154, 0, 6, 167, 0, 34, 21, 4, 28, 160, 0, 25]
abbrev dktX7_fitOf_6 : List UInt8 := dkwX7_fitOf_6 ++ dktX7_fitOf_7
def dkwX7_fitOf_5 : List UInt8 := [180, 1, 82, 180, 1, 70, 8, 27, 104, 21, 10, 96, 46, 133, 105, 148, 154, 0, 7, 4, 167, 0, 4, 3]
abbrev dktX7_fitOf_5 : List UInt8 := dkwX7_fitOf_5 ++ dktX7_fitOf_6
def dkwX7_fitOf_4 : List UInt8 := [153, 0, 45, 42, 29, 21, 5, 21, 6, 21, 7, 21, 8, 21, 10, 182, 1, 123, 20, 1, 131, 42]
abbrev dktX7_fitOf_4 : List UInt8 := dkwX7_fitOf_4 ++ dktX7_fitOf_5
def dkwX7_fitOf_3 : List UInt8 := [180, 1, 64, 29, 46, 163, 0, 116, 4, 54, 9, 3, 54, 10, 21, 10, 8, 162, 0, 59, 21, 9]
abbrev dktX7_fitOf_3 : List UInt8 := dkwX7_fitOf_3 ++ dktX7_fitOf_4
def dkwX7_fitOf_2 : List UInt8 := [180, 0, 219, 162, 0, 147, 42, 180, 1, 82, 180, 1, 61, 29, 46, 54, 8, 21, 8, 42, 180, 1, 82]
abbrev dktX7_fitOf_2 : List UInt8 := dkwX7_fitOf_2 ++ dktX7_fitOf_3
def dkwX7_fitOf_1 : List UInt8 := [180, 1, 8, 162, 0, 183, 3, 54, 6, 21, 6, 5, 162, 0, 168, 3, 54, 7, 21, 7, 42, 180, 1, 82]
abbrev dktX7_fitOf_1 : List UInt8 := dkwX7_fitOf_1 ++ dktX7_fitOf_2
def dkwX7_fitOf_0 : List UInt8 := [42, 180, 1, 82, 180, 1, 72, 27, 46, 62, 3, 54, 4, 3, 54, 5, 21, 5, 42, 180, 1, 82]
abbrev dktX7_fitOf_0 : List UInt8 := dkwX7_fitOf_0 ++ dktX7_fitOf_1
theorem dksX7_fitOf_0 : cX7_fitOf.data.toList.drop 0 = dktX7_fitOf_0 := by decide +kernel
theorem dksX7_fitOf_1 : cX7_fitOf.data.toList.drop 22 = dktX7_fitOf_1 := dk_seg dksX7_fitOf_0 22 rfl rfl
theorem dksX7_fitOf_2 : cX7_fitOf.data.toList.drop 46 = dktX7_fitOf_2 := dk_seg dksX7_fitOf_1 24 rfl rfl
theorem dksX7_fitOf_3 : cX7_fitOf.data.toList.drop 69 = dktX7_fitOf_3 := dk_seg dksX7_fitOf_2 23 rfl rfl
theorem dksX7_fitOf_4 : cX7_fitOf.data.toList.drop 91 = dktX7_fitOf_4 := dk_seg dksX7_fitOf_3 22 rfl rfl
theorem dksX7_fitOf_5 : cX7_fitOf.data.toList.drop 113 = dktX7_fitOf_5 := dk_seg dksX7_fitOf_4 22 rfl rfl
theorem dksX7_fitOf_6 : cX7_fitOf.data.toList.drop 137 = dktX7_fitOf_6 := dk_seg dksX7_fitOf_5 24 rfl rfl
theorem dksX7_fitOf_7 : cX7_fitOf.data.toList.drop 159 = dktX7_fitOf_7 := dk_seg dksX7_fitOf_6 22 rfl rfl
theorem dksX7_fitOf_8 : cX7_fitOf.data.toList.drop 181 = dktX7_fitOf_8 := dk_seg dksX7_fitOf_7 22 rfl rfl
theorem dksX7_fitOf_9 : cX7_fitOf.data.toList.drop 205 = dktX7_fitOf_9 := dk_seg dksX7_fitOf_8 24 rfl rfl
theorem dX7_fitOf_0 : decode cX7_fitOf 0 = .ok (.aload_n 0, 1) := dk_42 (dk_at dksX7_fitOf_0 0 rfl rfl)
theorem dX7_fitOf_1 : decode cX7_fitOf 1 = .ok (.getfield 338, 3) := dk_180 1 82 (dk_at dksX7_fitOf_0 1 rfl rfl)
theorem dX7_fitOf_4 : decode cX7_fitOf 4 = .ok (.getfield 328, 3) := dk_180 1 72 (dk_at dksX7_fitOf_0 4 rfl rfl)
theorem dX7_fitOf_7 : decode cX7_fitOf 7 = .ok (.iload_n 1, 1) := dk_27 (dk_at dksX7_fitOf_0 7 rfl rfl)
theorem dX7_fitOf_8 : decode cX7_fitOf 8 = .ok (.iaload, 1) := dk_46 (dk_at dksX7_fitOf_0 8 rfl rfl)
theorem dX7_fitOf_9 : decode cX7_fitOf 9 = .ok (.istore_n 3, 1) := dk_62 (dk_at dksX7_fitOf_0 9 rfl rfl)
theorem dX7_fitOf_10 : decode cX7_fitOf 10 = .ok (.iconst 0, 1) := dk_3 (dk_at dksX7_fitOf_0 10 rfl rfl)
theorem dX7_fitOf_11 : decode cX7_fitOf 11 = .ok (.istore 4, 2) := dk_54 4 (dk_at dksX7_fitOf_0 11 rfl rfl)
theorem dX7_fitOf_13 : decode cX7_fitOf 13 = .ok (.iconst 0, 1) := dk_3 (dk_at dksX7_fitOf_0 13 rfl rfl)
theorem dX7_fitOf_14 : decode cX7_fitOf 14 = .ok (.istore 5, 2) := dk_54 5 (dk_at dksX7_fitOf_0 14 rfl rfl)
theorem dX7_fitOf_16 : decode cX7_fitOf 16 = .ok (.iload 5, 2) := dk_21 5 (dk_at dksX7_fitOf_0 16 rfl rfl)
theorem dX7_fitOf_18 : decode cX7_fitOf 18 = .ok (.aload_n 0, 1) := dk_42 (dk_at dksX7_fitOf_0 18 rfl rfl)
theorem dX7_fitOf_19 : decode cX7_fitOf 19 = .ok (.getfield 338, 3) := dk_180 1 82 (dk_at dksX7_fitOf_0 19 rfl rfl)
theorem dX7_fitOf_22 : decode cX7_fitOf 22 = .ok (.getfield 264, 3) := dk_180 1 8 (dk_at dksX7_fitOf_1 0 rfl rfl)
theorem dX7_fitOf_25 : decode cX7_fitOf 25 = .ok (.if_icmp .ge 183, 3) := dk_162 0 183 (dk_at dksX7_fitOf_1 3 rfl rfl)
theorem dX7_fitOf_28 : decode cX7_fitOf 28 = .ok (.iconst 0, 1) := dk_3 (dk_at dksX7_fitOf_1 6 rfl rfl)
theorem dX7_fitOf_29 : decode cX7_fitOf 29 = .ok (.istore 6, 2) := dk_54 6 (dk_at dksX7_fitOf_1 7 rfl rfl)
theorem dX7_fitOf_31 : decode cX7_fitOf 31 = .ok (.iload 6, 2) := dk_21 6 (dk_at dksX7_fitOf_1 9 rfl rfl)
theorem dX7_fitOf_33 : decode cX7_fitOf 33 = .ok (.iconst 2, 1) := dk_5 (dk_at dksX7_fitOf_1 11 rfl rfl)
theorem dX7_fitOf_34 : decode cX7_fitOf 34 = .ok (.if_icmp .ge 168, 3) := dk_162 0 168 (dk_at dksX7_fitOf_1 12 rfl rfl)
theorem dX7_fitOf_37 : decode cX7_fitOf 37 = .ok (.iconst 0, 1) := dk_3 (dk_at dksX7_fitOf_1 15 rfl rfl)
theorem dX7_fitOf_38 : decode cX7_fitOf 38 = .ok (.istore 7, 2) := dk_54 7 (dk_at dksX7_fitOf_1 16 rfl rfl)
theorem dX7_fitOf_40 : decode cX7_fitOf 40 = .ok (.iload 7, 2) := dk_21 7 (dk_at dksX7_fitOf_1 18 rfl rfl)
theorem dX7_fitOf_42 : decode cX7_fitOf 42 = .ok (.aload_n 0, 1) := dk_42 (dk_at dksX7_fitOf_1 20 rfl rfl)
theorem dX7_fitOf_43 : decode cX7_fitOf 43 = .ok (.getfield 338, 3) := dk_180 1 82 (dk_at dksX7_fitOf_1 21 rfl rfl)
theorem dX7_fitOf_46 : decode cX7_fitOf 46 = .ok (.getfield 219, 3) := dk_180 0 219 (dk_at dksX7_fitOf_2 0 rfl rfl)
theorem dX7_fitOf_49 : decode cX7_fitOf 49 = .ok (.if_icmp .ge 147, 3) := dk_162 0 147 (dk_at dksX7_fitOf_2 3 rfl rfl)
theorem dX7_fitOf_52 : decode cX7_fitOf 52 = .ok (.aload_n 0, 1) := dk_42 (dk_at dksX7_fitOf_2 6 rfl rfl)
theorem dX7_fitOf_53 : decode cX7_fitOf 53 = .ok (.getfield 338, 3) := dk_180 1 82 (dk_at dksX7_fitOf_2 7 rfl rfl)
theorem dX7_fitOf_56 : decode cX7_fitOf 56 = .ok (.getfield 317, 3) := dk_180 1 61 (dk_at dksX7_fitOf_2 10 rfl rfl)
theorem dX7_fitOf_59 : decode cX7_fitOf 59 = .ok (.iload_n 3, 1) := dk_29 (dk_at dksX7_fitOf_2 13 rfl rfl)
theorem dX7_fitOf_60 : decode cX7_fitOf 60 = .ok (.iaload, 1) := dk_46 (dk_at dksX7_fitOf_2 14 rfl rfl)
theorem dX7_fitOf_61 : decode cX7_fitOf 61 = .ok (.istore 8, 2) := dk_54 8 (dk_at dksX7_fitOf_2 15 rfl rfl)
theorem dX7_fitOf_63 : decode cX7_fitOf 63 = .ok (.iload 8, 2) := dk_21 8 (dk_at dksX7_fitOf_2 17 rfl rfl)
theorem dX7_fitOf_65 : decode cX7_fitOf 65 = .ok (.aload_n 0, 1) := dk_42 (dk_at dksX7_fitOf_2 19 rfl rfl)
theorem dX7_fitOf_66 : decode cX7_fitOf 66 = .ok (.getfield 338, 3) := dk_180 1 82 (dk_at dksX7_fitOf_2 20 rfl rfl)
theorem dX7_fitOf_69 : decode cX7_fitOf 69 = .ok (.getfield 320, 3) := dk_180 1 64 (dk_at dksX7_fitOf_3 0 rfl rfl)
theorem dX7_fitOf_72 : decode cX7_fitOf 72 = .ok (.iload_n 3, 1) := dk_29 (dk_at dksX7_fitOf_3 3 rfl rfl)
theorem dX7_fitOf_73 : decode cX7_fitOf 73 = .ok (.iaload, 1) := dk_46 (dk_at dksX7_fitOf_3 4 rfl rfl)
theorem dX7_fitOf_74 : decode cX7_fitOf 74 = .ok (.if_icmp .gt 116, 3) := dk_163 0 116 (dk_at dksX7_fitOf_3 5 rfl rfl)
theorem dX7_fitOf_77 : decode cX7_fitOf 77 = .ok (.iconst 1, 1) := dk_4 (dk_at dksX7_fitOf_3 8 rfl rfl)
theorem dX7_fitOf_78 : decode cX7_fitOf 78 = .ok (.istore 9, 2) := dk_54 9 (dk_at dksX7_fitOf_3 9 rfl rfl)
theorem dX7_fitOf_80 : decode cX7_fitOf 80 = .ok (.iconst 0, 1) := dk_3 (dk_at dksX7_fitOf_3 11 rfl rfl)
theorem dX7_fitOf_81 : decode cX7_fitOf 81 = .ok (.istore 10, 2) := dk_54 10 (dk_at dksX7_fitOf_3 12 rfl rfl)
theorem dX7_fitOf_83 : decode cX7_fitOf 83 = .ok (.iload 10, 2) := dk_21 10 (dk_at dksX7_fitOf_3 14 rfl rfl)
theorem dX7_fitOf_85 : decode cX7_fitOf 85 = .ok (.iconst 5, 1) := dk_8 (dk_at dksX7_fitOf_3 16 rfl rfl)
theorem dX7_fitOf_86 : decode cX7_fitOf 86 = .ok (.if_icmp .ge 59, 3) := dk_162 0 59 (dk_at dksX7_fitOf_3 17 rfl rfl)
theorem dX7_fitOf_89 : decode cX7_fitOf 89 = .ok (.iload 9, 2) := dk_21 9 (dk_at dksX7_fitOf_3 20 rfl rfl)
theorem dX7_fitOf_91 : decode cX7_fitOf 91 = .ok (.ifCond .eq 45, 3) := dk_153 0 45 (dk_at dksX7_fitOf_4 0 rfl rfl)
theorem dX7_fitOf_94 : decode cX7_fitOf 94 = .ok (.aload_n 0, 1) := dk_42 (dk_at dksX7_fitOf_4 3 rfl rfl)
theorem dX7_fitOf_95 : decode cX7_fitOf 95 = .ok (.iload_n 3, 1) := dk_29 (dk_at dksX7_fitOf_4 4 rfl rfl)
theorem dX7_fitOf_96 : decode cX7_fitOf 96 = .ok (.iload 5, 2) := dk_21 5 (dk_at dksX7_fitOf_4 5 rfl rfl)
theorem dX7_fitOf_98 : decode cX7_fitOf 98 = .ok (.iload 6, 2) := dk_21 6 (dk_at dksX7_fitOf_4 7 rfl rfl)
theorem dX7_fitOf_100 : decode cX7_fitOf 100 = .ok (.iload 7, 2) := dk_21 7 (dk_at dksX7_fitOf_4 9 rfl rfl)
theorem dX7_fitOf_102 : decode cX7_fitOf 102 = .ok (.iload 8, 2) := dk_21 8 (dk_at dksX7_fitOf_4 11 rfl rfl)
theorem dX7_fitOf_104 : decode cX7_fitOf 104 = .ok (.iload 10, 2) := dk_21 10 (dk_at dksX7_fitOf_4 13 rfl rfl)
theorem dX7_fitOf_106 : decode cX7_fitOf 106 = .ok (.invokevirtual 379, 3) := dk_182 1 123 (dk_at dksX7_fitOf_4 15 rfl rfl)
theorem dX7_fitOf_109 : decode cX7_fitOf 109 = .ok (.ldc2_w 387, 3) := dk_20 1 131 (dk_at dksX7_fitOf_4 18 rfl rfl)
theorem dX7_fitOf_112 : decode cX7_fitOf 112 = .ok (.aload_n 0, 1) := dk_42 (dk_at dksX7_fitOf_4 21 rfl rfl)
theorem dX7_fitOf_113 : decode cX7_fitOf 113 = .ok (.getfield 338, 3) := dk_180 1 82 (dk_at dksX7_fitOf_5 0 rfl rfl)
theorem dX7_fitOf_116 : decode cX7_fitOf 116 = .ok (.getfield 326, 3) := dk_180 1 70 (dk_at dksX7_fitOf_5 3 rfl rfl)
theorem dX7_fitOf_119 : decode cX7_fitOf 119 = .ok (.iconst 5, 1) := dk_8 (dk_at dksX7_fitOf_5 6 rfl rfl)
theorem dX7_fitOf_120 : decode cX7_fitOf 120 = .ok (.iload_n 1, 1) := dk_27 (dk_at dksX7_fitOf_5 7 rfl rfl)
theorem dX7_fitOf_121 : decode cX7_fitOf 121 = .ok (.imul, 1) := dk_104 (dk_at dksX7_fitOf_5 8 rfl rfl)
theorem dX7_fitOf_122 : decode cX7_fitOf 122 = .ok (.iload 10, 2) := dk_21 10 (dk_at dksX7_fitOf_5 9 rfl rfl)
theorem dX7_fitOf_124 : decode cX7_fitOf 124 = .ok (.iadd, 1) := dk_96 (dk_at dksX7_fitOf_5 11 rfl rfl)
theorem dX7_fitOf_125 : decode cX7_fitOf 125 = .ok (.iaload, 1) := dk_46 (dk_at dksX7_fitOf_5 12 rfl rfl)
theorem dX7_fitOf_126 : decode cX7_fitOf 126 = .ok (.i2l, 1) := dk_133 (dk_at dksX7_fitOf_5 13 rfl rfl)
theorem dX7_fitOf_127 : decode cX7_fitOf 127 = .ok (.lmul, 1) := dk_105 (dk_at dksX7_fitOf_5 14 rfl rfl)
theorem dX7_fitOf_128 : decode cX7_fitOf 128 = .ok (.lcmp, 1) := dk_148 (dk_at dksX7_fitOf_5 15 rfl rfl)
theorem dX7_fitOf_129 : decode cX7_fitOf 129 = .ok (.ifCond .ne 7, 3) := dk_154 0 7 (dk_at dksX7_fitOf_5 16 rfl rfl)
theorem dX7_fitOf_132 : decode cX7_fitOf 132 = .ok (.iconst 1, 1) := dk_4 (dk_at dksX7_fitOf_5 19 rfl rfl)
theorem dX7_fitOf_133 : decode cX7_fitOf 133 = .ok (.goto 4, 3) := dk_167 0 4 (dk_at dksX7_fitOf_5 20 rfl rfl)
theorem dX7_fitOf_136 : decode cX7_fitOf 136 = .ok (.iconst 0, 1) := dk_3 (dk_at dksX7_fitOf_5 23 rfl rfl)
theorem dX7_fitOf_137 : decode cX7_fitOf 137 = .ok (.istore 9, 2) := dk_54 9 (dk_at dksX7_fitOf_6 0 rfl rfl)
theorem dX7_fitOf_139 : decode cX7_fitOf 139 = .ok (.iinc 10 1, 3) := dk_132 10 1 (dk_at dksX7_fitOf_6 2 rfl rfl)
theorem dX7_fitOf_142 : decode cX7_fitOf 142 = .ok (.goto (-59), 3) := dk_167 255 197 (dk_at dksX7_fitOf_6 5 rfl rfl)
theorem dX7_fitOf_145 : decode cX7_fitOf 145 = .ok (.iload 9, 2) := dk_21 9 (dk_at dksX7_fitOf_6 8 rfl rfl)
theorem dX7_fitOf_147 : decode cX7_fitOf 147 = .ok (.ifCond .ne 6, 3) := dk_154 0 6 (dk_at dksX7_fitOf_6 10 rfl rfl)
theorem dX7_fitOf_150 : decode cX7_fitOf 150 = .ok (.goto 34, 3) := dk_167 0 34 (dk_at dksX7_fitOf_6 13 rfl rfl)
theorem dX7_fitOf_153 : decode cX7_fitOf 153 = .ok (.iload 4, 2) := dk_21 4 (dk_at dksX7_fitOf_6 16 rfl rfl)
theorem dX7_fitOf_155 : decode cX7_fitOf 155 = .ok (.iload_n 2, 1) := dk_28 (dk_at dksX7_fitOf_6 18 rfl rfl)
theorem dX7_fitOf_156 : decode cX7_fitOf 156 = .ok (.if_icmp .ne 25, 3) := dk_160 0 25 (dk_at dksX7_fitOf_6 19 rfl rfl)
theorem dX7_fitOf_159 : decode cX7_fitOf 159 = .ok (.sipush 1000, 3) := dk_17 3 232 (dk_at dksX7_fitOf_7 0 rfl rfl)
theorem dX7_fitOf_162 : decode cX7_fitOf 162 = .ok (.iload 5, 2) := dk_21 5 (dk_at dksX7_fitOf_7 3 rfl rfl)
theorem dX7_fitOf_164 : decode cX7_fitOf 164 = .ok (.imul, 1) := dk_104 (dk_at dksX7_fitOf_7 5 rfl rfl)
theorem dX7_fitOf_165 : decode cX7_fitOf 165 = .ok (.bipush 100, 2) := dk_16 100 (dk_at dksX7_fitOf_7 6 rfl rfl)
theorem dX7_fitOf_167 : decode cX7_fitOf 167 = .ok (.iload 6, 2) := dk_21 6 (dk_at dksX7_fitOf_7 8 rfl rfl)
theorem dX7_fitOf_169 : decode cX7_fitOf 169 = .ok (.imul, 1) := dk_104 (dk_at dksX7_fitOf_7 10 rfl rfl)
theorem dX7_fitOf_170 : decode cX7_fitOf 170 = .ok (.iadd, 1) := dk_96 (dk_at dksX7_fitOf_7 11 rfl rfl)
theorem dX7_fitOf_171 : decode cX7_fitOf 171 = .ok (.bipush 10, 2) := dk_16 10 (dk_at dksX7_fitOf_7 12 rfl rfl)
theorem dX7_fitOf_173 : decode cX7_fitOf 173 = .ok (.iload 7, 2) := dk_21 7 (dk_at dksX7_fitOf_7 14 rfl rfl)
theorem dX7_fitOf_175 : decode cX7_fitOf 175 = .ok (.imul, 1) := dk_104 (dk_at dksX7_fitOf_7 16 rfl rfl)
theorem dX7_fitOf_176 : decode cX7_fitOf 176 = .ok (.iadd, 1) := dk_96 (dk_at dksX7_fitOf_7 17 rfl rfl)
theorem dX7_fitOf_177 : decode cX7_fitOf 177 = .ok (.iload 8, 2) := dk_21 8 (dk_at dksX7_fitOf_7 18 rfl rfl)
theorem dX7_fitOf_179 : decode cX7_fitOf 179 = .ok (.iadd, 1) := dk_96 (dk_at dksX7_fitOf_7 20 rfl rfl)
theorem dX7_fitOf_180 : decode cX7_fitOf 180 = .ok (.ireturn, 1) := dk_172 (dk_at dksX7_fitOf_7 21 rfl rfl)
theorem dX7_fitOf_181 : decode cX7_fitOf 181 = .ok (.iinc 4 1, 3) := dk_132 4 1 (dk_at dksX7_fitOf_8 0 rfl rfl)
theorem dX7_fitOf_184 : decode cX7_fitOf 184 = .ok (.iinc 8 1, 3) := dk_132 8 1 (dk_at dksX7_fitOf_8 3 rfl rfl)
theorem dX7_fitOf_187 : decode cX7_fitOf 187 = .ok (.goto (-124), 3) := dk_167 255 132 (dk_at dksX7_fitOf_8 6 rfl rfl)
theorem dX7_fitOf_190 : decode cX7_fitOf 190 = .ok (.iinc 7 1, 3) := dk_132 7 1 (dk_at dksX7_fitOf_8 9 rfl rfl)
theorem dX7_fitOf_193 : decode cX7_fitOf 193 = .ok (.goto (-153), 3) := dk_167 255 103 (dk_at dksX7_fitOf_8 12 rfl rfl)
theorem dX7_fitOf_196 : decode cX7_fitOf 196 = .ok (.iinc 6 1, 3) := dk_132 6 1 (dk_at dksX7_fitOf_8 15 rfl rfl)
theorem dX7_fitOf_199 : decode cX7_fitOf 199 = .ok (.goto (-168), 3) := dk_167 255 88 (dk_at dksX7_fitOf_8 18 rfl rfl)
theorem dX7_fitOf_202 : decode cX7_fitOf 202 = .ok (.iinc 5 1, 3) := dk_132 5 1 (dk_at dksX7_fitOf_8 21 rfl rfl)
theorem dX7_fitOf_205 : decode cX7_fitOf 205 = .ok (.goto (-189), 3) := dk_167 255 67 (dk_at dksX7_fitOf_9 0 rfl rfl)
theorem dX7_fitOf_208 : decode cX7_fitOf 208 = .ok (.iload_n 2, 1) := dk_28 (dk_at dksX7_fitOf_9 3 rfl rfl)
theorem dX7_fitOf_209 : decode cX7_fitOf 209 = .ok (.ifCond .ge 8, 3) := dk_156 0 8 (dk_at dksX7_fitOf_9 4 rfl rfl)
theorem dX7_fitOf_212 : decode cX7_fitOf 212 = .ok (.iload 4, 2) := dk_21 4 (dk_at dksX7_fitOf_9 7 rfl rfl)
theorem dX7_fitOf_214 : decode cX7_fitOf 214 = .ok (.goto 4, 3) := dk_167 0 4 (dk_at dksX7_fitOf_9 9 rfl rfl)
theorem dX7_fitOf_217 : decode cX7_fitOf 217 = .ok (.iconst (-1), 1) := dk_2 (dk_at dksX7_fitOf_9 12 rfl rfl)
theorem dX7_fitOf_218 : decode cX7_fitOf 218 = .ok (.ireturn, 1) := dk_172 (dk_at dksX7_fitOf_9 13 rfl rfl)
abbrev cX7_fit : ByteArray := prog_19_method_88_code
def yX7_fit : MethodName := ⟨RX7, "fit", "(II)I"⟩
def dkwX7_fit_1 : List UInt8 := [167, 0, 4, 2, 62, 29, 2, 160, 0, 11, 42, 4, 182, 0, 46, 167, 0, 8, 42, 29, 182, 0, 50, 172]
abbrev dktX7_fit_1 : List UInt8 := dkwX7_fit_1 ++ []
def dkwX7_fit_0 : List UInt8 := [42, 3, 181, 0, 40, 42, 27, 182, 1, 212, 153, 0, 16, 28, 155, 0, 12, 42, 27, 28, 182, 1, 215]
abbrev dktX7_fit_0 : List UInt8 := dkwX7_fit_0 ++ dktX7_fit_1
theorem dksX7_fit_0 : cX7_fit.data.toList.drop 0 = dktX7_fit_0 := by decide +kernel
theorem dksX7_fit_1 : cX7_fit.data.toList.drop 23 = dktX7_fit_1 := dk_seg dksX7_fit_0 23 rfl rfl
theorem dX7_fit_0 : decode cX7_fit 0 = .ok (.aload_n 0, 1) := dk_42 (dk_at dksX7_fit_0 0 rfl rfl)
theorem dX7_fit_1 : decode cX7_fit 1 = .ok (.iconst 0, 1) := dk_3 (dk_at dksX7_fit_0 1 rfl rfl)
theorem dX7_fit_2 : decode cX7_fit 2 = .ok (.putfield 40, 3) := dk_181 0 40 (dk_at dksX7_fit_0 2 rfl rfl)
theorem dX7_fit_5 : decode cX7_fit 5 = .ok (.aload_n 0, 1) := dk_42 (dk_at dksX7_fit_0 5 rfl rfl)
theorem dX7_fit_6 : decode cX7_fit 6 = .ok (.iload_n 1, 1) := dk_27 (dk_at dksX7_fit_0 6 rfl rfl)
theorem dX7_fit_7 : decode cX7_fit 7 = .ok (.invokevirtual 468, 3) := dk_182 1 212 (dk_at dksX7_fit_0 7 rfl rfl)
theorem dX7_fit_10 : decode cX7_fit 10 = .ok (.ifCond .eq 16, 3) := dk_153 0 16 (dk_at dksX7_fit_0 10 rfl rfl)
theorem dX7_fit_13 : decode cX7_fit 13 = .ok (.iload_n 2, 1) := dk_28 (dk_at dksX7_fit_0 13 rfl rfl)
theorem dX7_fit_14 : decode cX7_fit 14 = .ok (.ifCond .lt 12, 3) := dk_155 0 12 (dk_at dksX7_fit_0 14 rfl rfl)
theorem dX7_fit_17 : decode cX7_fit 17 = .ok (.aload_n 0, 1) := dk_42 (dk_at dksX7_fit_0 17 rfl rfl)
theorem dX7_fit_18 : decode cX7_fit 18 = .ok (.iload_n 1, 1) := dk_27 (dk_at dksX7_fit_0 18 rfl rfl)
theorem dX7_fit_19 : decode cX7_fit 19 = .ok (.iload_n 2, 1) := dk_28 (dk_at dksX7_fit_0 19 rfl rfl)
theorem dX7_fit_20 : decode cX7_fit 20 = .ok (.invokevirtual 471, 3) := dk_182 1 215 (dk_at dksX7_fit_0 20 rfl rfl)
theorem dX7_fit_23 : decode cX7_fit 23 = .ok (.goto 4, 3) := dk_167 0 4 (dk_at dksX7_fit_1 0 rfl rfl)
theorem dX7_fit_26 : decode cX7_fit 26 = .ok (.iconst (-1), 1) := dk_2 (dk_at dksX7_fit_1 3 rfl rfl)
theorem dX7_fit_27 : decode cX7_fit 27 = .ok (.istore_n 3, 1) := dk_62 (dk_at dksX7_fit_1 4 rfl rfl)
theorem dX7_fit_28 : decode cX7_fit 28 = .ok (.iload_n 3, 1) := dk_29 (dk_at dksX7_fit_1 5 rfl rfl)
theorem dX7_fit_29 : decode cX7_fit 29 = .ok (.iconst (-1), 1) := dk_2 (dk_at dksX7_fit_1 6 rfl rfl)
theorem dX7_fit_30 : decode cX7_fit 30 = .ok (.if_icmp .ne 11, 3) := dk_160 0 11 (dk_at dksX7_fit_1 7 rfl rfl)
theorem dX7_fit_33 : decode cX7_fit 33 = .ok (.aload_n 0, 1) := dk_42 (dk_at dksX7_fit_1 10 rfl rfl)
theorem dX7_fit_34 : decode cX7_fit 34 = .ok (.iconst 1, 1) := dk_4 (dk_at dksX7_fit_1 11 rfl rfl)
theorem dX7_fit_35 : decode cX7_fit 35 = .ok (.invokevirtual 46, 3) := dk_182 0 46 (dk_at dksX7_fit_1 12 rfl rfl)
theorem dX7_fit_38 : decode cX7_fit 38 = .ok (.goto 8, 3) := dk_167 0 8 (dk_at dksX7_fit_1 15 rfl rfl)
theorem dX7_fit_41 : decode cX7_fit 41 = .ok (.aload_n 0, 1) := dk_42 (dk_at dksX7_fit_1 18 rfl rfl)
theorem dX7_fit_42 : decode cX7_fit 42 = .ok (.iload_n 3, 1) := dk_29 (dk_at dksX7_fit_1 19 rfl rfl)
theorem dX7_fit_43 : decode cX7_fit 43 = .ok (.invokevirtual 50, 3) := dk_182 0 50 (dk_at dksX7_fit_1 20 rfl rfl)
theorem dX7_fit_46 : decode cX7_fit 46 = .ok (.ireturn, 1) := dk_172 (dk_at dksX7_fit_1 23 rfl rfl)
abbrev cX7_lies : ByteArray := prog_19_method_89_code
def yX7_lies : MethodName := ⟨RX7, "lies", "()I"⟩
def dkwX7_lies_2 : List UInt8 := [167, 0, 4, 3, 128, 60, 132, 2, 1, 167, 255, 223, 42, 27, 182, 0, 50, 172]
abbrev dktX7_lies_2 : List UInt8 := dkwX7_lies_2 ++ []
def dkwX7_lies_1 : List UInt8 := [180, 1, 82, 180, 1, 67, 162, 0, 28, 27, 42, 28, 2, 182, 1, 215, 154, 0, 9, 4, 28, 120]
abbrev dktX7_lies_1 : List UInt8 := dkwX7_lies_1 ++ dktX7_lies_2
def dkwX7_lies_0 : List UInt8 := [42, 3, 181, 0, 40, 42, 180, 1, 82, 199, 0, 9, 42, 4, 182, 0, 46, 172, 3, 60, 3, 61, 28, 42]
abbrev dktX7_lies_0 : List UInt8 := dkwX7_lies_0 ++ dktX7_lies_1
theorem dksX7_lies_0 : cX7_lies.data.toList.drop 0 = dktX7_lies_0 := by decide +kernel
theorem dksX7_lies_1 : cX7_lies.data.toList.drop 24 = dktX7_lies_1 := dk_seg dksX7_lies_0 24 rfl rfl
theorem dksX7_lies_2 : cX7_lies.data.toList.drop 46 = dktX7_lies_2 := dk_seg dksX7_lies_1 22 rfl rfl
theorem dX7_lies_0 : decode cX7_lies 0 = .ok (.aload_n 0, 1) := dk_42 (dk_at dksX7_lies_0 0 rfl rfl)
theorem dX7_lies_1 : decode cX7_lies 1 = .ok (.iconst 0, 1) := dk_3 (dk_at dksX7_lies_0 1 rfl rfl)
theorem dX7_lies_2 : decode cX7_lies 2 = .ok (.putfield 40, 3) := dk_181 0 40 (dk_at dksX7_lies_0 2 rfl rfl)
theorem dX7_lies_5 : decode cX7_lies 5 = .ok (.aload_n 0, 1) := dk_42 (dk_at dksX7_lies_0 5 rfl rfl)
theorem dX7_lies_6 : decode cX7_lies 6 = .ok (.getfield 338, 3) := dk_180 1 82 (dk_at dksX7_lies_0 6 rfl rfl)
theorem dX7_lies_9 : decode cX7_lies 9 = .ok (.ifnonnull 9, 3) := dk_199 0 9 (dk_at dksX7_lies_0 9 rfl rfl)
theorem dX7_lies_12 : decode cX7_lies 12 = .ok (.aload_n 0, 1) := dk_42 (dk_at dksX7_lies_0 12 rfl rfl)
theorem dX7_lies_13 : decode cX7_lies 13 = .ok (.iconst 1, 1) := dk_4 (dk_at dksX7_lies_0 13 rfl rfl)
theorem dX7_lies_14 : decode cX7_lies 14 = .ok (.invokevirtual 46, 3) := dk_182 0 46 (dk_at dksX7_lies_0 14 rfl rfl)
theorem dX7_lies_17 : decode cX7_lies 17 = .ok (.ireturn, 1) := dk_172 (dk_at dksX7_lies_0 17 rfl rfl)
theorem dX7_lies_18 : decode cX7_lies 18 = .ok (.iconst 0, 1) := dk_3 (dk_at dksX7_lies_0 18 rfl rfl)
theorem dX7_lies_19 : decode cX7_lies 19 = .ok (.istore_n 1, 1) := dk_60 (dk_at dksX7_lies_0 19 rfl rfl)
theorem dX7_lies_20 : decode cX7_lies 20 = .ok (.iconst 0, 1) := dk_3 (dk_at dksX7_lies_0 20 rfl rfl)
theorem dX7_lies_21 : decode cX7_lies 21 = .ok (.istore_n 2, 1) := dk_61 (dk_at dksX7_lies_0 21 rfl rfl)
theorem dX7_lies_22 : decode cX7_lies 22 = .ok (.iload_n 2, 1) := dk_28 (dk_at dksX7_lies_0 22 rfl rfl)
theorem dX7_lies_23 : decode cX7_lies 23 = .ok (.aload_n 0, 1) := dk_42 (dk_at dksX7_lies_0 23 rfl rfl)
theorem dX7_lies_24 : decode cX7_lies 24 = .ok (.getfield 338, 3) := dk_180 1 82 (dk_at dksX7_lies_1 0 rfl rfl)
theorem dX7_lies_27 : decode cX7_lies 27 = .ok (.getfield 323, 3) := dk_180 1 67 (dk_at dksX7_lies_1 3 rfl rfl)
theorem dX7_lies_30 : decode cX7_lies 30 = .ok (.if_icmp .ge 28, 3) := dk_162 0 28 (dk_at dksX7_lies_1 6 rfl rfl)
theorem dX7_lies_33 : decode cX7_lies 33 = .ok (.iload_n 1, 1) := dk_27 (dk_at dksX7_lies_1 9 rfl rfl)
theorem dX7_lies_34 : decode cX7_lies 34 = .ok (.aload_n 0, 1) := dk_42 (dk_at dksX7_lies_1 10 rfl rfl)
theorem dX7_lies_35 : decode cX7_lies 35 = .ok (.iload_n 2, 1) := dk_28 (dk_at dksX7_lies_1 11 rfl rfl)
theorem dX7_lies_36 : decode cX7_lies 36 = .ok (.iconst (-1), 1) := dk_2 (dk_at dksX7_lies_1 12 rfl rfl)
theorem dX7_lies_37 : decode cX7_lies 37 = .ok (.invokevirtual 471, 3) := dk_182 1 215 (dk_at dksX7_lies_1 13 rfl rfl)
theorem dX7_lies_40 : decode cX7_lies 40 = .ok (.ifCond .ne 9, 3) := dk_154 0 9 (dk_at dksX7_lies_1 16 rfl rfl)
theorem dX7_lies_43 : decode cX7_lies 43 = .ok (.iconst 1, 1) := dk_4 (dk_at dksX7_lies_1 19 rfl rfl)
theorem dX7_lies_44 : decode cX7_lies 44 = .ok (.iload_n 2, 1) := dk_28 (dk_at dksX7_lies_1 20 rfl rfl)
theorem dX7_lies_45 : decode cX7_lies 45 = .ok (.ishl, 1) := dk_120 (dk_at dksX7_lies_1 21 rfl rfl)
theorem dX7_lies_46 : decode cX7_lies 46 = .ok (.goto 4, 3) := dk_167 0 4 (dk_at dksX7_lies_2 0 rfl rfl)
theorem dX7_lies_49 : decode cX7_lies 49 = .ok (.iconst 0, 1) := dk_3 (dk_at dksX7_lies_2 3 rfl rfl)
theorem dX7_lies_50 : decode cX7_lies 50 = .ok (.ior, 1) := dk_128 (dk_at dksX7_lies_2 4 rfl rfl)
theorem dX7_lies_51 : decode cX7_lies 51 = .ok (.istore_n 1, 1) := dk_60 (dk_at dksX7_lies_2 5 rfl rfl)
theorem dX7_lies_52 : decode cX7_lies 52 = .ok (.iinc 2 1, 3) := dk_132 2 1 (dk_at dksX7_lies_2 6 rfl rfl)
theorem dX7_lies_55 : decode cX7_lies 55 = .ok (.goto (-33), 3) := dk_167 255 223 (dk_at dksX7_lies_2 9 rfl rfl)
theorem dX7_lies_58 : decode cX7_lies 58 = .ok (.aload_n 0, 1) := dk_42 (dk_at dksX7_lies_2 12 rfl rfl)
theorem dX7_lies_59 : decode cX7_lies 59 = .ok (.iload_n 1, 1) := dk_27 (dk_at dksX7_lies_2 13 rfl rfl)
theorem dX7_lies_60 : decode cX7_lies 60 = .ok (.invokevirtual 50, 3) := dk_182 0 50 (dk_at dksX7_lies_2 14 rfl rfl)
theorem dX7_lies_63 : decode cX7_lies 63 = .ok (.ireturn, 1) := dk_172 (dk_at dksX7_lies_2 17 rfl rfl)
abbrev cX7_day : ByteArray := prog_19_method_91_code
def yX7_day : MethodName := ⟨RX7, "day", "(IIII)I"⟩
def dkwX7_day_8 : List UInt8 := [42, 3, 181, 1, 87, 42, 42, 180, 1, 219, 182, 0, 50, 172]
abbrev dktX7_day_8 : List UInt8 := dkwX7_day_8 ++ []
def dkwX7_day_7 : List UInt8 := [167, 255, 238, 42, 180, 0, 31, 3, 28, 133, 80, 42, 180, 0, 31, 4, 29, 133, 80, 42, 3, 181, 1, 84]
abbrev dktX7_day_7 : List UInt8 := dkwX7_day_7 ++ dktX7_day_8
def dkwX7_day_6 : List UInt8 := [167, 255, 188, 3, 54, 6, 21, 6, 16, 7, 162, 0, 17, 42, 180, 0, 31, 21, 6, 9, 80, 132, 6, 1]
abbrev dktX7_day_6 : List UInt8 := dkwX7_day_6 ++ dktX7_day_7
def dkwX7_day_5 : List UInt8 := [180, 0, 246, 21, 6, 46, 162, 0, 10, 4, 21, 6, 120, 167, 0, 4, 3, 128, 181, 1, 219, 132, 6, 1]
abbrev dktX7_day_5 : List UInt8 := dkwX7_day_5 ++ dktX7_day_6
def dkwX7_day_4 : List UInt8 := [97, 20, 1, 226, 113, 136, 54, 5, 42, 89, 180, 1, 219, 21, 5, 16, 100, 112, 42, 180, 1, 82]
abbrev dktX7_day_4 : List UInt8 := dkwX7_day_4 ++ dktX7_day_5
def dkwX7_day_3 : List UInt8 := [54, 6, 21, 6, 42, 180, 1, 82, 180, 0, 219, 162, 0, 62, 20, 1, 222, 21, 5, 133, 105, 20, 1, 224]
abbrev dktX7_day_3 : List UInt8 := dkwX7_day_3 ++ dktX7_day_4
def dkwX7_day_2 : List UInt8 := [154, 0, 9, 42, 5, 182, 0, 46, 172, 42, 27, 181, 0, 28, 42, 3, 181, 1, 219, 21, 4, 54, 5, 3]
abbrev dktX7_day_2 : List UInt8 := dkwX7_day_2 ++ dktX7_day_3
def dkwX7_day_1 : List UInt8 := [182, 0, 46, 172, 29, 3, 17, 1, 144, 184, 0, 118, 153, 0, 15, 21, 4, 3, 19, 1, 218, 184, 0, 118]
abbrev dktX7_day_1 : List UInt8 := dkwX7_day_1 ++ dktX7_day_2
def dkwX7_day_0 : List UInt8 := [42, 3, 181, 0, 40, 42, 27, 182, 1, 90, 153, 0, 11, 42, 28, 182, 1, 199, 154, 0, 9, 42, 4]
abbrev dktX7_day_0 : List UInt8 := dkwX7_day_0 ++ dktX7_day_1
theorem dksX7_day_0 : cX7_day.data.toList.drop 0 = dktX7_day_0 := by decide +kernel
theorem dksX7_day_1 : cX7_day.data.toList.drop 23 = dktX7_day_1 := dk_seg dksX7_day_0 23 rfl rfl
theorem dksX7_day_2 : cX7_day.data.toList.drop 47 = dktX7_day_2 := dk_seg dksX7_day_1 24 rfl rfl
theorem dksX7_day_3 : cX7_day.data.toList.drop 71 = dktX7_day_3 := dk_seg dksX7_day_2 24 rfl rfl
theorem dksX7_day_4 : cX7_day.data.toList.drop 95 = dktX7_day_4 := dk_seg dksX7_day_3 24 rfl rfl
theorem dksX7_day_5 : cX7_day.data.toList.drop 117 = dktX7_day_5 := dk_seg dksX7_day_4 22 rfl rfl
theorem dksX7_day_6 : cX7_day.data.toList.drop 141 = dktX7_day_6 := dk_seg dksX7_day_5 24 rfl rfl
theorem dksX7_day_7 : cX7_day.data.toList.drop 165 = dktX7_day_7 := dk_seg dksX7_day_6 24 rfl rfl
theorem dksX7_day_8 : cX7_day.data.toList.drop 189 = dktX7_day_8 := dk_seg dksX7_day_7 24 rfl rfl
theorem dX7_day_0 : decode cX7_day 0 = .ok (.aload_n 0, 1) := dk_42 (dk_at dksX7_day_0 0 rfl rfl)
theorem dX7_day_1 : decode cX7_day 1 = .ok (.iconst 0, 1) := dk_3 (dk_at dksX7_day_0 1 rfl rfl)
theorem dX7_day_2 : decode cX7_day 2 = .ok (.putfield 40, 3) := dk_181 0 40 (dk_at dksX7_day_0 2 rfl rfl)
theorem dX7_day_5 : decode cX7_day 5 = .ok (.aload_n 0, 1) := dk_42 (dk_at dksX7_day_0 5 rfl rfl)
theorem dX7_day_6 : decode cX7_day 6 = .ok (.iload_n 1, 1) := dk_27 (dk_at dksX7_day_0 6 rfl rfl)
theorem dX7_day_7 : decode cX7_day 7 = .ok (.invokevirtual 346, 3) := dk_182 1 90 (dk_at dksX7_day_0 7 rfl rfl)
theorem dX7_day_10 : decode cX7_day 10 = .ok (.ifCond .eq 11, 3) := dk_153 0 11 (dk_at dksX7_day_0 10 rfl rfl)
theorem dX7_day_13 : decode cX7_day 13 = .ok (.aload_n 0, 1) := dk_42 (dk_at dksX7_day_0 13 rfl rfl)
theorem dX7_day_14 : decode cX7_day 14 = .ok (.iload_n 2, 1) := dk_28 (dk_at dksX7_day_0 14 rfl rfl)
theorem dX7_day_15 : decode cX7_day 15 = .ok (.invokevirtual 455, 3) := dk_182 1 199 (dk_at dksX7_day_0 15 rfl rfl)
theorem dX7_day_18 : decode cX7_day 18 = .ok (.ifCond .ne 9, 3) := dk_154 0 9 (dk_at dksX7_day_0 18 rfl rfl)
theorem dX7_day_21 : decode cX7_day 21 = .ok (.aload_n 0, 1) := dk_42 (dk_at dksX7_day_0 21 rfl rfl)
theorem dX7_day_22 : decode cX7_day 22 = .ok (.iconst 1, 1) := dk_4 (dk_at dksX7_day_0 22 rfl rfl)
theorem dX7_day_23 : decode cX7_day 23 = .ok (.invokevirtual 46, 3) := dk_182 0 46 (dk_at dksX7_day_1 0 rfl rfl)
theorem dX7_day_26 : decode cX7_day 26 = .ok (.ireturn, 1) := dk_172 (dk_at dksX7_day_1 3 rfl rfl)
theorem dX7_day_27 : decode cX7_day 27 = .ok (.iload_n 3, 1) := dk_29 (dk_at dksX7_day_1 4 rfl rfl)
theorem dX7_day_28 : decode cX7_day 28 = .ok (.iconst 0, 1) := dk_3 (dk_at dksX7_day_1 5 rfl rfl)
theorem dX7_day_29 : decode cX7_day 29 = .ok (.sipush 400, 3) := dk_17 1 144 (dk_at dksX7_day_1 6 rfl rfl)
theorem dX7_day_32 : decode cX7_day 32 = .ok (.invokestatic 118, 3) := dk_184 0 118 (dk_at dksX7_day_1 9 rfl rfl)
theorem dX7_day_35 : decode cX7_day 35 = .ok (.ifCond .eq 15, 3) := dk_153 0 15 (dk_at dksX7_day_1 12 rfl rfl)
theorem dX7_day_38 : decode cX7_day 38 = .ok (.iload 4, 2) := dk_21 4 (dk_at dksX7_day_1 15 rfl rfl)
theorem dX7_day_40 : decode cX7_day 40 = .ok (.iconst 0, 1) := dk_3 (dk_at dksX7_day_1 17 rfl rfl)
theorem dX7_day_41 : decode cX7_day 41 = .ok (.ldc_w 474, 3) := dk_19 1 218 (dk_at dksX7_day_1 18 rfl rfl)
theorem dX7_day_44 : decode cX7_day 44 = .ok (.invokestatic 118, 3) := dk_184 0 118 (dk_at dksX7_day_1 21 rfl rfl)
theorem dX7_day_47 : decode cX7_day 47 = .ok (.ifCond .ne 9, 3) := dk_154 0 9 (dk_at dksX7_day_2 0 rfl rfl)
theorem dX7_day_50 : decode cX7_day 50 = .ok (.aload_n 0, 1) := dk_42 (dk_at dksX7_day_2 3 rfl rfl)
theorem dX7_day_51 : decode cX7_day 51 = .ok (.iconst 2, 1) := dk_5 (dk_at dksX7_day_2 4 rfl rfl)
theorem dX7_day_52 : decode cX7_day 52 = .ok (.invokevirtual 46, 3) := dk_182 0 46 (dk_at dksX7_day_2 5 rfl rfl)
theorem dX7_day_55 : decode cX7_day 55 = .ok (.ireturn, 1) := dk_172 (dk_at dksX7_day_2 8 rfl rfl)
theorem dX7_day_56 : decode cX7_day 56 = .ok (.aload_n 0, 1) := dk_42 (dk_at dksX7_day_2 9 rfl rfl)
theorem dX7_day_57 : decode cX7_day 57 = .ok (.iload_n 1, 1) := dk_27 (dk_at dksX7_day_2 10 rfl rfl)
theorem dX7_day_58 : decode cX7_day 58 = .ok (.putfield 28, 3) := dk_181 0 28 (dk_at dksX7_day_2 11 rfl rfl)
theorem dX7_day_61 : decode cX7_day 61 = .ok (.aload_n 0, 1) := dk_42 (dk_at dksX7_day_2 14 rfl rfl)
theorem dX7_day_62 : decode cX7_day 62 = .ok (.iconst 0, 1) := dk_3 (dk_at dksX7_day_2 15 rfl rfl)
theorem dX7_day_63 : decode cX7_day 63 = .ok (.putfield 475, 3) := dk_181 1 219 (dk_at dksX7_day_2 16 rfl rfl)
theorem dX7_day_66 : decode cX7_day 66 = .ok (.iload 4, 2) := dk_21 4 (dk_at dksX7_day_2 19 rfl rfl)
theorem dX7_day_68 : decode cX7_day 68 = .ok (.istore 5, 2) := dk_54 5 (dk_at dksX7_day_2 21 rfl rfl)
theorem dX7_day_70 : decode cX7_day 70 = .ok (.iconst 0, 1) := dk_3 (dk_at dksX7_day_2 23 rfl rfl)
theorem dX7_day_71 : decode cX7_day 71 = .ok (.istore 6, 2) := dk_54 6 (dk_at dksX7_day_3 0 rfl rfl)
theorem dX7_day_73 : decode cX7_day 73 = .ok (.iload 6, 2) := dk_21 6 (dk_at dksX7_day_3 2 rfl rfl)
theorem dX7_day_75 : decode cX7_day 75 = .ok (.aload_n 0, 1) := dk_42 (dk_at dksX7_day_3 4 rfl rfl)
theorem dX7_day_76 : decode cX7_day 76 = .ok (.getfield 338, 3) := dk_180 1 82 (dk_at dksX7_day_3 5 rfl rfl)
theorem dX7_day_79 : decode cX7_day 79 = .ok (.getfield 219, 3) := dk_180 0 219 (dk_at dksX7_day_3 8 rfl rfl)
theorem dX7_day_82 : decode cX7_day 82 = .ok (.if_icmp .ge 62, 3) := dk_162 0 62 (dk_at dksX7_day_3 11 rfl rfl)
theorem dX7_day_85 : decode cX7_day 85 = .ok (.ldc2_w 478, 3) := dk_20 1 222 (dk_at dksX7_day_3 14 rfl rfl)
theorem dX7_day_88 : decode cX7_day 88 = .ok (.iload 5, 2) := dk_21 5 (dk_at dksX7_day_3 17 rfl rfl)
theorem dX7_day_90 : decode cX7_day 90 = .ok (.i2l, 1) := dk_133 (dk_at dksX7_day_3 19 rfl rfl)
theorem dX7_day_91 : decode cX7_day 91 = .ok (.lmul, 1) := dk_105 (dk_at dksX7_day_3 20 rfl rfl)
theorem dX7_day_92 : decode cX7_day 92 = .ok (.ldc2_w 480, 3) := dk_20 1 224 (dk_at dksX7_day_3 21 rfl rfl)
theorem dX7_day_95 : decode cX7_day 95 = .ok (.ladd, 1) := dk_97 (dk_at dksX7_day_4 0 rfl rfl)
theorem dX7_day_96 : decode cX7_day 96 = .ok (.ldc2_w 482, 3) := dk_20 1 226 (dk_at dksX7_day_4 1 rfl rfl)
theorem dX7_day_99 : decode cX7_day 99 = .ok (.lrem, 1) := dk_113 (dk_at dksX7_day_4 4 rfl rfl)
theorem dX7_day_100 : decode cX7_day 100 = .ok (.l2i, 1) := dk_136 (dk_at dksX7_day_4 5 rfl rfl)
theorem dX7_day_101 : decode cX7_day 101 = .ok (.istore 5, 2) := dk_54 5 (dk_at dksX7_day_4 6 rfl rfl)
theorem dX7_day_103 : decode cX7_day 103 = .ok (.aload_n 0, 1) := dk_42 (dk_at dksX7_day_4 8 rfl rfl)
theorem dX7_day_104 : decode cX7_day 104 = .ok (.dup, 1) := dk_89 (dk_at dksX7_day_4 9 rfl rfl)
theorem dX7_day_105 : decode cX7_day 105 = .ok (.getfield 475, 3) := dk_180 1 219 (dk_at dksX7_day_4 10 rfl rfl)
theorem dX7_day_108 : decode cX7_day 108 = .ok (.iload 5, 2) := dk_21 5 (dk_at dksX7_day_4 13 rfl rfl)
theorem dX7_day_110 : decode cX7_day 110 = .ok (.bipush 100, 2) := dk_16 100 (dk_at dksX7_day_4 15 rfl rfl)
theorem dX7_day_112 : decode cX7_day 112 = .ok (.irem, 1) := dk_112 (dk_at dksX7_day_4 17 rfl rfl)
theorem dX7_day_113 : decode cX7_day 113 = .ok (.aload_n 0, 1) := dk_42 (dk_at dksX7_day_4 18 rfl rfl)
theorem dX7_day_114 : decode cX7_day 114 = .ok (.getfield 338, 3) := dk_180 1 82 (dk_at dksX7_day_4 19 rfl rfl)
theorem dX7_day_117 : decode cX7_day 117 = .ok (.getfield 246, 3) := dk_180 0 246 (dk_at dksX7_day_5 0 rfl rfl)
theorem dX7_day_120 : decode cX7_day 120 = .ok (.iload 6, 2) := dk_21 6 (dk_at dksX7_day_5 3 rfl rfl)
theorem dX7_day_122 : decode cX7_day 122 = .ok (.iaload, 1) := dk_46 (dk_at dksX7_day_5 5 rfl rfl)
theorem dX7_day_123 : decode cX7_day 123 = .ok (.if_icmp .ge 10, 3) := dk_162 0 10 (dk_at dksX7_day_5 6 rfl rfl)
theorem dX7_day_126 : decode cX7_day 126 = .ok (.iconst 1, 1) := dk_4 (dk_at dksX7_day_5 9 rfl rfl)
theorem dX7_day_127 : decode cX7_day 127 = .ok (.iload 6, 2) := dk_21 6 (dk_at dksX7_day_5 10 rfl rfl)
theorem dX7_day_129 : decode cX7_day 129 = .ok (.ishl, 1) := dk_120 (dk_at dksX7_day_5 12 rfl rfl)
theorem dX7_day_130 : decode cX7_day 130 = .ok (.goto 4, 3) := dk_167 0 4 (dk_at dksX7_day_5 13 rfl rfl)
theorem dX7_day_133 : decode cX7_day 133 = .ok (.iconst 0, 1) := dk_3 (dk_at dksX7_day_5 16 rfl rfl)
theorem dX7_day_134 : decode cX7_day 134 = .ok (.ior, 1) := dk_128 (dk_at dksX7_day_5 17 rfl rfl)
theorem dX7_day_135 : decode cX7_day 135 = .ok (.putfield 475, 3) := dk_181 1 219 (dk_at dksX7_day_5 18 rfl rfl)
theorem dX7_day_138 : decode cX7_day 138 = .ok (.iinc 6 1, 3) := dk_132 6 1 (dk_at dksX7_day_5 21 rfl rfl)
theorem dX7_day_141 : decode cX7_day 141 = .ok (.goto (-68), 3) := dk_167 255 188 (dk_at dksX7_day_6 0 rfl rfl)
theorem dX7_day_144 : decode cX7_day 144 = .ok (.iconst 0, 1) := dk_3 (dk_at dksX7_day_6 3 rfl rfl)
theorem dX7_day_145 : decode cX7_day 145 = .ok (.istore 6, 2) := dk_54 6 (dk_at dksX7_day_6 4 rfl rfl)
theorem dX7_day_147 : decode cX7_day 147 = .ok (.iload 6, 2) := dk_21 6 (dk_at dksX7_day_6 6 rfl rfl)
theorem dX7_day_149 : decode cX7_day 149 = .ok (.bipush 7, 2) := dk_16 7 (dk_at dksX7_day_6 8 rfl rfl)
theorem dX7_day_151 : decode cX7_day 151 = .ok (.if_icmp .ge 17, 3) := dk_162 0 17 (dk_at dksX7_day_6 10 rfl rfl)
theorem dX7_day_154 : decode cX7_day 154 = .ok (.aload_n 0, 1) := dk_42 (dk_at dksX7_day_6 13 rfl rfl)
theorem dX7_day_155 : decode cX7_day 155 = .ok (.getfield 31, 3) := dk_180 0 31 (dk_at dksX7_day_6 14 rfl rfl)
theorem dX7_day_158 : decode cX7_day 158 = .ok (.iload 6, 2) := dk_21 6 (dk_at dksX7_day_6 17 rfl rfl)
theorem dX7_day_160 : decode cX7_day 160 = .ok (.lconst 0, 1) := dk_9 (dk_at dksX7_day_6 19 rfl rfl)
theorem dX7_day_161 : decode cX7_day 161 = .ok (.lastore, 1) := dk_80 (dk_at dksX7_day_6 20 rfl rfl)
theorem dX7_day_162 : decode cX7_day 162 = .ok (.iinc 6 1, 3) := dk_132 6 1 (dk_at dksX7_day_6 21 rfl rfl)
theorem dX7_day_165 : decode cX7_day 165 = .ok (.goto (-18), 3) := dk_167 255 238 (dk_at dksX7_day_7 0 rfl rfl)
theorem dX7_day_168 : decode cX7_day 168 = .ok (.aload_n 0, 1) := dk_42 (dk_at dksX7_day_7 3 rfl rfl)
theorem dX7_day_169 : decode cX7_day 169 = .ok (.getfield 31, 3) := dk_180 0 31 (dk_at dksX7_day_7 4 rfl rfl)
theorem dX7_day_172 : decode cX7_day 172 = .ok (.iconst 0, 1) := dk_3 (dk_at dksX7_day_7 7 rfl rfl)
theorem dX7_day_173 : decode cX7_day 173 = .ok (.iload_n 2, 1) := dk_28 (dk_at dksX7_day_7 8 rfl rfl)
theorem dX7_day_174 : decode cX7_day 174 = .ok (.i2l, 1) := dk_133 (dk_at dksX7_day_7 9 rfl rfl)
theorem dX7_day_175 : decode cX7_day 175 = .ok (.lastore, 1) := dk_80 (dk_at dksX7_day_7 10 rfl rfl)
theorem dX7_day_176 : decode cX7_day 176 = .ok (.aload_n 0, 1) := dk_42 (dk_at dksX7_day_7 11 rfl rfl)
theorem dX7_day_177 : decode cX7_day 177 = .ok (.getfield 31, 3) := dk_180 0 31 (dk_at dksX7_day_7 12 rfl rfl)
theorem dX7_day_180 : decode cX7_day 180 = .ok (.iconst 1, 1) := dk_4 (dk_at dksX7_day_7 15 rfl rfl)
theorem dX7_day_181 : decode cX7_day 181 = .ok (.iload_n 3, 1) := dk_29 (dk_at dksX7_day_7 16 rfl rfl)
theorem dX7_day_182 : decode cX7_day 182 = .ok (.i2l, 1) := dk_133 (dk_at dksX7_day_7 17 rfl rfl)
theorem dX7_day_183 : decode cX7_day 183 = .ok (.lastore, 1) := dk_80 (dk_at dksX7_day_7 18 rfl rfl)
theorem dX7_day_184 : decode cX7_day 184 = .ok (.aload_n 0, 1) := dk_42 (dk_at dksX7_day_7 19 rfl rfl)
theorem dX7_day_185 : decode cX7_day 185 = .ok (.iconst 0, 1) := dk_3 (dk_at dksX7_day_7 20 rfl rfl)
theorem dX7_day_186 : decode cX7_day 186 = .ok (.putfield 340, 3) := dk_181 1 84 (dk_at dksX7_day_7 21 rfl rfl)
theorem dX7_day_189 : decode cX7_day 189 = .ok (.aload_n 0, 1) := dk_42 (dk_at dksX7_day_8 0 rfl rfl)
theorem dX7_day_190 : decode cX7_day 190 = .ok (.iconst 0, 1) := dk_3 (dk_at dksX7_day_8 1 rfl rfl)
theorem dX7_day_191 : decode cX7_day 191 = .ok (.putfield 343, 3) := dk_181 1 87 (dk_at dksX7_day_8 2 rfl rfl)
theorem dX7_day_194 : decode cX7_day 194 = .ok (.aload_n 0, 1) := dk_42 (dk_at dksX7_day_8 5 rfl rfl)
theorem dX7_day_195 : decode cX7_day 195 = .ok (.aload_n 0, 1) := dk_42 (dk_at dksX7_day_8 6 rfl rfl)
theorem dX7_day_196 : decode cX7_day 196 = .ok (.getfield 475, 3) := dk_180 1 219 (dk_at dksX7_day_8 7 rfl rfl)
theorem dX7_day_199 : decode cX7_day 199 = .ok (.invokevirtual 50, 3) := dk_182 0 50 (dk_at dksX7_day_8 10 rfl rfl)
theorem dX7_day_202 : decode cX7_day 202 = .ok (.ireturn, 1) := dk_172 (dk_at dksX7_day_8 13 rfl rfl)
abbrev cX7_go : ByteArray := prog_19_method_94_code
def yX7_go : MethodName := ⟨RX7, "go", "(III)I"⟩
def dkwX7_go_9 : List UInt8 := [47, 136, 182, 0, 50, 172]
abbrev dktX7_go_9 : List UInt8 := dkwX7_go_9 ++ []
def dkwX7_go_8 : List UInt8 := [180, 0, 31, 4, 21, 4, 42, 180, 1, 82, 27, 29, 182, 1, 143, 96, 133, 80, 42, 42, 180, 0, 31, 4]
abbrev dktX7_go_8 : List UInt8 := dkwX7_go_8 ++ dktX7_go_9
def dkwX7_go_7 : List UInt8 := [132, 5, 1, 167, 255, 207, 42, 180, 0, 31, 3, 42, 180, 1, 82, 27, 28, 182, 1, 182, 133, 80, 42]
abbrev dktX7_go_7 : List UInt8 := dkwX7_go_7 ++ dktX7_go_8
def dkwX7_go_6 : List UInt8 := [96, 92, 47, 42, 42, 180, 0, 28, 27, 28, 42, 21, 4, 182, 1, 164, 29, 21, 5, 182, 1, 123, 97, 80]
abbrev dktX7_go_6 : List UInt8 := dkwX7_go_6 ++ dktX7_go_7
def dkwX7_go_5 : List UInt8 := [54, 5, 21, 5, 8, 162, 0, 49, 42, 21, 4, 182, 1, 234, 153, 0, 40, 42, 180, 0, 31, 5, 21, 5]
abbrev dktX7_go_5 : List UInt8 := dkwX7_go_5 ++ dktX7_go_6
def dkwX7_go_4 : List UInt8 := [27, 29, 182, 1, 143, 96, 17, 3, 231, 164, 0, 9, 42, 6, 182, 0, 46, 172, 42, 182, 1, 231, 3]
abbrev dktX7_go_4 : List UInt8 := dkwX7_go_4 ++ dktX7_go_5
def dkwX7_go_3 : List UInt8 := [153, 0, 9, 42, 8, 182, 0, 46, 172, 42, 180, 0, 31, 4, 47, 136, 54, 4, 21, 4, 42, 180, 1, 82]
abbrev dktX7_go_3 : List UInt8 := dkwX7_go_3 ++ dktX7_go_4
def dkwX7_go_2 : List UInt8 := [42, 5, 182, 0, 46, 172, 42, 180, 1, 82, 27, 28, 182, 1, 180, 133, 42, 180, 0, 31, 3, 47, 148]
abbrev dktX7_go_2 : List UInt8 := dkwX7_go_2 ++ dktX7_go_3
def dkwX7_go_1 : List UInt8 := [184, 0, 118, 154, 0, 9, 42, 4, 182, 0, 46, 172, 42, 42, 180, 0, 28, 29, 182, 1, 99, 154, 0, 9]
abbrev dktX7_go_1 : List UInt8 := dkwX7_go_1 ++ dktX7_go_2
def dkwX7_go_0 : List UInt8 := [42, 3, 181, 0, 40, 42, 182, 1, 228, 153, 0, 20, 42, 27, 182, 1, 93, 153, 0, 12, 28, 3, 4]
abbrev dktX7_go_0 : List UInt8 := dkwX7_go_0 ++ dktX7_go_1
theorem dksX7_go_0 : cX7_go.data.toList.drop 0 = dktX7_go_0 := by decide +kernel
theorem dksX7_go_1 : cX7_go.data.toList.drop 23 = dktX7_go_1 := dk_seg dksX7_go_0 23 rfl rfl
theorem dksX7_go_2 : cX7_go.data.toList.drop 47 = dktX7_go_2 := dk_seg dksX7_go_1 24 rfl rfl
theorem dksX7_go_3 : cX7_go.data.toList.drop 70 = dktX7_go_3 := dk_seg dksX7_go_2 23 rfl rfl
theorem dksX7_go_4 : cX7_go.data.toList.drop 94 = dktX7_go_4 := dk_seg dksX7_go_3 24 rfl rfl
theorem dksX7_go_5 : cX7_go.data.toList.drop 117 = dktX7_go_5 := dk_seg dksX7_go_4 23 rfl rfl
theorem dksX7_go_6 : cX7_go.data.toList.drop 141 = dktX7_go_6 := dk_seg dksX7_go_5 24 rfl rfl
theorem dksX7_go_7 : cX7_go.data.toList.drop 165 = dktX7_go_7 := dk_seg dksX7_go_6 24 rfl rfl
theorem dksX7_go_8 : cX7_go.data.toList.drop 188 = dktX7_go_8 := dk_seg dksX7_go_7 23 rfl rfl
theorem dksX7_go_9 : cX7_go.data.toList.drop 212 = dktX7_go_9 := dk_seg dksX7_go_8 24 rfl rfl
theorem dX7_go_0 : decode cX7_go 0 = .ok (.aload_n 0, 1) := dk_42 (dk_at dksX7_go_0 0 rfl rfl)
theorem dX7_go_1 : decode cX7_go 1 = .ok (.iconst 0, 1) := dk_3 (dk_at dksX7_go_0 1 rfl rfl)
theorem dX7_go_2 : decode cX7_go 2 = .ok (.putfield 40, 3) := dk_181 0 40 (dk_at dksX7_go_0 2 rfl rfl)
theorem dX7_go_5 : decode cX7_go 5 = .ok (.aload_n 0, 1) := dk_42 (dk_at dksX7_go_0 5 rfl rfl)
theorem dX7_go_6 : decode cX7_go 6 = .ok (.invokevirtual 484, 3) := dk_182 1 228 (dk_at dksX7_go_0 6 rfl rfl)
theorem dX7_go_9 : decode cX7_go 9 = .ok (.ifCond .eq 20, 3) := dk_153 0 20 (dk_at dksX7_go_0 9 rfl rfl)
theorem dX7_go_12 : decode cX7_go 12 = .ok (.aload_n 0, 1) := dk_42 (dk_at dksX7_go_0 12 rfl rfl)
theorem dX7_go_13 : decode cX7_go 13 = .ok (.iload_n 1, 1) := dk_27 (dk_at dksX7_go_0 13 rfl rfl)
theorem dX7_go_14 : decode cX7_go 14 = .ok (.invokevirtual 349, 3) := dk_182 1 93 (dk_at dksX7_go_0 14 rfl rfl)
theorem dX7_go_17 : decode cX7_go 17 = .ok (.ifCond .eq 12, 3) := dk_153 0 12 (dk_at dksX7_go_0 17 rfl rfl)
theorem dX7_go_20 : decode cX7_go 20 = .ok (.iload_n 2, 1) := dk_28 (dk_at dksX7_go_0 20 rfl rfl)
theorem dX7_go_21 : decode cX7_go 21 = .ok (.iconst 0, 1) := dk_3 (dk_at dksX7_go_0 21 rfl rfl)
theorem dX7_go_22 : decode cX7_go 22 = .ok (.iconst 1, 1) := dk_4 (dk_at dksX7_go_0 22 rfl rfl)
theorem dX7_go_23 : decode cX7_go 23 = .ok (.invokestatic 118, 3) := dk_184 0 118 (dk_at dksX7_go_1 0 rfl rfl)
theorem dX7_go_26 : decode cX7_go 26 = .ok (.ifCond .ne 9, 3) := dk_154 0 9 (dk_at dksX7_go_1 3 rfl rfl)
theorem dX7_go_29 : decode cX7_go 29 = .ok (.aload_n 0, 1) := dk_42 (dk_at dksX7_go_1 6 rfl rfl)
theorem dX7_go_30 : decode cX7_go 30 = .ok (.iconst 1, 1) := dk_4 (dk_at dksX7_go_1 7 rfl rfl)
theorem dX7_go_31 : decode cX7_go 31 = .ok (.invokevirtual 46, 3) := dk_182 0 46 (dk_at dksX7_go_1 8 rfl rfl)
theorem dX7_go_34 : decode cX7_go 34 = .ok (.ireturn, 1) := dk_172 (dk_at dksX7_go_1 11 rfl rfl)
theorem dX7_go_35 : decode cX7_go 35 = .ok (.aload_n 0, 1) := dk_42 (dk_at dksX7_go_1 12 rfl rfl)
theorem dX7_go_36 : decode cX7_go 36 = .ok (.aload_n 0, 1) := dk_42 (dk_at dksX7_go_1 13 rfl rfl)
theorem dX7_go_37 : decode cX7_go 37 = .ok (.getfield 28, 3) := dk_180 0 28 (dk_at dksX7_go_1 14 rfl rfl)
theorem dX7_go_40 : decode cX7_go 40 = .ok (.iload_n 3, 1) := dk_29 (dk_at dksX7_go_1 17 rfl rfl)
theorem dX7_go_41 : decode cX7_go 41 = .ok (.invokevirtual 355, 3) := dk_182 1 99 (dk_at dksX7_go_1 18 rfl rfl)
theorem dX7_go_44 : decode cX7_go 44 = .ok (.ifCond .ne 9, 3) := dk_154 0 9 (dk_at dksX7_go_1 21 rfl rfl)
theorem dX7_go_47 : decode cX7_go 47 = .ok (.aload_n 0, 1) := dk_42 (dk_at dksX7_go_2 0 rfl rfl)
theorem dX7_go_48 : decode cX7_go 48 = .ok (.iconst 2, 1) := dk_5 (dk_at dksX7_go_2 1 rfl rfl)
theorem dX7_go_49 : decode cX7_go 49 = .ok (.invokevirtual 46, 3) := dk_182 0 46 (dk_at dksX7_go_2 2 rfl rfl)
theorem dX7_go_52 : decode cX7_go 52 = .ok (.ireturn, 1) := dk_172 (dk_at dksX7_go_2 5 rfl rfl)
theorem dX7_go_53 : decode cX7_go 53 = .ok (.aload_n 0, 1) := dk_42 (dk_at dksX7_go_2 6 rfl rfl)
theorem dX7_go_54 : decode cX7_go 54 = .ok (.getfield 338, 3) := dk_180 1 82 (dk_at dksX7_go_2 7 rfl rfl)
theorem dX7_go_57 : decode cX7_go 57 = .ok (.iload_n 1, 1) := dk_27 (dk_at dksX7_go_2 10 rfl rfl)
theorem dX7_go_58 : decode cX7_go 58 = .ok (.iload_n 2, 1) := dk_28 (dk_at dksX7_go_2 11 rfl rfl)
theorem dX7_go_59 : decode cX7_go 59 = .ok (.invokevirtual 436, 3) := dk_182 1 180 (dk_at dksX7_go_2 12 rfl rfl)
theorem dX7_go_62 : decode cX7_go 62 = .ok (.i2l, 1) := dk_133 (dk_at dksX7_go_2 15 rfl rfl)
theorem dX7_go_63 : decode cX7_go 63 = .ok (.aload_n 0, 1) := dk_42 (dk_at dksX7_go_2 16 rfl rfl)
theorem dX7_go_64 : decode cX7_go 64 = .ok (.getfield 31, 3) := dk_180 0 31 (dk_at dksX7_go_2 17 rfl rfl)
theorem dX7_go_67 : decode cX7_go 67 = .ok (.iconst 0, 1) := dk_3 (dk_at dksX7_go_2 20 rfl rfl)
theorem dX7_go_68 : decode cX7_go 68 = .ok (.laload, 1) := dk_47 (dk_at dksX7_go_2 21 rfl rfl)
theorem dX7_go_69 : decode cX7_go 69 = .ok (.lcmp, 1) := dk_148 (dk_at dksX7_go_2 22 rfl rfl)
theorem dX7_go_70 : decode cX7_go 70 = .ok (.ifCond .eq 9, 3) := dk_153 0 9 (dk_at dksX7_go_3 0 rfl rfl)
theorem dX7_go_73 : decode cX7_go 73 = .ok (.aload_n 0, 1) := dk_42 (dk_at dksX7_go_3 3 rfl rfl)
theorem dX7_go_74 : decode cX7_go 74 = .ok (.iconst 5, 1) := dk_8 (dk_at dksX7_go_3 4 rfl rfl)
theorem dX7_go_75 : decode cX7_go 75 = .ok (.invokevirtual 46, 3) := dk_182 0 46 (dk_at dksX7_go_3 5 rfl rfl)
theorem dX7_go_78 : decode cX7_go 78 = .ok (.ireturn, 1) := dk_172 (dk_at dksX7_go_3 8 rfl rfl)
theorem dX7_go_79 : decode cX7_go 79 = .ok (.aload_n 0, 1) := dk_42 (dk_at dksX7_go_3 9 rfl rfl)
theorem dX7_go_80 : decode cX7_go 80 = .ok (.getfield 31, 3) := dk_180 0 31 (dk_at dksX7_go_3 10 rfl rfl)
theorem dX7_go_83 : decode cX7_go 83 = .ok (.iconst 1, 1) := dk_4 (dk_at dksX7_go_3 13 rfl rfl)
theorem dX7_go_84 : decode cX7_go 84 = .ok (.laload, 1) := dk_47 (dk_at dksX7_go_3 14 rfl rfl)
theorem dX7_go_85 : decode cX7_go 85 = .ok (.l2i, 1) := dk_136 (dk_at dksX7_go_3 15 rfl rfl)
theorem dX7_go_86 : decode cX7_go 86 = .ok (.istore 4, 2) := dk_54 4 (dk_at dksX7_go_3 16 rfl rfl)
theorem dX7_go_88 : decode cX7_go 88 = .ok (.iload 4, 2) := dk_21 4 (dk_at dksX7_go_3 18 rfl rfl)
theorem dX7_go_90 : decode cX7_go 90 = .ok (.aload_n 0, 1) := dk_42 (dk_at dksX7_go_3 20 rfl rfl)
theorem dX7_go_91 : decode cX7_go 91 = .ok (.getfield 338, 3) := dk_180 1 82 (dk_at dksX7_go_3 21 rfl rfl)
theorem dX7_go_94 : decode cX7_go 94 = .ok (.iload_n 1, 1) := dk_27 (dk_at dksX7_go_4 0 rfl rfl)
theorem dX7_go_95 : decode cX7_go 95 = .ok (.iload_n 3, 1) := dk_29 (dk_at dksX7_go_4 1 rfl rfl)
theorem dX7_go_96 : decode cX7_go 96 = .ok (.invokevirtual 399, 3) := dk_182 1 143 (dk_at dksX7_go_4 2 rfl rfl)
theorem dX7_go_99 : decode cX7_go 99 = .ok (.iadd, 1) := dk_96 (dk_at dksX7_go_4 5 rfl rfl)
theorem dX7_go_100 : decode cX7_go 100 = .ok (.sipush 999, 3) := dk_17 3 231 (dk_at dksX7_go_4 6 rfl rfl)
theorem dX7_go_103 : decode cX7_go 103 = .ok (.if_icmp .le 9, 3) := dk_164 0 9 (dk_at dksX7_go_4 9 rfl rfl)
theorem dX7_go_106 : decode cX7_go 106 = .ok (.aload_n 0, 1) := dk_42 (dk_at dksX7_go_4 12 rfl rfl)
theorem dX7_go_107 : decode cX7_go 107 = .ok (.iconst 3, 1) := dk_6 (dk_at dksX7_go_4 13 rfl rfl)
theorem dX7_go_108 : decode cX7_go 108 = .ok (.invokevirtual 46, 3) := dk_182 0 46 (dk_at dksX7_go_4 14 rfl rfl)
theorem dX7_go_111 : decode cX7_go 111 = .ok (.ireturn, 1) := dk_172 (dk_at dksX7_go_4 17 rfl rfl)
theorem dX7_go_112 : decode cX7_go 112 = .ok (.aload_n 0, 1) := dk_42 (dk_at dksX7_go_4 18 rfl rfl)
theorem dX7_go_113 : decode cX7_go 113 = .ok (.invokevirtual 487, 3) := dk_182 1 231 (dk_at dksX7_go_4 19 rfl rfl)
theorem dX7_go_116 : decode cX7_go 116 = .ok (.iconst 0, 1) := dk_3 (dk_at dksX7_go_4 22 rfl rfl)
theorem dX7_go_117 : decode cX7_go 117 = .ok (.istore 5, 2) := dk_54 5 (dk_at dksX7_go_5 0 rfl rfl)
theorem dX7_go_119 : decode cX7_go 119 = .ok (.iload 5, 2) := dk_21 5 (dk_at dksX7_go_5 2 rfl rfl)
theorem dX7_go_121 : decode cX7_go 121 = .ok (.iconst 5, 1) := dk_8 (dk_at dksX7_go_5 4 rfl rfl)
theorem dX7_go_122 : decode cX7_go 122 = .ok (.if_icmp .ge 49, 3) := dk_162 0 49 (dk_at dksX7_go_5 5 rfl rfl)
theorem dX7_go_125 : decode cX7_go 125 = .ok (.aload_n 0, 1) := dk_42 (dk_at dksX7_go_5 8 rfl rfl)
theorem dX7_go_126 : decode cX7_go 126 = .ok (.iload 4, 2) := dk_21 4 (dk_at dksX7_go_5 9 rfl rfl)
theorem dX7_go_128 : decode cX7_go 128 = .ok (.invokevirtual 490, 3) := dk_182 1 234 (dk_at dksX7_go_5 11 rfl rfl)
theorem dX7_go_131 : decode cX7_go 131 = .ok (.ifCond .eq 40, 3) := dk_153 0 40 (dk_at dksX7_go_5 14 rfl rfl)
theorem dX7_go_134 : decode cX7_go 134 = .ok (.aload_n 0, 1) := dk_42 (dk_at dksX7_go_5 17 rfl rfl)
theorem dX7_go_135 : decode cX7_go 135 = .ok (.getfield 31, 3) := dk_180 0 31 (dk_at dksX7_go_5 18 rfl rfl)
theorem dX7_go_138 : decode cX7_go 138 = .ok (.iconst 2, 1) := dk_5 (dk_at dksX7_go_5 21 rfl rfl)
theorem dX7_go_139 : decode cX7_go 139 = .ok (.iload 5, 2) := dk_21 5 (dk_at dksX7_go_5 22 rfl rfl)
theorem dX7_go_141 : decode cX7_go 141 = .ok (.iadd, 1) := dk_96 (dk_at dksX7_go_6 0 rfl rfl)
theorem dX7_go_142 : decode cX7_go 142 = .ok (.dup2, 1) := dk_92 (dk_at dksX7_go_6 1 rfl rfl)
theorem dX7_go_143 : decode cX7_go 143 = .ok (.laload, 1) := dk_47 (dk_at dksX7_go_6 2 rfl rfl)
theorem dX7_go_144 : decode cX7_go 144 = .ok (.aload_n 0, 1) := dk_42 (dk_at dksX7_go_6 3 rfl rfl)
theorem dX7_go_145 : decode cX7_go 145 = .ok (.aload_n 0, 1) := dk_42 (dk_at dksX7_go_6 4 rfl rfl)
theorem dX7_go_146 : decode cX7_go 146 = .ok (.getfield 28, 3) := dk_180 0 28 (dk_at dksX7_go_6 5 rfl rfl)
theorem dX7_go_149 : decode cX7_go 149 = .ok (.iload_n 1, 1) := dk_27 (dk_at dksX7_go_6 8 rfl rfl)
theorem dX7_go_150 : decode cX7_go 150 = .ok (.iload_n 2, 1) := dk_28 (dk_at dksX7_go_6 9 rfl rfl)
theorem dX7_go_151 : decode cX7_go 151 = .ok (.aload_n 0, 1) := dk_42 (dk_at dksX7_go_6 10 rfl rfl)
theorem dX7_go_152 : decode cX7_go 152 = .ok (.iload 4, 2) := dk_21 4 (dk_at dksX7_go_6 11 rfl rfl)
theorem dX7_go_154 : decode cX7_go 154 = .ok (.invokevirtual 420, 3) := dk_182 1 164 (dk_at dksX7_go_6 13 rfl rfl)
theorem dX7_go_157 : decode cX7_go 157 = .ok (.iload_n 3, 1) := dk_29 (dk_at dksX7_go_6 16 rfl rfl)
theorem dX7_go_158 : decode cX7_go 158 = .ok (.iload 5, 2) := dk_21 5 (dk_at dksX7_go_6 17 rfl rfl)
theorem dX7_go_160 : decode cX7_go 160 = .ok (.invokevirtual 379, 3) := dk_182 1 123 (dk_at dksX7_go_6 19 rfl rfl)
theorem dX7_go_163 : decode cX7_go 163 = .ok (.ladd, 1) := dk_97 (dk_at dksX7_go_6 22 rfl rfl)
theorem dX7_go_164 : decode cX7_go 164 = .ok (.lastore, 1) := dk_80 (dk_at dksX7_go_6 23 rfl rfl)
theorem dX7_go_165 : decode cX7_go 165 = .ok (.iinc 5 1, 3) := dk_132 5 1 (dk_at dksX7_go_7 0 rfl rfl)
theorem dX7_go_168 : decode cX7_go 168 = .ok (.goto (-49), 3) := dk_167 255 207 (dk_at dksX7_go_7 3 rfl rfl)
theorem dX7_go_171 : decode cX7_go 171 = .ok (.aload_n 0, 1) := dk_42 (dk_at dksX7_go_7 6 rfl rfl)
theorem dX7_go_172 : decode cX7_go 172 = .ok (.getfield 31, 3) := dk_180 0 31 (dk_at dksX7_go_7 7 rfl rfl)
theorem dX7_go_175 : decode cX7_go 175 = .ok (.iconst 0, 1) := dk_3 (dk_at dksX7_go_7 10 rfl rfl)
theorem dX7_go_176 : decode cX7_go 176 = .ok (.aload_n 0, 1) := dk_42 (dk_at dksX7_go_7 11 rfl rfl)
theorem dX7_go_177 : decode cX7_go 177 = .ok (.getfield 338, 3) := dk_180 1 82 (dk_at dksX7_go_7 12 rfl rfl)
theorem dX7_go_180 : decode cX7_go 180 = .ok (.iload_n 1, 1) := dk_27 (dk_at dksX7_go_7 15 rfl rfl)
theorem dX7_go_181 : decode cX7_go 181 = .ok (.iload_n 2, 1) := dk_28 (dk_at dksX7_go_7 16 rfl rfl)
theorem dX7_go_182 : decode cX7_go 182 = .ok (.invokevirtual 438, 3) := dk_182 1 182 (dk_at dksX7_go_7 17 rfl rfl)
theorem dX7_go_185 : decode cX7_go 185 = .ok (.i2l, 1) := dk_133 (dk_at dksX7_go_7 20 rfl rfl)
theorem dX7_go_186 : decode cX7_go 186 = .ok (.lastore, 1) := dk_80 (dk_at dksX7_go_7 21 rfl rfl)
theorem dX7_go_187 : decode cX7_go 187 = .ok (.aload_n 0, 1) := dk_42 (dk_at dksX7_go_7 22 rfl rfl)
theorem dX7_go_188 : decode cX7_go 188 = .ok (.getfield 31, 3) := dk_180 0 31 (dk_at dksX7_go_8 0 rfl rfl)
theorem dX7_go_191 : decode cX7_go 191 = .ok (.iconst 1, 1) := dk_4 (dk_at dksX7_go_8 3 rfl rfl)
theorem dX7_go_192 : decode cX7_go 192 = .ok (.iload 4, 2) := dk_21 4 (dk_at dksX7_go_8 4 rfl rfl)
theorem dX7_go_194 : decode cX7_go 194 = .ok (.aload_n 0, 1) := dk_42 (dk_at dksX7_go_8 6 rfl rfl)
theorem dX7_go_195 : decode cX7_go 195 = .ok (.getfield 338, 3) := dk_180 1 82 (dk_at dksX7_go_8 7 rfl rfl)
theorem dX7_go_198 : decode cX7_go 198 = .ok (.iload_n 1, 1) := dk_27 (dk_at dksX7_go_8 10 rfl rfl)
theorem dX7_go_199 : decode cX7_go 199 = .ok (.iload_n 3, 1) := dk_29 (dk_at dksX7_go_8 11 rfl rfl)
theorem dX7_go_200 : decode cX7_go 200 = .ok (.invokevirtual 399, 3) := dk_182 1 143 (dk_at dksX7_go_8 12 rfl rfl)
theorem dX7_go_203 : decode cX7_go 203 = .ok (.iadd, 1) := dk_96 (dk_at dksX7_go_8 15 rfl rfl)
theorem dX7_go_204 : decode cX7_go 204 = .ok (.i2l, 1) := dk_133 (dk_at dksX7_go_8 16 rfl rfl)
theorem dX7_go_205 : decode cX7_go 205 = .ok (.lastore, 1) := dk_80 (dk_at dksX7_go_8 17 rfl rfl)
theorem dX7_go_206 : decode cX7_go 206 = .ok (.aload_n 0, 1) := dk_42 (dk_at dksX7_go_8 18 rfl rfl)
theorem dX7_go_207 : decode cX7_go 207 = .ok (.aload_n 0, 1) := dk_42 (dk_at dksX7_go_8 19 rfl rfl)
theorem dX7_go_208 : decode cX7_go 208 = .ok (.getfield 31, 3) := dk_180 0 31 (dk_at dksX7_go_8 20 rfl rfl)
theorem dX7_go_211 : decode cX7_go 211 = .ok (.iconst 1, 1) := dk_4 (dk_at dksX7_go_8 23 rfl rfl)
theorem dX7_go_212 : decode cX7_go 212 = .ok (.laload, 1) := dk_47 (dk_at dksX7_go_9 0 rfl rfl)
theorem dX7_go_213 : decode cX7_go 213 = .ok (.l2i, 1) := dk_136 (dk_at dksX7_go_9 1 rfl rfl)
theorem dX7_go_214 : decode cX7_go 214 = .ok (.invokevirtual 50, 3) := dk_182 0 50 (dk_at dksX7_go_9 2 rfl rfl)
theorem dX7_go_217 : decode cX7_go 217 = .ok (.ireturn, 1) := dk_172 (dk_at dksX7_go_9 5 rfl rfl)
abbrev cX7_isDay : ByteArray := prog_19_method_90_code
def yX7_isDay : MethodName := ⟨RX7, "isDay", "()Z"⟩
def dkwX7_isDay_0 : List UInt8 := [42, 180, 1, 82, 198, 0, 16, 42, 180, 0, 28, 16, 254, 159, 0, 7, 4, 167, 0, 4, 3, 172]
abbrev dktX7_isDay_0 : List UInt8 := dkwX7_isDay_0 ++ []
theorem dksX7_isDay_0 : cX7_isDay.data.toList.drop 0 = dktX7_isDay_0 := by decide +kernel
theorem dX7_isDay_0 : decode cX7_isDay 0 = .ok (.aload_n 0, 1) := dk_42 (dk_at dksX7_isDay_0 0 rfl rfl)
theorem dX7_isDay_1 : decode cX7_isDay 1 = .ok (.getfield 338, 3) := dk_180 1 82 (dk_at dksX7_isDay_0 1 rfl rfl)
theorem dX7_isDay_4 : decode cX7_isDay 4 = .ok (.ifnull 16, 3) := dk_198 0 16 (dk_at dksX7_isDay_0 4 rfl rfl)
theorem dX7_isDay_7 : decode cX7_isDay 7 = .ok (.aload_n 0, 1) := dk_42 (dk_at dksX7_isDay_0 7 rfl rfl)
theorem dX7_isDay_8 : decode cX7_isDay 8 = .ok (.getfield 28, 3) := dk_180 0 28 (dk_at dksX7_isDay_0 8 rfl rfl)
theorem dX7_isDay_11 : decode cX7_isDay 11 = .ok (.bipush (-2), 2) := dk_16 254 (dk_at dksX7_isDay_0 11 rfl rfl)
theorem dX7_isDay_13 : decode cX7_isDay 13 = .ok (.if_icmp .eq 7, 3) := dk_159 0 7 (dk_at dksX7_isDay_0 13 rfl rfl)
theorem dX7_isDay_16 : decode cX7_isDay 16 = .ok (.iconst 1, 1) := dk_4 (dk_at dksX7_isDay_0 16 rfl rfl)
theorem dX7_isDay_17 : decode cX7_isDay 17 = .ok (.goto 4, 3) := dk_167 0 4 (dk_at dksX7_isDay_0 17 rfl rfl)
theorem dX7_isDay_20 : decode cX7_isDay 20 = .ok (.iconst 0, 1) := dk_3 (dk_at dksX7_isDay_0 20 rfl rfl)
theorem dX7_isDay_21 : decode cX7_isDay 21 = .ok (.ireturn, 1) := dk_172 (dk_at dksX7_isDay_0 21 rfl rfl)
abbrev cX7_keeps : ByteArray := prog_19_method_92_code
def yX7_keeps : MethodName := ⟨RX7, "keeps", "()V"⟩
def dkwX7_keeps_3 : List UInt8 := [42, 180, 0, 31, 27, 47, 80, 132, 1, 1, 167, 255, 227, 42, 89, 180, 1, 84, 4, 96, 181, 1, 84, 177]
abbrev dktX7_keeps_3 : List UInt8 := dkwX7_keeps_3 ++ []
def dkwX7_keeps_2 : List UInt8 := [181, 1, 84, 3, 60, 27, 16, 7, 162, 0, 29, 42, 180, 0, 34, 16, 7, 42, 180, 1, 84, 104, 27, 96]
abbrev dktX7_keeps_2 : List UInt8 := dkwX7_keeps_2 ++ dktX7_keeps_3
def dkwX7_keeps_1 : List UInt8 := [180, 0, 34, 27, 16, 7, 96, 47, 80, 132, 1, 1, 167, 255, 232, 42, 89, 180, 1, 84, 4, 100]
abbrev dktX7_keeps_1 : List UInt8 := dkwX7_keeps_1 ++ dktX7_keeps_2
def dkwX7_keeps_0 : List UInt8 := [42, 180, 1, 84, 16, 16, 160, 0, 42, 3, 60, 27, 16, 105, 162, 0, 24, 42, 180, 0, 34, 27, 42]
abbrev dktX7_keeps_0 : List UInt8 := dkwX7_keeps_0 ++ dktX7_keeps_1
theorem dksX7_keeps_0 : cX7_keeps.data.toList.drop 0 = dktX7_keeps_0 := by decide +kernel
theorem dksX7_keeps_1 : cX7_keeps.data.toList.drop 23 = dktX7_keeps_1 := dk_seg dksX7_keeps_0 23 rfl rfl
theorem dksX7_keeps_2 : cX7_keeps.data.toList.drop 45 = dktX7_keeps_2 := dk_seg dksX7_keeps_1 22 rfl rfl
theorem dksX7_keeps_3 : cX7_keeps.data.toList.drop 69 = dktX7_keeps_3 := dk_seg dksX7_keeps_2 24 rfl rfl
theorem dX7_keeps_0 : decode cX7_keeps 0 = .ok (.aload_n 0, 1) := dk_42 (dk_at dksX7_keeps_0 0 rfl rfl)
theorem dX7_keeps_1 : decode cX7_keeps 1 = .ok (.getfield 340, 3) := dk_180 1 84 (dk_at dksX7_keeps_0 1 rfl rfl)
theorem dX7_keeps_4 : decode cX7_keeps 4 = .ok (.bipush 16, 2) := dk_16 16 (dk_at dksX7_keeps_0 4 rfl rfl)
theorem dX7_keeps_6 : decode cX7_keeps 6 = .ok (.if_icmp .ne 42, 3) := dk_160 0 42 (dk_at dksX7_keeps_0 6 rfl rfl)
theorem dX7_keeps_9 : decode cX7_keeps 9 = .ok (.iconst 0, 1) := dk_3 (dk_at dksX7_keeps_0 9 rfl rfl)
theorem dX7_keeps_10 : decode cX7_keeps 10 = .ok (.istore_n 1, 1) := dk_60 (dk_at dksX7_keeps_0 10 rfl rfl)
theorem dX7_keeps_11 : decode cX7_keeps 11 = .ok (.iload_n 1, 1) := dk_27 (dk_at dksX7_keeps_0 11 rfl rfl)
theorem dX7_keeps_12 : decode cX7_keeps 12 = .ok (.bipush 105, 2) := dk_16 105 (dk_at dksX7_keeps_0 12 rfl rfl)
theorem dX7_keeps_14 : decode cX7_keeps 14 = .ok (.if_icmp .ge 24, 3) := dk_162 0 24 (dk_at dksX7_keeps_0 14 rfl rfl)
theorem dX7_keeps_17 : decode cX7_keeps 17 = .ok (.aload_n 0, 1) := dk_42 (dk_at dksX7_keeps_0 17 rfl rfl)
theorem dX7_keeps_18 : decode cX7_keeps 18 = .ok (.getfield 34, 3) := dk_180 0 34 (dk_at dksX7_keeps_0 18 rfl rfl)
theorem dX7_keeps_21 : decode cX7_keeps 21 = .ok (.iload_n 1, 1) := dk_27 (dk_at dksX7_keeps_0 21 rfl rfl)
theorem dX7_keeps_22 : decode cX7_keeps 22 = .ok (.aload_n 0, 1) := dk_42 (dk_at dksX7_keeps_0 22 rfl rfl)
theorem dX7_keeps_23 : decode cX7_keeps 23 = .ok (.getfield 34, 3) := dk_180 0 34 (dk_at dksX7_keeps_1 0 rfl rfl)
theorem dX7_keeps_26 : decode cX7_keeps 26 = .ok (.iload_n 1, 1) := dk_27 (dk_at dksX7_keeps_1 3 rfl rfl)
theorem dX7_keeps_27 : decode cX7_keeps 27 = .ok (.bipush 7, 2) := dk_16 7 (dk_at dksX7_keeps_1 4 rfl rfl)
theorem dX7_keeps_29 : decode cX7_keeps 29 = .ok (.iadd, 1) := dk_96 (dk_at dksX7_keeps_1 6 rfl rfl)
theorem dX7_keeps_30 : decode cX7_keeps 30 = .ok (.laload, 1) := dk_47 (dk_at dksX7_keeps_1 7 rfl rfl)
theorem dX7_keeps_31 : decode cX7_keeps 31 = .ok (.lastore, 1) := dk_80 (dk_at dksX7_keeps_1 8 rfl rfl)
theorem dX7_keeps_32 : decode cX7_keeps 32 = .ok (.iinc 1 1, 3) := dk_132 1 1 (dk_at dksX7_keeps_1 9 rfl rfl)
theorem dX7_keeps_35 : decode cX7_keeps 35 = .ok (.goto (-24), 3) := dk_167 255 232 (dk_at dksX7_keeps_1 12 rfl rfl)
theorem dX7_keeps_38 : decode cX7_keeps 38 = .ok (.aload_n 0, 1) := dk_42 (dk_at dksX7_keeps_1 15 rfl rfl)
theorem dX7_keeps_39 : decode cX7_keeps 39 = .ok (.dup, 1) := dk_89 (dk_at dksX7_keeps_1 16 rfl rfl)
theorem dX7_keeps_40 : decode cX7_keeps 40 = .ok (.getfield 340, 3) := dk_180 1 84 (dk_at dksX7_keeps_1 17 rfl rfl)
theorem dX7_keeps_43 : decode cX7_keeps 43 = .ok (.iconst 1, 1) := dk_4 (dk_at dksX7_keeps_1 20 rfl rfl)
theorem dX7_keeps_44 : decode cX7_keeps 44 = .ok (.isub, 1) := dk_100 (dk_at dksX7_keeps_1 21 rfl rfl)
theorem dX7_keeps_45 : decode cX7_keeps 45 = .ok (.putfield 340, 3) := dk_181 1 84 (dk_at dksX7_keeps_2 0 rfl rfl)
theorem dX7_keeps_48 : decode cX7_keeps 48 = .ok (.iconst 0, 1) := dk_3 (dk_at dksX7_keeps_2 3 rfl rfl)
theorem dX7_keeps_49 : decode cX7_keeps 49 = .ok (.istore_n 1, 1) := dk_60 (dk_at dksX7_keeps_2 4 rfl rfl)
theorem dX7_keeps_50 : decode cX7_keeps 50 = .ok (.iload_n 1, 1) := dk_27 (dk_at dksX7_keeps_2 5 rfl rfl)
theorem dX7_keeps_51 : decode cX7_keeps 51 = .ok (.bipush 7, 2) := dk_16 7 (dk_at dksX7_keeps_2 6 rfl rfl)
theorem dX7_keeps_53 : decode cX7_keeps 53 = .ok (.if_icmp .ge 29, 3) := dk_162 0 29 (dk_at dksX7_keeps_2 8 rfl rfl)
theorem dX7_keeps_56 : decode cX7_keeps 56 = .ok (.aload_n 0, 1) := dk_42 (dk_at dksX7_keeps_2 11 rfl rfl)
theorem dX7_keeps_57 : decode cX7_keeps 57 = .ok (.getfield 34, 3) := dk_180 0 34 (dk_at dksX7_keeps_2 12 rfl rfl)
theorem dX7_keeps_60 : decode cX7_keeps 60 = .ok (.bipush 7, 2) := dk_16 7 (dk_at dksX7_keeps_2 15 rfl rfl)
theorem dX7_keeps_62 : decode cX7_keeps 62 = .ok (.aload_n 0, 1) := dk_42 (dk_at dksX7_keeps_2 17 rfl rfl)
theorem dX7_keeps_63 : decode cX7_keeps 63 = .ok (.getfield 340, 3) := dk_180 1 84 (dk_at dksX7_keeps_2 18 rfl rfl)
theorem dX7_keeps_66 : decode cX7_keeps 66 = .ok (.imul, 1) := dk_104 (dk_at dksX7_keeps_2 21 rfl rfl)
theorem dX7_keeps_67 : decode cX7_keeps 67 = .ok (.iload_n 1, 1) := dk_27 (dk_at dksX7_keeps_2 22 rfl rfl)
theorem dX7_keeps_68 : decode cX7_keeps 68 = .ok (.iadd, 1) := dk_96 (dk_at dksX7_keeps_2 23 rfl rfl)
theorem dX7_keeps_69 : decode cX7_keeps 69 = .ok (.aload_n 0, 1) := dk_42 (dk_at dksX7_keeps_3 0 rfl rfl)
theorem dX7_keeps_70 : decode cX7_keeps 70 = .ok (.getfield 31, 3) := dk_180 0 31 (dk_at dksX7_keeps_3 1 rfl rfl)
theorem dX7_keeps_73 : decode cX7_keeps 73 = .ok (.iload_n 1, 1) := dk_27 (dk_at dksX7_keeps_3 4 rfl rfl)
theorem dX7_keeps_74 : decode cX7_keeps 74 = .ok (.laload, 1) := dk_47 (dk_at dksX7_keeps_3 5 rfl rfl)
theorem dX7_keeps_75 : decode cX7_keeps 75 = .ok (.lastore, 1) := dk_80 (dk_at dksX7_keeps_3 6 rfl rfl)
theorem dX7_keeps_76 : decode cX7_keeps 76 = .ok (.iinc 1 1, 3) := dk_132 1 1 (dk_at dksX7_keeps_3 7 rfl rfl)
theorem dX7_keeps_79 : decode cX7_keeps 79 = .ok (.goto (-29), 3) := dk_167 255 227 (dk_at dksX7_keeps_3 10 rfl rfl)
theorem dX7_keeps_82 : decode cX7_keeps 82 = .ok (.aload_n 0, 1) := dk_42 (dk_at dksX7_keeps_3 13 rfl rfl)
theorem dX7_keeps_83 : decode cX7_keeps 83 = .ok (.dup, 1) := dk_89 (dk_at dksX7_keeps_3 14 rfl rfl)
theorem dX7_keeps_84 : decode cX7_keeps 84 = .ok (.getfield 340, 3) := dk_180 1 84 (dk_at dksX7_keeps_3 15 rfl rfl)
theorem dX7_keeps_87 : decode cX7_keeps 87 = .ok (.iconst 1, 1) := dk_4 (dk_at dksX7_keeps_3 18 rfl rfl)
theorem dX7_keeps_88 : decode cX7_keeps 88 = .ok (.iadd, 1) := dk_96 (dk_at dksX7_keeps_3 19 rfl rfl)
theorem dX7_keeps_89 : decode cX7_keeps 89 = .ok (.putfield 340, 3) := dk_181 1 84 (dk_at dksX7_keeps_3 20 rfl rfl)
theorem dX7_keeps_92 : decode cX7_keeps 92 = .ok (.return_, 1) := dk_177 (dk_at dksX7_keeps_3 23 rfl rfl)
abbrev cX7_rainsIn : ByteArray := prog_19_method_93_code
def yX7_rainsIn : MethodName := ⟨RX7, "rainsIn", "(I)Z"⟩
def dkwX7_rainsIn_1 : List UInt8 := [126, 4, 160, 0, 7, 4, 167, 0, 4, 3, 172]
abbrev dktX7_rainsIn_1 : List UInt8 := dkwX7_rainsIn_1 ++ []
def dkwX7_rainsIn_0 : List UInt8 := [42, 27, 182, 1, 164, 61, 28, 42, 180, 1, 82, 180, 0, 219, 162, 0, 19, 42, 180, 1, 219, 28, 122, 4]
abbrev dktX7_rainsIn_0 : List UInt8 := dkwX7_rainsIn_0 ++ dktX7_rainsIn_1
theorem dksX7_rainsIn_0 : cX7_rainsIn.data.toList.drop 0 = dktX7_rainsIn_0 := by decide +kernel
theorem dksX7_rainsIn_1 : cX7_rainsIn.data.toList.drop 24 = dktX7_rainsIn_1 := dk_seg dksX7_rainsIn_0 24 rfl rfl
theorem dX7_rainsIn_0 : decode cX7_rainsIn 0 = .ok (.aload_n 0, 1) := dk_42 (dk_at dksX7_rainsIn_0 0 rfl rfl)
theorem dX7_rainsIn_1 : decode cX7_rainsIn 1 = .ok (.iload_n 1, 1) := dk_27 (dk_at dksX7_rainsIn_0 1 rfl rfl)
theorem dX7_rainsIn_2 : decode cX7_rainsIn 2 = .ok (.invokevirtual 420, 3) := dk_182 1 164 (dk_at dksX7_rainsIn_0 2 rfl rfl)
theorem dX7_rainsIn_5 : decode cX7_rainsIn 5 = .ok (.istore_n 2, 1) := dk_61 (dk_at dksX7_rainsIn_0 5 rfl rfl)
theorem dX7_rainsIn_6 : decode cX7_rainsIn 6 = .ok (.iload_n 2, 1) := dk_28 (dk_at dksX7_rainsIn_0 6 rfl rfl)
theorem dX7_rainsIn_7 : decode cX7_rainsIn 7 = .ok (.aload_n 0, 1) := dk_42 (dk_at dksX7_rainsIn_0 7 rfl rfl)
theorem dX7_rainsIn_8 : decode cX7_rainsIn 8 = .ok (.getfield 338, 3) := dk_180 1 82 (dk_at dksX7_rainsIn_0 8 rfl rfl)
theorem dX7_rainsIn_11 : decode cX7_rainsIn 11 = .ok (.getfield 219, 3) := dk_180 0 219 (dk_at dksX7_rainsIn_0 11 rfl rfl)
theorem dX7_rainsIn_14 : decode cX7_rainsIn 14 = .ok (.if_icmp .ge 19, 3) := dk_162 0 19 (dk_at dksX7_rainsIn_0 14 rfl rfl)
theorem dX7_rainsIn_17 : decode cX7_rainsIn 17 = .ok (.aload_n 0, 1) := dk_42 (dk_at dksX7_rainsIn_0 17 rfl rfl)
theorem dX7_rainsIn_18 : decode cX7_rainsIn 18 = .ok (.getfield 475, 3) := dk_180 1 219 (dk_at dksX7_rainsIn_0 18 rfl rfl)
theorem dX7_rainsIn_21 : decode cX7_rainsIn 21 = .ok (.iload_n 2, 1) := dk_28 (dk_at dksX7_rainsIn_0 21 rfl rfl)
theorem dX7_rainsIn_22 : decode cX7_rainsIn 22 = .ok (.ishr, 1) := dk_122 (dk_at dksX7_rainsIn_0 22 rfl rfl)
theorem dX7_rainsIn_23 : decode cX7_rainsIn 23 = .ok (.iconst 1, 1) := dk_4 (dk_at dksX7_rainsIn_0 23 rfl rfl)
theorem dX7_rainsIn_24 : decode cX7_rainsIn 24 = .ok (.iand, 1) := dk_126 (dk_at dksX7_rainsIn_1 0 rfl rfl)
theorem dX7_rainsIn_25 : decode cX7_rainsIn 25 = .ok (.iconst 1, 1) := dk_4 (dk_at dksX7_rainsIn_1 1 rfl rfl)
theorem dX7_rainsIn_26 : decode cX7_rainsIn 26 = .ok (.if_icmp .ne 7, 3) := dk_160 0 7 (dk_at dksX7_rainsIn_1 2 rfl rfl)
theorem dX7_rainsIn_29 : decode cX7_rainsIn 29 = .ok (.iconst 1, 1) := dk_4 (dk_at dksX7_rainsIn_1 5 rfl rfl)
theorem dX7_rainsIn_30 : decode cX7_rainsIn 30 = .ok (.goto 4, 3) := dk_167 0 4 (dk_at dksX7_rainsIn_1 6 rfl rfl)
theorem dX7_rainsIn_33 : decode cX7_rainsIn 33 = .ok (.iconst 0, 1) := dk_3 (dk_at dksX7_rainsIn_1 9 rfl rfl)
theorem dX7_rainsIn_34 : decode cX7_rainsIn 34 = .ok (.ireturn, 1) := dk_172 (dk_at dksX7_rainsIn_1 10 rfl rfl)
abbrev cX7_stay : ByteArray := prog_19_method_95_code
def yX7_stay : MethodName := ⟨RX7, "stay", "(I)Z"⟩
def dkwX7_stay_6 : List UInt8 := [180, 0, 31, 4, 92, 47, 10, 97, 80, 132, 3, 1, 167, 255, 194, 42, 182, 1, 242, 172]
abbrev dktX7_stay_6 : List UInt8 := dkwX7_stay_6 ++ []
def dkwX7_stay_5 : List UInt8 := [153, 0, 21, 42, 180, 0, 31, 5, 92, 47, 42, 42, 180, 0, 28, 28, 182, 1, 167, 97, 80, 42]
abbrev dktX7_stay_5 : List UInt8 := dkwX7_stay_5 ++ dktX7_stay_6
def dkwX7_stay_4 : List UInt8 := [180, 1, 82, 180, 1, 2, 28, 51, 154, 0, 35, 42, 42, 180, 0, 31, 4, 47, 136, 182, 1, 234]
abbrev dktX7_stay_4 : List UInt8 := dkwX7_stay_4 ++ dktX7_stay_5
def dkwX7_stay_3 : List UInt8 := [148, 158, 0, 9, 42, 6, 182, 1, 237, 172, 42, 182, 1, 231, 3, 62, 29, 27, 162, 0, 63, 42]
abbrev dktX7_stay_3 : List UInt8 := dkwX7_stay_3 ++ dktX7_stay_4
def dkwX7_stay_2 : List UInt8 := [182, 1, 192, 154, 0, 9, 42, 8, 182, 1, 237, 172, 42, 180, 0, 31, 4, 47, 27, 133, 97, 20, 1, 240]
abbrev dktX7_stay_2 : List UInt8 := dkwX7_stay_2 ++ dktX7_stay_3
def dkwX7_stay_1 : List UInt8 := [184, 0, 118, 154, 0, 9, 42, 5, 182, 1, 237, 172, 42, 180, 0, 31, 3, 47, 136, 61, 42, 28]
abbrev dktX7_stay_1 : List UInt8 := dkwX7_stay_1 ++ dktX7_stay_2
def dkwX7_stay_0 : List UInt8 := [42, 3, 181, 0, 40, 42, 182, 1, 228, 154, 0, 9, 42, 4, 182, 1, 237, 172, 27, 4, 16, 60]
abbrev dktX7_stay_0 : List UInt8 := dkwX7_stay_0 ++ dktX7_stay_1
theorem dksX7_stay_0 : cX7_stay.data.toList.drop 0 = dktX7_stay_0 := by decide +kernel
theorem dksX7_stay_1 : cX7_stay.data.toList.drop 22 = dktX7_stay_1 := dk_seg dksX7_stay_0 22 rfl rfl
theorem dksX7_stay_2 : cX7_stay.data.toList.drop 44 = dktX7_stay_2 := dk_seg dksX7_stay_1 22 rfl rfl
theorem dksX7_stay_3 : cX7_stay.data.toList.drop 68 = dktX7_stay_3 := dk_seg dksX7_stay_2 24 rfl rfl
theorem dksX7_stay_4 : cX7_stay.data.toList.drop 90 = dktX7_stay_4 := dk_seg dksX7_stay_3 22 rfl rfl
theorem dksX7_stay_5 : cX7_stay.data.toList.drop 112 = dktX7_stay_5 := dk_seg dksX7_stay_4 22 rfl rfl
theorem dksX7_stay_6 : cX7_stay.data.toList.drop 134 = dktX7_stay_6 := dk_seg dksX7_stay_5 22 rfl rfl
theorem dX7_stay_0 : decode cX7_stay 0 = .ok (.aload_n 0, 1) := dk_42 (dk_at dksX7_stay_0 0 rfl rfl)
theorem dX7_stay_1 : decode cX7_stay 1 = .ok (.iconst 0, 1) := dk_3 (dk_at dksX7_stay_0 1 rfl rfl)
theorem dX7_stay_2 : decode cX7_stay 2 = .ok (.putfield 40, 3) := dk_181 0 40 (dk_at dksX7_stay_0 2 rfl rfl)
theorem dX7_stay_5 : decode cX7_stay 5 = .ok (.aload_n 0, 1) := dk_42 (dk_at dksX7_stay_0 5 rfl rfl)
theorem dX7_stay_6 : decode cX7_stay 6 = .ok (.invokevirtual 484, 3) := dk_182 1 228 (dk_at dksX7_stay_0 6 rfl rfl)
theorem dX7_stay_9 : decode cX7_stay 9 = .ok (.ifCond .ne 9, 3) := dk_154 0 9 (dk_at dksX7_stay_0 9 rfl rfl)
theorem dX7_stay_12 : decode cX7_stay 12 = .ok (.aload_n 0, 1) := dk_42 (dk_at dksX7_stay_0 12 rfl rfl)
theorem dX7_stay_13 : decode cX7_stay 13 = .ok (.iconst 1, 1) := dk_4 (dk_at dksX7_stay_0 13 rfl rfl)
theorem dX7_stay_14 : decode cX7_stay 14 = .ok (.invokevirtual 493, 3) := dk_182 1 237 (dk_at dksX7_stay_0 14 rfl rfl)
theorem dX7_stay_17 : decode cX7_stay 17 = .ok (.ireturn, 1) := dk_172 (dk_at dksX7_stay_0 17 rfl rfl)
theorem dX7_stay_18 : decode cX7_stay 18 = .ok (.iload_n 1, 1) := dk_27 (dk_at dksX7_stay_0 18 rfl rfl)
theorem dX7_stay_19 : decode cX7_stay 19 = .ok (.iconst 1, 1) := dk_4 (dk_at dksX7_stay_0 19 rfl rfl)
theorem dX7_stay_20 : decode cX7_stay 20 = .ok (.bipush 60, 2) := dk_16 60 (dk_at dksX7_stay_0 20 rfl rfl)
theorem dX7_stay_22 : decode cX7_stay 22 = .ok (.invokestatic 118, 3) := dk_184 0 118 (dk_at dksX7_stay_1 0 rfl rfl)
theorem dX7_stay_25 : decode cX7_stay 25 = .ok (.ifCond .ne 9, 3) := dk_154 0 9 (dk_at dksX7_stay_1 3 rfl rfl)
theorem dX7_stay_28 : decode cX7_stay 28 = .ok (.aload_n 0, 1) := dk_42 (dk_at dksX7_stay_1 6 rfl rfl)
theorem dX7_stay_29 : decode cX7_stay 29 = .ok (.iconst 2, 1) := dk_5 (dk_at dksX7_stay_1 7 rfl rfl)
theorem dX7_stay_30 : decode cX7_stay 30 = .ok (.invokevirtual 493, 3) := dk_182 1 237 (dk_at dksX7_stay_1 8 rfl rfl)
theorem dX7_stay_33 : decode cX7_stay 33 = .ok (.ireturn, 1) := dk_172 (dk_at dksX7_stay_1 11 rfl rfl)
theorem dX7_stay_34 : decode cX7_stay 34 = .ok (.aload_n 0, 1) := dk_42 (dk_at dksX7_stay_1 12 rfl rfl)
theorem dX7_stay_35 : decode cX7_stay 35 = .ok (.getfield 31, 3) := dk_180 0 31 (dk_at dksX7_stay_1 13 rfl rfl)
theorem dX7_stay_38 : decode cX7_stay 38 = .ok (.iconst 0, 1) := dk_3 (dk_at dksX7_stay_1 16 rfl rfl)
theorem dX7_stay_39 : decode cX7_stay 39 = .ok (.laload, 1) := dk_47 (dk_at dksX7_stay_1 17 rfl rfl)
theorem dX7_stay_40 : decode cX7_stay 40 = .ok (.l2i, 1) := dk_136 (dk_at dksX7_stay_1 18 rfl rfl)
theorem dX7_stay_41 : decode cX7_stay 41 = .ok (.istore_n 2, 1) := dk_61 (dk_at dksX7_stay_1 19 rfl rfl)
theorem dX7_stay_42 : decode cX7_stay 42 = .ok (.aload_n 0, 1) := dk_42 (dk_at dksX7_stay_1 20 rfl rfl)
theorem dX7_stay_43 : decode cX7_stay 43 = .ok (.iload_n 2, 1) := dk_28 (dk_at dksX7_stay_1 21 rfl rfl)
theorem dX7_stay_44 : decode cX7_stay 44 = .ok (.invokevirtual 448, 3) := dk_182 1 192 (dk_at dksX7_stay_2 0 rfl rfl)
theorem dX7_stay_47 : decode cX7_stay 47 = .ok (.ifCond .ne 9, 3) := dk_154 0 9 (dk_at dksX7_stay_2 3 rfl rfl)
theorem dX7_stay_50 : decode cX7_stay 50 = .ok (.aload_n 0, 1) := dk_42 (dk_at dksX7_stay_2 6 rfl rfl)
theorem dX7_stay_51 : decode cX7_stay 51 = .ok (.iconst 5, 1) := dk_8 (dk_at dksX7_stay_2 7 rfl rfl)
theorem dX7_stay_52 : decode cX7_stay 52 = .ok (.invokevirtual 493, 3) := dk_182 1 237 (dk_at dksX7_stay_2 8 rfl rfl)
theorem dX7_stay_55 : decode cX7_stay 55 = .ok (.ireturn, 1) := dk_172 (dk_at dksX7_stay_2 11 rfl rfl)
theorem dX7_stay_56 : decode cX7_stay 56 = .ok (.aload_n 0, 1) := dk_42 (dk_at dksX7_stay_2 12 rfl rfl)
theorem dX7_stay_57 : decode cX7_stay 57 = .ok (.getfield 31, 3) := dk_180 0 31 (dk_at dksX7_stay_2 13 rfl rfl)
theorem dX7_stay_60 : decode cX7_stay 60 = .ok (.iconst 1, 1) := dk_4 (dk_at dksX7_stay_2 16 rfl rfl)
theorem dX7_stay_61 : decode cX7_stay 61 = .ok (.laload, 1) := dk_47 (dk_at dksX7_stay_2 17 rfl rfl)
theorem dX7_stay_62 : decode cX7_stay 62 = .ok (.iload_n 1, 1) := dk_27 (dk_at dksX7_stay_2 18 rfl rfl)
theorem dX7_stay_63 : decode cX7_stay 63 = .ok (.i2l, 1) := dk_133 (dk_at dksX7_stay_2 19 rfl rfl)
theorem dX7_stay_64 : decode cX7_stay 64 = .ok (.ladd, 1) := dk_97 (dk_at dksX7_stay_2 20 rfl rfl)
theorem dX7_stay_65 : decode cX7_stay 65 = .ok (.ldc2_w 496, 3) := dk_20 1 240 (dk_at dksX7_stay_2 21 rfl rfl)
theorem dX7_stay_68 : decode cX7_stay 68 = .ok (.lcmp, 1) := dk_148 (dk_at dksX7_stay_3 0 rfl rfl)
theorem dX7_stay_69 : decode cX7_stay 69 = .ok (.ifCond .le 9, 3) := dk_158 0 9 (dk_at dksX7_stay_3 1 rfl rfl)
theorem dX7_stay_72 : decode cX7_stay 72 = .ok (.aload_n 0, 1) := dk_42 (dk_at dksX7_stay_3 4 rfl rfl)
theorem dX7_stay_73 : decode cX7_stay 73 = .ok (.iconst 3, 1) := dk_6 (dk_at dksX7_stay_3 5 rfl rfl)
theorem dX7_stay_74 : decode cX7_stay 74 = .ok (.invokevirtual 493, 3) := dk_182 1 237 (dk_at dksX7_stay_3 6 rfl rfl)
theorem dX7_stay_77 : decode cX7_stay 77 = .ok (.ireturn, 1) := dk_172 (dk_at dksX7_stay_3 9 rfl rfl)
theorem dX7_stay_78 : decode cX7_stay 78 = .ok (.aload_n 0, 1) := dk_42 (dk_at dksX7_stay_3 10 rfl rfl)
theorem dX7_stay_79 : decode cX7_stay 79 = .ok (.invokevirtual 487, 3) := dk_182 1 231 (dk_at dksX7_stay_3 11 rfl rfl)
theorem dX7_stay_82 : decode cX7_stay 82 = .ok (.iconst 0, 1) := dk_3 (dk_at dksX7_stay_3 14 rfl rfl)
theorem dX7_stay_83 : decode cX7_stay 83 = .ok (.istore_n 3, 1) := dk_62 (dk_at dksX7_stay_3 15 rfl rfl)
theorem dX7_stay_84 : decode cX7_stay 84 = .ok (.iload_n 3, 1) := dk_29 (dk_at dksX7_stay_3 16 rfl rfl)
theorem dX7_stay_85 : decode cX7_stay 85 = .ok (.iload_n 1, 1) := dk_27 (dk_at dksX7_stay_3 17 rfl rfl)
theorem dX7_stay_86 : decode cX7_stay 86 = .ok (.if_icmp .ge 63, 3) := dk_162 0 63 (dk_at dksX7_stay_3 18 rfl rfl)
theorem dX7_stay_89 : decode cX7_stay 89 = .ok (.aload_n 0, 1) := dk_42 (dk_at dksX7_stay_3 21 rfl rfl)
theorem dX7_stay_90 : decode cX7_stay 90 = .ok (.getfield 338, 3) := dk_180 1 82 (dk_at dksX7_stay_4 0 rfl rfl)
theorem dX7_stay_93 : decode cX7_stay 93 = .ok (.getfield 258, 3) := dk_180 1 2 (dk_at dksX7_stay_4 3 rfl rfl)
theorem dX7_stay_96 : decode cX7_stay 96 = .ok (.iload_n 2, 1) := dk_28 (dk_at dksX7_stay_4 6 rfl rfl)
theorem dX7_stay_97 : decode cX7_stay 97 = .ok (.baload, 1) := dk_51 (dk_at dksX7_stay_4 7 rfl rfl)
theorem dX7_stay_98 : decode cX7_stay 98 = .ok (.ifCond .ne 35, 3) := dk_154 0 35 (dk_at dksX7_stay_4 8 rfl rfl)
theorem dX7_stay_101 : decode cX7_stay 101 = .ok (.aload_n 0, 1) := dk_42 (dk_at dksX7_stay_4 11 rfl rfl)
theorem dX7_stay_102 : decode cX7_stay 102 = .ok (.aload_n 0, 1) := dk_42 (dk_at dksX7_stay_4 12 rfl rfl)
theorem dX7_stay_103 : decode cX7_stay 103 = .ok (.getfield 31, 3) := dk_180 0 31 (dk_at dksX7_stay_4 13 rfl rfl)
theorem dX7_stay_106 : decode cX7_stay 106 = .ok (.iconst 1, 1) := dk_4 (dk_at dksX7_stay_4 16 rfl rfl)
theorem dX7_stay_107 : decode cX7_stay 107 = .ok (.laload, 1) := dk_47 (dk_at dksX7_stay_4 17 rfl rfl)
theorem dX7_stay_108 : decode cX7_stay 108 = .ok (.l2i, 1) := dk_136 (dk_at dksX7_stay_4 18 rfl rfl)
theorem dX7_stay_109 : decode cX7_stay 109 = .ok (.invokevirtual 490, 3) := dk_182 1 234 (dk_at dksX7_stay_4 19 rfl rfl)
theorem dX7_stay_112 : decode cX7_stay 112 = .ok (.ifCond .eq 21, 3) := dk_153 0 21 (dk_at dksX7_stay_5 0 rfl rfl)
theorem dX7_stay_115 : decode cX7_stay 115 = .ok (.aload_n 0, 1) := dk_42 (dk_at dksX7_stay_5 3 rfl rfl)
theorem dX7_stay_116 : decode cX7_stay 116 = .ok (.getfield 31, 3) := dk_180 0 31 (dk_at dksX7_stay_5 4 rfl rfl)
theorem dX7_stay_119 : decode cX7_stay 119 = .ok (.iconst 2, 1) := dk_5 (dk_at dksX7_stay_5 7 rfl rfl)
theorem dX7_stay_120 : decode cX7_stay 120 = .ok (.dup2, 1) := dk_92 (dk_at dksX7_stay_5 8 rfl rfl)
theorem dX7_stay_121 : decode cX7_stay 121 = .ok (.laload, 1) := dk_47 (dk_at dksX7_stay_5 9 rfl rfl)
theorem dX7_stay_122 : decode cX7_stay 122 = .ok (.aload_n 0, 1) := dk_42 (dk_at dksX7_stay_5 10 rfl rfl)
theorem dX7_stay_123 : decode cX7_stay 123 = .ok (.aload_n 0, 1) := dk_42 (dk_at dksX7_stay_5 11 rfl rfl)
theorem dX7_stay_124 : decode cX7_stay 124 = .ok (.getfield 28, 3) := dk_180 0 28 (dk_at dksX7_stay_5 12 rfl rfl)
theorem dX7_stay_127 : decode cX7_stay 127 = .ok (.iload_n 2, 1) := dk_28 (dk_at dksX7_stay_5 15 rfl rfl)
theorem dX7_stay_128 : decode cX7_stay 128 = .ok (.invokevirtual 423, 3) := dk_182 1 167 (dk_at dksX7_stay_5 16 rfl rfl)
theorem dX7_stay_131 : decode cX7_stay 131 = .ok (.ladd, 1) := dk_97 (dk_at dksX7_stay_5 19 rfl rfl)
theorem dX7_stay_132 : decode cX7_stay 132 = .ok (.lastore, 1) := dk_80 (dk_at dksX7_stay_5 20 rfl rfl)
theorem dX7_stay_133 : decode cX7_stay 133 = .ok (.aload_n 0, 1) := dk_42 (dk_at dksX7_stay_5 21 rfl rfl)
theorem dX7_stay_134 : decode cX7_stay 134 = .ok (.getfield 31, 3) := dk_180 0 31 (dk_at dksX7_stay_6 0 rfl rfl)
theorem dX7_stay_137 : decode cX7_stay 137 = .ok (.iconst 1, 1) := dk_4 (dk_at dksX7_stay_6 3 rfl rfl)
theorem dX7_stay_138 : decode cX7_stay 138 = .ok (.dup2, 1) := dk_92 (dk_at dksX7_stay_6 4 rfl rfl)
theorem dX7_stay_139 : decode cX7_stay 139 = .ok (.laload, 1) := dk_47 (dk_at dksX7_stay_6 5 rfl rfl)
theorem dX7_stay_140 : decode cX7_stay 140 = .ok (.lconst 1, 1) := dk_10 (dk_at dksX7_stay_6 6 rfl rfl)
theorem dX7_stay_141 : decode cX7_stay 141 = .ok (.ladd, 1) := dk_97 (dk_at dksX7_stay_6 7 rfl rfl)
theorem dX7_stay_142 : decode cX7_stay 142 = .ok (.lastore, 1) := dk_80 (dk_at dksX7_stay_6 8 rfl rfl)
theorem dX7_stay_143 : decode cX7_stay 143 = .ok (.iinc 3 1, 3) := dk_132 3 1 (dk_at dksX7_stay_6 9 rfl rfl)
theorem dX7_stay_146 : decode cX7_stay 146 = .ok (.goto (-62), 3) := dk_167 255 194 (dk_at dksX7_stay_6 12 rfl rfl)
theorem dX7_stay_149 : decode cX7_stay 149 = .ok (.aload_n 0, 1) := dk_42 (dk_at dksX7_stay_6 15 rfl rfl)
theorem dX7_stay_150 : decode cX7_stay 150 = .ok (.invokevirtual 498, 3) := dk_182 1 242 (dk_at dksX7_stay_6 16 rfl rfl)
theorem dX7_stay_153 : decode cX7_stay 153 = .ok (.ireturn, 1) := dk_172 (dk_at dksX7_stay_6 19 rfl rfl)
abbrev cX7_denied : ByteArray := prog_19_method_5_code
def yX7_denied : MethodName := ⟨RX7, "denied", "(I)Z"⟩
def dkwX7_denied_0 : List UInt8 := [42, 27, 182, 0, 46, 87, 3, 172]
abbrev dktX7_denied_0 : List UInt8 := dkwX7_denied_0 ++ []
theorem dksX7_denied_0 : cX7_denied.data.toList.drop 0 = dktX7_denied_0 := by decide +kernel
theorem dX7_denied_0 : decode cX7_denied 0 = .ok (.aload_n 0, 1) := dk_42 (dk_at dksX7_denied_0 0 rfl rfl)
theorem dX7_denied_1 : decode cX7_denied 1 = .ok (.iload_n 1, 1) := dk_27 (dk_at dksX7_denied_0 1 rfl rfl)
theorem dX7_denied_2 : decode cX7_denied 2 = .ok (.invokevirtual 46, 3) := dk_182 0 46 (dk_at dksX7_denied_0 2 rfl rfl)
theorem dX7_denied_5 : decode cX7_denied 5 = .ok (.pop, 1) := dk_87 (dk_at dksX7_denied_0 5 rfl rfl)
theorem dX7_denied_6 : decode cX7_denied 6 = .ok (.iconst 0, 1) := dk_3 (dk_at dksX7_denied_0 6 rfl rfl)
theorem dX7_denied_7 : decode cX7_denied 7 = .ok (.ireturn, 1) := dk_172 (dk_at dksX7_denied_0 7 rfl rfl)
abbrev cX7_granted : ByteArray := prog_19_method_7_code
def yX7_granted : MethodName := ⟨RX7, "granted", "()Z"⟩
def dkwX7_granted_0 : List UInt8 := [42, 3, 182, 0, 50, 87, 4, 172]
abbrev dktX7_granted_0 : List UInt8 := dkwX7_granted_0 ++ []
theorem dksX7_granted_0 : cX7_granted.data.toList.drop 0 = dktX7_granted_0 := by decide +kernel
theorem dX7_granted_0 : decode cX7_granted 0 = .ok (.aload_n 0, 1) := dk_42 (dk_at dksX7_granted_0 0 rfl rfl)
theorem dX7_granted_1 : decode cX7_granted 1 = .ok (.iconst 0, 1) := dk_3 (dk_at dksX7_granted_0 1 rfl rfl)
theorem dX7_granted_2 : decode cX7_granted 2 = .ok (.invokevirtual 50, 3) := dk_182 0 50 (dk_at dksX7_granted_0 2 rfl rfl)
theorem dX7_granted_5 : decode cX7_granted 5 = .ok (.pop, 1) := dk_87 (dk_at dksX7_granted_0 5 rfl rfl)
theorem dX7_granted_6 : decode cX7_granted 6 = .ok (.iconst 1, 1) := dk_4 (dk_at dksX7_granted_0 6 rfl rfl)
theorem dX7_granted_7 : decode cX7_granted 7 = .ok (.ireturn, 1) := dk_172 (dk_at dksX7_granted_0 7 rfl rfl)
abbrev cX7_got : ByteArray := prog_19_method_96_code
def yX7_got : MethodName := ⟨RX7, "got", "(IZ)J"⟩
def dkwX7_got_1 : List UInt8 := [180, 0, 31, 5, 27, 96, 47, 20, 1, 131, 28, 182, 1, 133, 167, 0, 9, 42, 4, 182, 0, 46, 133, 173]
abbrev dktX7_got_1 : List UInt8 := dkwX7_got_1 ++ []
def dkwX7_got_0 : List UInt8 := [42, 3, 181, 0, 40, 42, 182, 1, 228, 153, 0, 31, 27, 3, 7, 184, 0, 118, 153, 0, 22, 42, 42]
abbrev dktX7_got_0 : List UInt8 := dkwX7_got_0 ++ dktX7_got_1
theorem dksX7_got_0 : cX7_got.data.toList.drop 0 = dktX7_got_0 := by decide +kernel
theorem dksX7_got_1 : cX7_got.data.toList.drop 23 = dktX7_got_1 := dk_seg dksX7_got_0 23 rfl rfl
theorem dX7_got_0 : decode cX7_got 0 = .ok (.aload_n 0, 1) := dk_42 (dk_at dksX7_got_0 0 rfl rfl)
theorem dX7_got_1 : decode cX7_got 1 = .ok (.iconst 0, 1) := dk_3 (dk_at dksX7_got_0 1 rfl rfl)
theorem dX7_got_2 : decode cX7_got 2 = .ok (.putfield 40, 3) := dk_181 0 40 (dk_at dksX7_got_0 2 rfl rfl)
theorem dX7_got_5 : decode cX7_got 5 = .ok (.aload_n 0, 1) := dk_42 (dk_at dksX7_got_0 5 rfl rfl)
theorem dX7_got_6 : decode cX7_got 6 = .ok (.invokevirtual 484, 3) := dk_182 1 228 (dk_at dksX7_got_0 6 rfl rfl)
theorem dX7_got_9 : decode cX7_got 9 = .ok (.ifCond .eq 31, 3) := dk_153 0 31 (dk_at dksX7_got_0 9 rfl rfl)
theorem dX7_got_12 : decode cX7_got 12 = .ok (.iload_n 1, 1) := dk_27 (dk_at dksX7_got_0 12 rfl rfl)
theorem dX7_got_13 : decode cX7_got 13 = .ok (.iconst 0, 1) := dk_3 (dk_at dksX7_got_0 13 rfl rfl)
theorem dX7_got_14 : decode cX7_got 14 = .ok (.iconst 4, 1) := dk_7 (dk_at dksX7_got_0 14 rfl rfl)
theorem dX7_got_15 : decode cX7_got 15 = .ok (.invokestatic 118, 3) := dk_184 0 118 (dk_at dksX7_got_0 15 rfl rfl)
theorem dX7_got_18 : decode cX7_got 18 = .ok (.ifCond .eq 22, 3) := dk_153 0 22 (dk_at dksX7_got_0 18 rfl rfl)
theorem dX7_got_21 : decode cX7_got 21 = .ok (.aload_n 0, 1) := dk_42 (dk_at dksX7_got_0 21 rfl rfl)
theorem dX7_got_22 : decode cX7_got 22 = .ok (.aload_n 0, 1) := dk_42 (dk_at dksX7_got_0 22 rfl rfl)
theorem dX7_got_23 : decode cX7_got 23 = .ok (.getfield 31, 3) := dk_180 0 31 (dk_at dksX7_got_1 0 rfl rfl)
theorem dX7_got_26 : decode cX7_got 26 = .ok (.iconst 2, 1) := dk_5 (dk_at dksX7_got_1 3 rfl rfl)
theorem dX7_got_27 : decode cX7_got 27 = .ok (.iload_n 1, 1) := dk_27 (dk_at dksX7_got_1 4 rfl rfl)
theorem dX7_got_28 : decode cX7_got 28 = .ok (.iadd, 1) := dk_96 (dk_at dksX7_got_1 5 rfl rfl)
theorem dX7_got_29 : decode cX7_got 29 = .ok (.laload, 1) := dk_47 (dk_at dksX7_got_1 6 rfl rfl)
theorem dX7_got_30 : decode cX7_got 30 = .ok (.ldc2_w 387, 3) := dk_20 1 131 (dk_at dksX7_got_1 7 rfl rfl)
theorem dX7_got_33 : decode cX7_got 33 = .ok (.iload_n 2, 1) := dk_28 (dk_at dksX7_got_1 10 rfl rfl)
theorem dX7_got_34 : decode cX7_got 34 = .ok (.invokevirtual 389, 3) := dk_182 1 133 (dk_at dksX7_got_1 11 rfl rfl)
theorem dX7_got_37 : decode cX7_got 37 = .ok (.goto 9, 3) := dk_167 0 9 (dk_at dksX7_got_1 14 rfl rfl)
theorem dX7_got_40 : decode cX7_got 40 = .ok (.aload_n 0, 1) := dk_42 (dk_at dksX7_got_1 17 rfl rfl)
theorem dX7_got_41 : decode cX7_got 41 = .ok (.iconst 1, 1) := dk_4 (dk_at dksX7_got_1 18 rfl rfl)
theorem dX7_got_42 : decode cX7_got 42 = .ok (.invokevirtual 46, 3) := dk_182 0 46 (dk_at dksX7_got_1 19 rfl rfl)
theorem dX7_got_45 : decode cX7_got 45 = .ok (.i2l, 1) := dk_133 (dk_at dksX7_got_1 22 rfl rfl)
theorem dX7_got_46 : decode cX7_got 46 = .ok (.lreturn, 1) := dk_173 (dk_at dksX7_got_1 23 rfl rfl)
abbrev cX7_wetness : ByteArray := prog_19_method_99_code
def yX7_wetness : MethodName := ⟨RX7, "wetness", "(Z)J"⟩
def dkwX7_wetness_2 : List UInt8 := [173]
abbrev dktX7_wetness_2 : List UInt8 := dkwX7_wetness_2 ++ []
def dkwX7_wetness_1 : List UInt8 := [182, 1, 248, 101, 65, 42, 32, 9, 148, 156, 0, 7, 9, 167, 0, 4, 32, 20, 1, 131, 27, 182, 1, 133]
abbrev dktX7_wetness_1 : List UInt8 := dkwX7_wetness_1 ++ dktX7_wetness_2
def dkwX7_wetness_0 : List UInt8 := [42, 3, 181, 0, 40, 42, 182, 1, 228, 154, 0, 10, 42, 4, 182, 0, 46, 133, 173, 42, 182, 1, 245, 42]
abbrev dktX7_wetness_0 : List UInt8 := dkwX7_wetness_0 ++ dktX7_wetness_1
theorem dksX7_wetness_0 : cX7_wetness.data.toList.drop 0 = dktX7_wetness_0 := by decide +kernel
theorem dksX7_wetness_1 : cX7_wetness.data.toList.drop 24 = dktX7_wetness_1 := dk_seg dksX7_wetness_0 24 rfl rfl
theorem dksX7_wetness_2 : cX7_wetness.data.toList.drop 48 = dktX7_wetness_2 := dk_seg dksX7_wetness_1 24 rfl rfl
theorem dX7_wetness_0 : decode cX7_wetness 0 = .ok (.aload_n 0, 1) := dk_42 (dk_at dksX7_wetness_0 0 rfl rfl)
theorem dX7_wetness_1 : decode cX7_wetness 1 = .ok (.iconst 0, 1) := dk_3 (dk_at dksX7_wetness_0 1 rfl rfl)
theorem dX7_wetness_2 : decode cX7_wetness 2 = .ok (.putfield 40, 3) := dk_181 0 40 (dk_at dksX7_wetness_0 2 rfl rfl)
theorem dX7_wetness_5 : decode cX7_wetness 5 = .ok (.aload_n 0, 1) := dk_42 (dk_at dksX7_wetness_0 5 rfl rfl)
theorem dX7_wetness_6 : decode cX7_wetness 6 = .ok (.invokevirtual 484, 3) := dk_182 1 228 (dk_at dksX7_wetness_0 6 rfl rfl)
theorem dX7_wetness_9 : decode cX7_wetness 9 = .ok (.ifCond .ne 10, 3) := dk_154 0 10 (dk_at dksX7_wetness_0 9 rfl rfl)
theorem dX7_wetness_12 : decode cX7_wetness 12 = .ok (.aload_n 0, 1) := dk_42 (dk_at dksX7_wetness_0 12 rfl rfl)
theorem dX7_wetness_13 : decode cX7_wetness 13 = .ok (.iconst 1, 1) := dk_4 (dk_at dksX7_wetness_0 13 rfl rfl)
theorem dX7_wetness_14 : decode cX7_wetness 14 = .ok (.invokevirtual 46, 3) := dk_182 0 46 (dk_at dksX7_wetness_0 14 rfl rfl)
theorem dX7_wetness_17 : decode cX7_wetness 17 = .ok (.i2l, 1) := dk_133 (dk_at dksX7_wetness_0 17 rfl rfl)
theorem dX7_wetness_18 : decode cX7_wetness 18 = .ok (.lreturn, 1) := dk_173 (dk_at dksX7_wetness_0 18 rfl rfl)
theorem dX7_wetness_19 : decode cX7_wetness 19 = .ok (.aload_n 0, 1) := dk_42 (dk_at dksX7_wetness_0 19 rfl rfl)
theorem dX7_wetness_20 : decode cX7_wetness 20 = .ok (.invokevirtual 501, 3) := dk_182 1 245 (dk_at dksX7_wetness_0 20 rfl rfl)
theorem dX7_wetness_23 : decode cX7_wetness 23 = .ok (.aload_n 0, 1) := dk_42 (dk_at dksX7_wetness_0 23 rfl rfl)
theorem dX7_wetness_24 : decode cX7_wetness 24 = .ok (.invokevirtual 504, 3) := dk_182 1 248 (dk_at dksX7_wetness_1 0 rfl rfl)
theorem dX7_wetness_27 : decode cX7_wetness 27 = .ok (.lsub, 1) := dk_101 (dk_at dksX7_wetness_1 3 rfl rfl)
theorem dX7_wetness_28 : decode cX7_wetness 28 = .ok (.lstore_n 2, 1) := dk_65 (dk_at dksX7_wetness_1 4 rfl rfl)
theorem dX7_wetness_29 : decode cX7_wetness 29 = .ok (.aload_n 0, 1) := dk_42 (dk_at dksX7_wetness_1 5 rfl rfl)
theorem dX7_wetness_30 : decode cX7_wetness 30 = .ok (.lload_n 2, 1) := dk_32 (dk_at dksX7_wetness_1 6 rfl rfl)
theorem dX7_wetness_31 : decode cX7_wetness 31 = .ok (.lconst 0, 1) := dk_9 (dk_at dksX7_wetness_1 7 rfl rfl)
theorem dX7_wetness_32 : decode cX7_wetness 32 = .ok (.lcmp, 1) := dk_148 (dk_at dksX7_wetness_1 8 rfl rfl)
theorem dX7_wetness_33 : decode cX7_wetness 33 = .ok (.ifCond .ge 7, 3) := dk_156 0 7 (dk_at dksX7_wetness_1 9 rfl rfl)
theorem dX7_wetness_36 : decode cX7_wetness 36 = .ok (.lconst 0, 1) := dk_9 (dk_at dksX7_wetness_1 12 rfl rfl)
theorem dX7_wetness_37 : decode cX7_wetness 37 = .ok (.goto 4, 3) := dk_167 0 4 (dk_at dksX7_wetness_1 13 rfl rfl)
theorem dX7_wetness_40 : decode cX7_wetness 40 = .ok (.lload_n 2, 1) := dk_32 (dk_at dksX7_wetness_1 16 rfl rfl)
theorem dX7_wetness_41 : decode cX7_wetness 41 = .ok (.ldc2_w 387, 3) := dk_20 1 131 (dk_at dksX7_wetness_1 17 rfl rfl)
theorem dX7_wetness_44 : decode cX7_wetness 44 = .ok (.iload_n 1, 1) := dk_27 (dk_at dksX7_wetness_1 20 rfl rfl)
theorem dX7_wetness_45 : decode cX7_wetness 45 = .ok (.invokevirtual 389, 3) := dk_182 1 133 (dk_at dksX7_wetness_1 21 rfl rfl)
theorem dX7_wetness_48 : decode cX7_wetness 48 = .ok (.lreturn, 1) := dk_173 (dk_at dksX7_wetness_2 0 rfl rfl)
abbrev cX7_gotInAll : ByteArray := prog_19_method_97_code
def yX7_gotInAll : MethodName := ⟨RX7, "gotInAll", "()J"⟩
def dkwX7_gotInAll_1 : List UInt8 := [167, 255, 237, 31, 173]
abbrev dktX7_gotInAll_1 : List UInt8 := dkwX7_gotInAll_1 ++ []
def dkwX7_gotInAll_0 : List UInt8 := [9, 64, 3, 62, 29, 8, 162, 0, 20, 31, 42, 180, 0, 31, 5, 29, 96, 47, 97, 64, 132, 3, 1]
abbrev dktX7_gotInAll_0 : List UInt8 := dkwX7_gotInAll_0 ++ dktX7_gotInAll_1
theorem dksX7_gotInAll_0 : cX7_gotInAll.data.toList.drop 0 = dktX7_gotInAll_0 := by decide +kernel
theorem dksX7_gotInAll_1 : cX7_gotInAll.data.toList.drop 23 = dktX7_gotInAll_1 := dk_seg dksX7_gotInAll_0 23 rfl rfl
theorem dX7_gotInAll_0 : decode cX7_gotInAll 0 = .ok (.lconst 0, 1) := dk_9 (dk_at dksX7_gotInAll_0 0 rfl rfl)
theorem dX7_gotInAll_1 : decode cX7_gotInAll 1 = .ok (.lstore_n 1, 1) := dk_64 (dk_at dksX7_gotInAll_0 1 rfl rfl)
theorem dX7_gotInAll_2 : decode cX7_gotInAll 2 = .ok (.iconst 0, 1) := dk_3 (dk_at dksX7_gotInAll_0 2 rfl rfl)
theorem dX7_gotInAll_3 : decode cX7_gotInAll 3 = .ok (.istore_n 3, 1) := dk_62 (dk_at dksX7_gotInAll_0 3 rfl rfl)
theorem dX7_gotInAll_4 : decode cX7_gotInAll 4 = .ok (.iload_n 3, 1) := dk_29 (dk_at dksX7_gotInAll_0 4 rfl rfl)
theorem dX7_gotInAll_5 : decode cX7_gotInAll 5 = .ok (.iconst 5, 1) := dk_8 (dk_at dksX7_gotInAll_0 5 rfl rfl)
theorem dX7_gotInAll_6 : decode cX7_gotInAll 6 = .ok (.if_icmp .ge 20, 3) := dk_162 0 20 (dk_at dksX7_gotInAll_0 6 rfl rfl)
theorem dX7_gotInAll_9 : decode cX7_gotInAll 9 = .ok (.lload_n 1, 1) := dk_31 (dk_at dksX7_gotInAll_0 9 rfl rfl)
theorem dX7_gotInAll_10 : decode cX7_gotInAll 10 = .ok (.aload_n 0, 1) := dk_42 (dk_at dksX7_gotInAll_0 10 rfl rfl)
theorem dX7_gotInAll_11 : decode cX7_gotInAll 11 = .ok (.getfield 31, 3) := dk_180 0 31 (dk_at dksX7_gotInAll_0 11 rfl rfl)
theorem dX7_gotInAll_14 : decode cX7_gotInAll 14 = .ok (.iconst 2, 1) := dk_5 (dk_at dksX7_gotInAll_0 14 rfl rfl)
theorem dX7_gotInAll_15 : decode cX7_gotInAll 15 = .ok (.iload_n 3, 1) := dk_29 (dk_at dksX7_gotInAll_0 15 rfl rfl)
theorem dX7_gotInAll_16 : decode cX7_gotInAll 16 = .ok (.iadd, 1) := dk_96 (dk_at dksX7_gotInAll_0 16 rfl rfl)
theorem dX7_gotInAll_17 : decode cX7_gotInAll 17 = .ok (.laload, 1) := dk_47 (dk_at dksX7_gotInAll_0 17 rfl rfl)
theorem dX7_gotInAll_18 : decode cX7_gotInAll 18 = .ok (.ladd, 1) := dk_97 (dk_at dksX7_gotInAll_0 18 rfl rfl)
theorem dX7_gotInAll_19 : decode cX7_gotInAll 19 = .ok (.lstore_n 1, 1) := dk_64 (dk_at dksX7_gotInAll_0 19 rfl rfl)
theorem dX7_gotInAll_20 : decode cX7_gotInAll 20 = .ok (.iinc 3 1, 3) := dk_132 3 1 (dk_at dksX7_gotInAll_0 20 rfl rfl)
theorem dX7_gotInAll_23 : decode cX7_gotInAll 23 = .ok (.goto (-19), 3) := dk_167 255 237 (dk_at dksX7_gotInAll_1 0 rfl rfl)
theorem dX7_gotInAll_26 : decode cX7_gotInAll 26 = .ok (.lload_n 1, 1) := dk_31 (dk_at dksX7_gotInAll_1 3 rfl rfl)
theorem dX7_gotInAll_27 : decode cX7_gotInAll 27 = .ok (.lreturn, 1) := dk_173 (dk_at dksX7_gotInAll_1 4 rfl rfl)
abbrev cX7_holds : ByteArray := prog_19_method_98_code
def yX7_holds : MethodName := ⟨RX7, "holds", "()J"⟩
def dkwX7_holds_1 : List UInt8 := [180, 1, 49, 42, 180, 0, 28, 46, 133, 105, 167, 0, 4, 9, 173]
abbrev dktX7_holds_1 : List UInt8 := dkwX7_holds_1 ++ []
def dkwX7_holds_0 : List UInt8 := [42, 180, 1, 82, 180, 1, 46, 42, 180, 0, 28, 46, 5, 160, 0, 23, 20, 1, 131, 42, 180, 1, 82]
abbrev dktX7_holds_0 : List UInt8 := dkwX7_holds_0 ++ dktX7_holds_1
theorem dksX7_holds_0 : cX7_holds.data.toList.drop 0 = dktX7_holds_0 := by decide +kernel
theorem dksX7_holds_1 : cX7_holds.data.toList.drop 23 = dktX7_holds_1 := dk_seg dksX7_holds_0 23 rfl rfl
theorem dX7_holds_0 : decode cX7_holds 0 = .ok (.aload_n 0, 1) := dk_42 (dk_at dksX7_holds_0 0 rfl rfl)
theorem dX7_holds_1 : decode cX7_holds 1 = .ok (.getfield 338, 3) := dk_180 1 82 (dk_at dksX7_holds_0 1 rfl rfl)
theorem dX7_holds_4 : decode cX7_holds 4 = .ok (.getfield 302, 3) := dk_180 1 46 (dk_at dksX7_holds_0 4 rfl rfl)
theorem dX7_holds_7 : decode cX7_holds 7 = .ok (.aload_n 0, 1) := dk_42 (dk_at dksX7_holds_0 7 rfl rfl)
theorem dX7_holds_8 : decode cX7_holds 8 = .ok (.getfield 28, 3) := dk_180 0 28 (dk_at dksX7_holds_0 8 rfl rfl)
theorem dX7_holds_11 : decode cX7_holds 11 = .ok (.iaload, 1) := dk_46 (dk_at dksX7_holds_0 11 rfl rfl)
theorem dX7_holds_12 : decode cX7_holds 12 = .ok (.iconst 2, 1) := dk_5 (dk_at dksX7_holds_0 12 rfl rfl)
theorem dX7_holds_13 : decode cX7_holds 13 = .ok (.if_icmp .ne 23, 3) := dk_160 0 23 (dk_at dksX7_holds_0 13 rfl rfl)
theorem dX7_holds_16 : decode cX7_holds 16 = .ok (.ldc2_w 387, 3) := dk_20 1 131 (dk_at dksX7_holds_0 16 rfl rfl)
theorem dX7_holds_19 : decode cX7_holds 19 = .ok (.aload_n 0, 1) := dk_42 (dk_at dksX7_holds_0 19 rfl rfl)
theorem dX7_holds_20 : decode cX7_holds 20 = .ok (.getfield 338, 3) := dk_180 1 82 (dk_at dksX7_holds_0 20 rfl rfl)
theorem dX7_holds_23 : decode cX7_holds 23 = .ok (.getfield 305, 3) := dk_180 1 49 (dk_at dksX7_holds_1 0 rfl rfl)
theorem dX7_holds_26 : decode cX7_holds 26 = .ok (.aload_n 0, 1) := dk_42 (dk_at dksX7_holds_1 3 rfl rfl)
theorem dX7_holds_27 : decode cX7_holds 27 = .ok (.getfield 28, 3) := dk_180 0 28 (dk_at dksX7_holds_1 4 rfl rfl)
theorem dX7_holds_30 : decode cX7_holds 30 = .ok (.iaload, 1) := dk_46 (dk_at dksX7_holds_1 7 rfl rfl)
theorem dX7_holds_31 : decode cX7_holds 31 = .ok (.i2l, 1) := dk_133 (dk_at dksX7_holds_1 8 rfl rfl)
theorem dX7_holds_32 : decode cX7_holds 32 = .ok (.lmul, 1) := dk_105 (dk_at dksX7_holds_1 9 rfl rfl)
theorem dX7_holds_33 : decode cX7_holds 33 = .ok (.goto 4, 3) := dk_167 0 4 (dk_at dksX7_holds_1 10 rfl rfl)
theorem dX7_holds_36 : decode cX7_holds 36 = .ok (.lconst 0, 1) := dk_9 (dk_at dksX7_holds_1 13 rfl rfl)
theorem dX7_holds_37 : decode cX7_holds 37 = .ok (.lreturn, 1) := dk_173 (dk_at dksX7_holds_1 14 rfl rfl)
abbrev cX7_soaked : ByteArray := prog_19_method_100_code
def yX7_soaked : MethodName := ⟨RX7, "soaked", "()I"⟩
def dkwX7_soaked_2 : List UInt8 := [182, 1, 248, 148, 158, 0, 7, 4, 167, 0, 4, 3, 182, 0, 50, 172]
abbrev dktX7_soaked_2 : List UInt8 := dkwX7_soaked_2 ++ []
def dkwX7_soaked_1 : List UInt8 := [180, 1, 46, 42, 180, 0, 28, 46, 5, 159, 0, 8, 16, 254, 167, 0, 20, 42, 182, 1, 245, 42]
abbrev dktX7_soaked_1 : List UInt8 := dkwX7_soaked_1 ++ dktX7_soaked_2
def dkwX7_soaked_0 : List UInt8 := [42, 3, 181, 0, 40, 42, 182, 1, 228, 154, 0, 9, 42, 4, 182, 0, 46, 172, 42, 42, 180, 1, 82]
abbrev dktX7_soaked_0 : List UInt8 := dkwX7_soaked_0 ++ dktX7_soaked_1
theorem dksX7_soaked_0 : cX7_soaked.data.toList.drop 0 = dktX7_soaked_0 := by decide +kernel
theorem dksX7_soaked_1 : cX7_soaked.data.toList.drop 23 = dktX7_soaked_1 := dk_seg dksX7_soaked_0 23 rfl rfl
theorem dksX7_soaked_2 : cX7_soaked.data.toList.drop 45 = dktX7_soaked_2 := dk_seg dksX7_soaked_1 22 rfl rfl
theorem dX7_soaked_0 : decode cX7_soaked 0 = .ok (.aload_n 0, 1) := dk_42 (dk_at dksX7_soaked_0 0 rfl rfl)
theorem dX7_soaked_1 : decode cX7_soaked 1 = .ok (.iconst 0, 1) := dk_3 (dk_at dksX7_soaked_0 1 rfl rfl)
theorem dX7_soaked_2 : decode cX7_soaked 2 = .ok (.putfield 40, 3) := dk_181 0 40 (dk_at dksX7_soaked_0 2 rfl rfl)
theorem dX7_soaked_5 : decode cX7_soaked 5 = .ok (.aload_n 0, 1) := dk_42 (dk_at dksX7_soaked_0 5 rfl rfl)
theorem dX7_soaked_6 : decode cX7_soaked 6 = .ok (.invokevirtual 484, 3) := dk_182 1 228 (dk_at dksX7_soaked_0 6 rfl rfl)
theorem dX7_soaked_9 : decode cX7_soaked 9 = .ok (.ifCond .ne 9, 3) := dk_154 0 9 (dk_at dksX7_soaked_0 9 rfl rfl)
theorem dX7_soaked_12 : decode cX7_soaked 12 = .ok (.aload_n 0, 1) := dk_42 (dk_at dksX7_soaked_0 12 rfl rfl)
theorem dX7_soaked_13 : decode cX7_soaked 13 = .ok (.iconst 1, 1) := dk_4 (dk_at dksX7_soaked_0 13 rfl rfl)
theorem dX7_soaked_14 : decode cX7_soaked 14 = .ok (.invokevirtual 46, 3) := dk_182 0 46 (dk_at dksX7_soaked_0 14 rfl rfl)
theorem dX7_soaked_17 : decode cX7_soaked 17 = .ok (.ireturn, 1) := dk_172 (dk_at dksX7_soaked_0 17 rfl rfl)
theorem dX7_soaked_18 : decode cX7_soaked 18 = .ok (.aload_n 0, 1) := dk_42 (dk_at dksX7_soaked_0 18 rfl rfl)
theorem dX7_soaked_19 : decode cX7_soaked 19 = .ok (.aload_n 0, 1) := dk_42 (dk_at dksX7_soaked_0 19 rfl rfl)
theorem dX7_soaked_20 : decode cX7_soaked 20 = .ok (.getfield 338, 3) := dk_180 1 82 (dk_at dksX7_soaked_0 20 rfl rfl)
theorem dX7_soaked_23 : decode cX7_soaked 23 = .ok (.getfield 302, 3) := dk_180 1 46 (dk_at dksX7_soaked_1 0 rfl rfl)
theorem dX7_soaked_26 : decode cX7_soaked 26 = .ok (.aload_n 0, 1) := dk_42 (dk_at dksX7_soaked_1 3 rfl rfl)
theorem dX7_soaked_27 : decode cX7_soaked 27 = .ok (.getfield 28, 3) := dk_180 0 28 (dk_at dksX7_soaked_1 4 rfl rfl)
theorem dX7_soaked_30 : decode cX7_soaked 30 = .ok (.iaload, 1) := dk_46 (dk_at dksX7_soaked_1 7 rfl rfl)
theorem dX7_soaked_31 : decode cX7_soaked 31 = .ok (.iconst 2, 1) := dk_5 (dk_at dksX7_soaked_1 8 rfl rfl)
theorem dX7_soaked_32 : decode cX7_soaked 32 = .ok (.if_icmp .eq 8, 3) := dk_159 0 8 (dk_at dksX7_soaked_1 9 rfl rfl)
theorem dX7_soaked_35 : decode cX7_soaked 35 = .ok (.bipush (-2), 2) := dk_16 254 (dk_at dksX7_soaked_1 12 rfl rfl)
theorem dX7_soaked_37 : decode cX7_soaked 37 = .ok (.goto 20, 3) := dk_167 0 20 (dk_at dksX7_soaked_1 14 rfl rfl)
theorem dX7_soaked_40 : decode cX7_soaked 40 = .ok (.aload_n 0, 1) := dk_42 (dk_at dksX7_soaked_1 17 rfl rfl)
theorem dX7_soaked_41 : decode cX7_soaked 41 = .ok (.invokevirtual 501, 3) := dk_182 1 245 (dk_at dksX7_soaked_1 18 rfl rfl)
theorem dX7_soaked_44 : decode cX7_soaked 44 = .ok (.aload_n 0, 1) := dk_42 (dk_at dksX7_soaked_1 21 rfl rfl)
theorem dX7_soaked_45 : decode cX7_soaked 45 = .ok (.invokevirtual 504, 3) := dk_182 1 248 (dk_at dksX7_soaked_2 0 rfl rfl)
theorem dX7_soaked_48 : decode cX7_soaked 48 = .ok (.lcmp, 1) := dk_148 (dk_at dksX7_soaked_2 3 rfl rfl)
theorem dX7_soaked_49 : decode cX7_soaked 49 = .ok (.ifCond .le 7, 3) := dk_158 0 7 (dk_at dksX7_soaked_2 4 rfl rfl)
theorem dX7_soaked_52 : decode cX7_soaked 52 = .ok (.iconst 1, 1) := dk_4 (dk_at dksX7_soaked_2 7 rfl rfl)
theorem dX7_soaked_53 : decode cX7_soaked 53 = .ok (.goto 4, 3) := dk_167 0 4 (dk_at dksX7_soaked_2 8 rfl rfl)
theorem dX7_soaked_56 : decode cX7_soaked 56 = .ok (.iconst 0, 1) := dk_3 (dk_at dksX7_soaked_2 11 rfl rfl)
theorem dX7_soaked_57 : decode cX7_soaked 57 = .ok (.invokevirtual 50, 3) := dk_182 0 50 (dk_at dksX7_soaked_2 12 rfl rfl)
theorem dX7_soaked_60 : decode cX7_soaked 60 = .ok (.ireturn, 1) := dk_172 (dk_at dksX7_soaked_2 15 rfl rfl)
abbrev cX7_undo : ByteArray := prog_19_method_101_code
def yX7_undo : MethodName := ⟨RX7, "undo", "()Z"⟩
def dkwX7_undo_3 : List UInt8 := [167, 255, 227, 42, 182, 1, 242, 172]
abbrev dktX7_undo_3 : List UInt8 := dkwX7_undo_3 ++ []
def dkwX7_undo_2 : List UInt8 := [180, 0, 31, 27, 42, 180, 0, 34, 16, 7, 42, 180, 1, 84, 104, 27, 96, 47, 80, 132, 1, 1]
abbrev dktX7_undo_2 : List UInt8 := dkwX7_undo_2 ++ dktX7_undo_3
def dkwX7_undo_1 : List UInt8 := [182, 1, 237, 172, 42, 89, 180, 1, 84, 4, 100, 181, 1, 84, 3, 60, 27, 16, 7, 162, 0, 29, 42]
abbrev dktX7_undo_1 : List UInt8 := dkwX7_undo_1 ++ dktX7_undo_2
def dkwX7_undo_0 : List UInt8 := [42, 3, 181, 0, 40, 42, 182, 1, 228, 153, 0, 10, 42, 180, 1, 84, 154, 0, 10, 42, 16, 6]
abbrev dktX7_undo_0 : List UInt8 := dkwX7_undo_0 ++ dktX7_undo_1
theorem dksX7_undo_0 : cX7_undo.data.toList.drop 0 = dktX7_undo_0 := by decide +kernel
theorem dksX7_undo_1 : cX7_undo.data.toList.drop 22 = dktX7_undo_1 := dk_seg dksX7_undo_0 22 rfl rfl
theorem dksX7_undo_2 : cX7_undo.data.toList.drop 45 = dktX7_undo_2 := dk_seg dksX7_undo_1 23 rfl rfl
theorem dksX7_undo_3 : cX7_undo.data.toList.drop 67 = dktX7_undo_3 := dk_seg dksX7_undo_2 22 rfl rfl
theorem dX7_undo_0 : decode cX7_undo 0 = .ok (.aload_n 0, 1) := dk_42 (dk_at dksX7_undo_0 0 rfl rfl)
theorem dX7_undo_1 : decode cX7_undo 1 = .ok (.iconst 0, 1) := dk_3 (dk_at dksX7_undo_0 1 rfl rfl)
theorem dX7_undo_2 : decode cX7_undo 2 = .ok (.putfield 40, 3) := dk_181 0 40 (dk_at dksX7_undo_0 2 rfl rfl)
theorem dX7_undo_5 : decode cX7_undo 5 = .ok (.aload_n 0, 1) := dk_42 (dk_at dksX7_undo_0 5 rfl rfl)
theorem dX7_undo_6 : decode cX7_undo 6 = .ok (.invokevirtual 484, 3) := dk_182 1 228 (dk_at dksX7_undo_0 6 rfl rfl)
theorem dX7_undo_9 : decode cX7_undo 9 = .ok (.ifCond .eq 10, 3) := dk_153 0 10 (dk_at dksX7_undo_0 9 rfl rfl)
theorem dX7_undo_12 : decode cX7_undo 12 = .ok (.aload_n 0, 1) := dk_42 (dk_at dksX7_undo_0 12 rfl rfl)
theorem dX7_undo_13 : decode cX7_undo 13 = .ok (.getfield 340, 3) := dk_180 1 84 (dk_at dksX7_undo_0 13 rfl rfl)
theorem dX7_undo_16 : decode cX7_undo 16 = .ok (.ifCond .ne 10, 3) := dk_154 0 10 (dk_at dksX7_undo_0 16 rfl rfl)
theorem dX7_undo_19 : decode cX7_undo 19 = .ok (.aload_n 0, 1) := dk_42 (dk_at dksX7_undo_0 19 rfl rfl)
theorem dX7_undo_20 : decode cX7_undo 20 = .ok (.bipush 6, 2) := dk_16 6 (dk_at dksX7_undo_0 20 rfl rfl)
theorem dX7_undo_22 : decode cX7_undo 22 = .ok (.invokevirtual 493, 3) := dk_182 1 237 (dk_at dksX7_undo_1 0 rfl rfl)
theorem dX7_undo_25 : decode cX7_undo 25 = .ok (.ireturn, 1) := dk_172 (dk_at dksX7_undo_1 3 rfl rfl)
theorem dX7_undo_26 : decode cX7_undo 26 = .ok (.aload_n 0, 1) := dk_42 (dk_at dksX7_undo_1 4 rfl rfl)
theorem dX7_undo_27 : decode cX7_undo 27 = .ok (.dup, 1) := dk_89 (dk_at dksX7_undo_1 5 rfl rfl)
theorem dX7_undo_28 : decode cX7_undo 28 = .ok (.getfield 340, 3) := dk_180 1 84 (dk_at dksX7_undo_1 6 rfl rfl)
theorem dX7_undo_31 : decode cX7_undo 31 = .ok (.iconst 1, 1) := dk_4 (dk_at dksX7_undo_1 9 rfl rfl)
theorem dX7_undo_32 : decode cX7_undo 32 = .ok (.isub, 1) := dk_100 (dk_at dksX7_undo_1 10 rfl rfl)
theorem dX7_undo_33 : decode cX7_undo 33 = .ok (.putfield 340, 3) := dk_181 1 84 (dk_at dksX7_undo_1 11 rfl rfl)
theorem dX7_undo_36 : decode cX7_undo 36 = .ok (.iconst 0, 1) := dk_3 (dk_at dksX7_undo_1 14 rfl rfl)
theorem dX7_undo_37 : decode cX7_undo 37 = .ok (.istore_n 1, 1) := dk_60 (dk_at dksX7_undo_1 15 rfl rfl)
theorem dX7_undo_38 : decode cX7_undo 38 = .ok (.iload_n 1, 1) := dk_27 (dk_at dksX7_undo_1 16 rfl rfl)
theorem dX7_undo_39 : decode cX7_undo 39 = .ok (.bipush 7, 2) := dk_16 7 (dk_at dksX7_undo_1 17 rfl rfl)
theorem dX7_undo_41 : decode cX7_undo 41 = .ok (.if_icmp .ge 29, 3) := dk_162 0 29 (dk_at dksX7_undo_1 19 rfl rfl)
theorem dX7_undo_44 : decode cX7_undo 44 = .ok (.aload_n 0, 1) := dk_42 (dk_at dksX7_undo_1 22 rfl rfl)
theorem dX7_undo_45 : decode cX7_undo 45 = .ok (.getfield 31, 3) := dk_180 0 31 (dk_at dksX7_undo_2 0 rfl rfl)
theorem dX7_undo_48 : decode cX7_undo 48 = .ok (.iload_n 1, 1) := dk_27 (dk_at dksX7_undo_2 3 rfl rfl)
theorem dX7_undo_49 : decode cX7_undo 49 = .ok (.aload_n 0, 1) := dk_42 (dk_at dksX7_undo_2 4 rfl rfl)
theorem dX7_undo_50 : decode cX7_undo 50 = .ok (.getfield 34, 3) := dk_180 0 34 (dk_at dksX7_undo_2 5 rfl rfl)
theorem dX7_undo_53 : decode cX7_undo 53 = .ok (.bipush 7, 2) := dk_16 7 (dk_at dksX7_undo_2 8 rfl rfl)
theorem dX7_undo_55 : decode cX7_undo 55 = .ok (.aload_n 0, 1) := dk_42 (dk_at dksX7_undo_2 10 rfl rfl)
theorem dX7_undo_56 : decode cX7_undo 56 = .ok (.getfield 340, 3) := dk_180 1 84 (dk_at dksX7_undo_2 11 rfl rfl)
theorem dX7_undo_59 : decode cX7_undo 59 = .ok (.imul, 1) := dk_104 (dk_at dksX7_undo_2 14 rfl rfl)
theorem dX7_undo_60 : decode cX7_undo 60 = .ok (.iload_n 1, 1) := dk_27 (dk_at dksX7_undo_2 15 rfl rfl)
theorem dX7_undo_61 : decode cX7_undo 61 = .ok (.iadd, 1) := dk_96 (dk_at dksX7_undo_2 16 rfl rfl)
theorem dX7_undo_62 : decode cX7_undo 62 = .ok (.laload, 1) := dk_47 (dk_at dksX7_undo_2 17 rfl rfl)
theorem dX7_undo_63 : decode cX7_undo 63 = .ok (.lastore, 1) := dk_80 (dk_at dksX7_undo_2 18 rfl rfl)
theorem dX7_undo_64 : decode cX7_undo 64 = .ok (.iinc 1 1, 3) := dk_132 1 1 (dk_at dksX7_undo_2 19 rfl rfl)
theorem dX7_undo_67 : decode cX7_undo 67 = .ok (.goto (-29), 3) := dk_167 255 227 (dk_at dksX7_undo_3 0 rfl rfl)
theorem dX7_undo_70 : decode cX7_undo 70 = .ok (.aload_n 0, 1) := dk_42 (dk_at dksX7_undo_3 3 rfl rfl)
theorem dX7_undo_71 : decode cX7_undo 71 = .ok (.invokevirtual 498, 3) := dk_182 1 242 (dk_at dksX7_undo_3 4 rfl rfl)
theorem dX7_undo_74 : decode cX7_undo 74 = .ok (.ireturn, 1) := dk_172 (dk_at dksX7_undo_3 7 rfl rfl)
abbrev cX7_mark : ByteArray := prog_19_method_102_code
def yX7_mark : MethodName := ⟨RX7, "mark", "()I"⟩
def dkwX7_mark_3 : List UInt8 := [4, 96, 181, 1, 87, 42, 42, 180, 1, 87, 4, 100, 182, 0, 50, 172]
abbrev dktX7_mark_3 : List UInt8 := dkwX7_mark_3 ++ []
def dkwX7_mark_2 : List UInt8 := [180, 1, 87, 104, 27, 96, 42, 180, 0, 31, 27, 47, 80, 132, 1, 1, 167, 255, 227, 42, 89, 180, 1, 87]
abbrev dktX7_mark_2 : List UInt8 := dkwX7_mark_2 ++ dktX7_mark_3
def dkwX7_mark_1 : List UInt8 := [160, 0, 9, 42, 6, 182, 0, 46, 172, 3, 60, 27, 16, 7, 162, 0, 29, 42, 180, 0, 37, 16, 7, 42]
abbrev dktX7_mark_1 : List UInt8 := dkwX7_mark_1 ++ dktX7_mark_2
def dkwX7_mark_0 : List UInt8 := [42, 3, 181, 0, 40, 42, 182, 1, 228, 154, 0, 9, 42, 4, 182, 0, 46, 172, 42, 180, 1, 87, 6]
abbrev dktX7_mark_0 : List UInt8 := dkwX7_mark_0 ++ dktX7_mark_1
theorem dksX7_mark_0 : cX7_mark.data.toList.drop 0 = dktX7_mark_0 := by decide +kernel
theorem dksX7_mark_1 : cX7_mark.data.toList.drop 23 = dktX7_mark_1 := dk_seg dksX7_mark_0 23 rfl rfl
theorem dksX7_mark_2 : cX7_mark.data.toList.drop 47 = dktX7_mark_2 := dk_seg dksX7_mark_1 24 rfl rfl
theorem dksX7_mark_3 : cX7_mark.data.toList.drop 71 = dktX7_mark_3 := dk_seg dksX7_mark_2 24 rfl rfl
theorem dX7_mark_0 : decode cX7_mark 0 = .ok (.aload_n 0, 1) := dk_42 (dk_at dksX7_mark_0 0 rfl rfl)
theorem dX7_mark_1 : decode cX7_mark 1 = .ok (.iconst 0, 1) := dk_3 (dk_at dksX7_mark_0 1 rfl rfl)
theorem dX7_mark_2 : decode cX7_mark 2 = .ok (.putfield 40, 3) := dk_181 0 40 (dk_at dksX7_mark_0 2 rfl rfl)
theorem dX7_mark_5 : decode cX7_mark 5 = .ok (.aload_n 0, 1) := dk_42 (dk_at dksX7_mark_0 5 rfl rfl)
theorem dX7_mark_6 : decode cX7_mark 6 = .ok (.invokevirtual 484, 3) := dk_182 1 228 (dk_at dksX7_mark_0 6 rfl rfl)
theorem dX7_mark_9 : decode cX7_mark 9 = .ok (.ifCond .ne 9, 3) := dk_154 0 9 (dk_at dksX7_mark_0 9 rfl rfl)
theorem dX7_mark_12 : decode cX7_mark 12 = .ok (.aload_n 0, 1) := dk_42 (dk_at dksX7_mark_0 12 rfl rfl)
theorem dX7_mark_13 : decode cX7_mark 13 = .ok (.iconst 1, 1) := dk_4 (dk_at dksX7_mark_0 13 rfl rfl)
theorem dX7_mark_14 : decode cX7_mark 14 = .ok (.invokevirtual 46, 3) := dk_182 0 46 (dk_at dksX7_mark_0 14 rfl rfl)
theorem dX7_mark_17 : decode cX7_mark 17 = .ok (.ireturn, 1) := dk_172 (dk_at dksX7_mark_0 17 rfl rfl)
theorem dX7_mark_18 : decode cX7_mark 18 = .ok (.aload_n 0, 1) := dk_42 (dk_at dksX7_mark_0 18 rfl rfl)
theorem dX7_mark_19 : decode cX7_mark 19 = .ok (.getfield 343, 3) := dk_180 1 87 (dk_at dksX7_mark_0 19 rfl rfl)
theorem dX7_mark_22 : decode cX7_mark 22 = .ok (.iconst 3, 1) := dk_6 (dk_at dksX7_mark_0 22 rfl rfl)
theorem dX7_mark_23 : decode cX7_mark 23 = .ok (.if_icmp .ne 9, 3) := dk_160 0 9 (dk_at dksX7_mark_1 0 rfl rfl)
theorem dX7_mark_26 : decode cX7_mark 26 = .ok (.aload_n 0, 1) := dk_42 (dk_at dksX7_mark_1 3 rfl rfl)
theorem dX7_mark_27 : decode cX7_mark 27 = .ok (.iconst 3, 1) := dk_6 (dk_at dksX7_mark_1 4 rfl rfl)
theorem dX7_mark_28 : decode cX7_mark 28 = .ok (.invokevirtual 46, 3) := dk_182 0 46 (dk_at dksX7_mark_1 5 rfl rfl)
theorem dX7_mark_31 : decode cX7_mark 31 = .ok (.ireturn, 1) := dk_172 (dk_at dksX7_mark_1 8 rfl rfl)
theorem dX7_mark_32 : decode cX7_mark 32 = .ok (.iconst 0, 1) := dk_3 (dk_at dksX7_mark_1 9 rfl rfl)
theorem dX7_mark_33 : decode cX7_mark 33 = .ok (.istore_n 1, 1) := dk_60 (dk_at dksX7_mark_1 10 rfl rfl)
theorem dX7_mark_34 : decode cX7_mark 34 = .ok (.iload_n 1, 1) := dk_27 (dk_at dksX7_mark_1 11 rfl rfl)
theorem dX7_mark_35 : decode cX7_mark 35 = .ok (.bipush 7, 2) := dk_16 7 (dk_at dksX7_mark_1 12 rfl rfl)
theorem dX7_mark_37 : decode cX7_mark 37 = .ok (.if_icmp .ge 29, 3) := dk_162 0 29 (dk_at dksX7_mark_1 14 rfl rfl)
theorem dX7_mark_40 : decode cX7_mark 40 = .ok (.aload_n 0, 1) := dk_42 (dk_at dksX7_mark_1 17 rfl rfl)
theorem dX7_mark_41 : decode cX7_mark 41 = .ok (.getfield 37, 3) := dk_180 0 37 (dk_at dksX7_mark_1 18 rfl rfl)
theorem dX7_mark_44 : decode cX7_mark 44 = .ok (.bipush 7, 2) := dk_16 7 (dk_at dksX7_mark_1 21 rfl rfl)
theorem dX7_mark_46 : decode cX7_mark 46 = .ok (.aload_n 0, 1) := dk_42 (dk_at dksX7_mark_1 23 rfl rfl)
theorem dX7_mark_47 : decode cX7_mark 47 = .ok (.getfield 343, 3) := dk_180 1 87 (dk_at dksX7_mark_2 0 rfl rfl)
theorem dX7_mark_50 : decode cX7_mark 50 = .ok (.imul, 1) := dk_104 (dk_at dksX7_mark_2 3 rfl rfl)
theorem dX7_mark_51 : decode cX7_mark 51 = .ok (.iload_n 1, 1) := dk_27 (dk_at dksX7_mark_2 4 rfl rfl)
theorem dX7_mark_52 : decode cX7_mark 52 = .ok (.iadd, 1) := dk_96 (dk_at dksX7_mark_2 5 rfl rfl)
theorem dX7_mark_53 : decode cX7_mark 53 = .ok (.aload_n 0, 1) := dk_42 (dk_at dksX7_mark_2 6 rfl rfl)
theorem dX7_mark_54 : decode cX7_mark 54 = .ok (.getfield 31, 3) := dk_180 0 31 (dk_at dksX7_mark_2 7 rfl rfl)
theorem dX7_mark_57 : decode cX7_mark 57 = .ok (.iload_n 1, 1) := dk_27 (dk_at dksX7_mark_2 10 rfl rfl)
theorem dX7_mark_58 : decode cX7_mark 58 = .ok (.laload, 1) := dk_47 (dk_at dksX7_mark_2 11 rfl rfl)
theorem dX7_mark_59 : decode cX7_mark 59 = .ok (.lastore, 1) := dk_80 (dk_at dksX7_mark_2 12 rfl rfl)
theorem dX7_mark_60 : decode cX7_mark 60 = .ok (.iinc 1 1, 3) := dk_132 1 1 (dk_at dksX7_mark_2 13 rfl rfl)
theorem dX7_mark_63 : decode cX7_mark 63 = .ok (.goto (-29), 3) := dk_167 255 227 (dk_at dksX7_mark_2 16 rfl rfl)
theorem dX7_mark_66 : decode cX7_mark 66 = .ok (.aload_n 0, 1) := dk_42 (dk_at dksX7_mark_2 19 rfl rfl)
theorem dX7_mark_67 : decode cX7_mark 67 = .ok (.dup, 1) := dk_89 (dk_at dksX7_mark_2 20 rfl rfl)
theorem dX7_mark_68 : decode cX7_mark 68 = .ok (.getfield 343, 3) := dk_180 1 87 (dk_at dksX7_mark_2 21 rfl rfl)
theorem dX7_mark_71 : decode cX7_mark 71 = .ok (.iconst 1, 1) := dk_4 (dk_at dksX7_mark_3 0 rfl rfl)
theorem dX7_mark_72 : decode cX7_mark 72 = .ok (.iadd, 1) := dk_96 (dk_at dksX7_mark_3 1 rfl rfl)
theorem dX7_mark_73 : decode cX7_mark 73 = .ok (.putfield 343, 3) := dk_181 1 87 (dk_at dksX7_mark_3 2 rfl rfl)
theorem dX7_mark_76 : decode cX7_mark 76 = .ok (.aload_n 0, 1) := dk_42 (dk_at dksX7_mark_3 5 rfl rfl)
theorem dX7_mark_77 : decode cX7_mark 77 = .ok (.aload_n 0, 1) := dk_42 (dk_at dksX7_mark_3 6 rfl rfl)
theorem dX7_mark_78 : decode cX7_mark 78 = .ok (.getfield 343, 3) := dk_180 1 87 (dk_at dksX7_mark_3 7 rfl rfl)
theorem dX7_mark_81 : decode cX7_mark 81 = .ok (.iconst 1, 1) := dk_4 (dk_at dksX7_mark_3 10 rfl rfl)
theorem dX7_mark_82 : decode cX7_mark 82 = .ok (.isub, 1) := dk_100 (dk_at dksX7_mark_3 11 rfl rfl)
theorem dX7_mark_83 : decode cX7_mark 83 = .ok (.invokevirtual 50, 3) := dk_182 0 50 (dk_at dksX7_mark_3 12 rfl rfl)
theorem dX7_mark_86 : decode cX7_mark 86 = .ok (.ireturn, 1) := dk_172 (dk_at dksX7_mark_3 15 rfl rfl)
abbrev cX7_back : ByteArray := prog_19_method_103_code
def yX7_back : MethodName := ⟨RX7, "back", "(I)Z"⟩
def dkwX7_back_2 : List UInt8 := [16, 7, 27, 104, 28, 96, 47, 80, 132, 2, 1, 167, 255, 230, 42, 3, 181, 1, 84, 42, 182, 1, 242, 172]
abbrev dktX7_back_2 : List UInt8 := dkwX7_back_2 ++ []
def dkwX7_back_1 : List UInt8 := [42, 4, 182, 1, 237, 172, 3, 61, 28, 16, 7, 162, 0, 26, 42, 180, 0, 31, 28, 42, 180, 0, 37]
abbrev dktX7_back_1 : List UInt8 := dkwX7_back_1 ++ dktX7_back_2
def dkwX7_back_0 : List UInt8 := [42, 3, 181, 0, 40, 42, 182, 1, 228, 153, 0, 15, 27, 155, 0, 11, 27, 42, 180, 1, 87, 161, 0, 9]
abbrev dktX7_back_0 : List UInt8 := dkwX7_back_0 ++ dktX7_back_1
theorem dksX7_back_0 : cX7_back.data.toList.drop 0 = dktX7_back_0 := by decide +kernel
theorem dksX7_back_1 : cX7_back.data.toList.drop 24 = dktX7_back_1 := dk_seg dksX7_back_0 24 rfl rfl
theorem dksX7_back_2 : cX7_back.data.toList.drop 47 = dktX7_back_2 := dk_seg dksX7_back_1 23 rfl rfl
theorem dX7_back_0 : decode cX7_back 0 = .ok (.aload_n 0, 1) := dk_42 (dk_at dksX7_back_0 0 rfl rfl)
theorem dX7_back_1 : decode cX7_back 1 = .ok (.iconst 0, 1) := dk_3 (dk_at dksX7_back_0 1 rfl rfl)
theorem dX7_back_2 : decode cX7_back 2 = .ok (.putfield 40, 3) := dk_181 0 40 (dk_at dksX7_back_0 2 rfl rfl)
theorem dX7_back_5 : decode cX7_back 5 = .ok (.aload_n 0, 1) := dk_42 (dk_at dksX7_back_0 5 rfl rfl)
theorem dX7_back_6 : decode cX7_back 6 = .ok (.invokevirtual 484, 3) := dk_182 1 228 (dk_at dksX7_back_0 6 rfl rfl)
theorem dX7_back_9 : decode cX7_back 9 = .ok (.ifCond .eq 15, 3) := dk_153 0 15 (dk_at dksX7_back_0 9 rfl rfl)
theorem dX7_back_12 : decode cX7_back 12 = .ok (.iload_n 1, 1) := dk_27 (dk_at dksX7_back_0 12 rfl rfl)
theorem dX7_back_13 : decode cX7_back 13 = .ok (.ifCond .lt 11, 3) := dk_155 0 11 (dk_at dksX7_back_0 13 rfl rfl)
theorem dX7_back_16 : decode cX7_back 16 = .ok (.iload_n 1, 1) := dk_27 (dk_at dksX7_back_0 16 rfl rfl)
theorem dX7_back_17 : decode cX7_back 17 = .ok (.aload_n 0, 1) := dk_42 (dk_at dksX7_back_0 17 rfl rfl)
theorem dX7_back_18 : decode cX7_back 18 = .ok (.getfield 343, 3) := dk_180 1 87 (dk_at dksX7_back_0 18 rfl rfl)
theorem dX7_back_21 : decode cX7_back 21 = .ok (.if_icmp .lt 9, 3) := dk_161 0 9 (dk_at dksX7_back_0 21 rfl rfl)
theorem dX7_back_24 : decode cX7_back 24 = .ok (.aload_n 0, 1) := dk_42 (dk_at dksX7_back_1 0 rfl rfl)
theorem dX7_back_25 : decode cX7_back 25 = .ok (.iconst 1, 1) := dk_4 (dk_at dksX7_back_1 1 rfl rfl)
theorem dX7_back_26 : decode cX7_back 26 = .ok (.invokevirtual 493, 3) := dk_182 1 237 (dk_at dksX7_back_1 2 rfl rfl)
theorem dX7_back_29 : decode cX7_back 29 = .ok (.ireturn, 1) := dk_172 (dk_at dksX7_back_1 5 rfl rfl)
theorem dX7_back_30 : decode cX7_back 30 = .ok (.iconst 0, 1) := dk_3 (dk_at dksX7_back_1 6 rfl rfl)
theorem dX7_back_31 : decode cX7_back 31 = .ok (.istore_n 2, 1) := dk_61 (dk_at dksX7_back_1 7 rfl rfl)
theorem dX7_back_32 : decode cX7_back 32 = .ok (.iload_n 2, 1) := dk_28 (dk_at dksX7_back_1 8 rfl rfl)
theorem dX7_back_33 : decode cX7_back 33 = .ok (.bipush 7, 2) := dk_16 7 (dk_at dksX7_back_1 9 rfl rfl)
theorem dX7_back_35 : decode cX7_back 35 = .ok (.if_icmp .ge 26, 3) := dk_162 0 26 (dk_at dksX7_back_1 11 rfl rfl)
theorem dX7_back_38 : decode cX7_back 38 = .ok (.aload_n 0, 1) := dk_42 (dk_at dksX7_back_1 14 rfl rfl)
theorem dX7_back_39 : decode cX7_back 39 = .ok (.getfield 31, 3) := dk_180 0 31 (dk_at dksX7_back_1 15 rfl rfl)
theorem dX7_back_42 : decode cX7_back 42 = .ok (.iload_n 2, 1) := dk_28 (dk_at dksX7_back_1 18 rfl rfl)
theorem dX7_back_43 : decode cX7_back 43 = .ok (.aload_n 0, 1) := dk_42 (dk_at dksX7_back_1 19 rfl rfl)
theorem dX7_back_44 : decode cX7_back 44 = .ok (.getfield 37, 3) := dk_180 0 37 (dk_at dksX7_back_1 20 rfl rfl)
theorem dX7_back_47 : decode cX7_back 47 = .ok (.bipush 7, 2) := dk_16 7 (dk_at dksX7_back_2 0 rfl rfl)
theorem dX7_back_49 : decode cX7_back 49 = .ok (.iload_n 1, 1) := dk_27 (dk_at dksX7_back_2 2 rfl rfl)
theorem dX7_back_50 : decode cX7_back 50 = .ok (.imul, 1) := dk_104 (dk_at dksX7_back_2 3 rfl rfl)
theorem dX7_back_51 : decode cX7_back 51 = .ok (.iload_n 2, 1) := dk_28 (dk_at dksX7_back_2 4 rfl rfl)
theorem dX7_back_52 : decode cX7_back 52 = .ok (.iadd, 1) := dk_96 (dk_at dksX7_back_2 5 rfl rfl)
theorem dX7_back_53 : decode cX7_back 53 = .ok (.laload, 1) := dk_47 (dk_at dksX7_back_2 6 rfl rfl)
theorem dX7_back_54 : decode cX7_back 54 = .ok (.lastore, 1) := dk_80 (dk_at dksX7_back_2 7 rfl rfl)
theorem dX7_back_55 : decode cX7_back 55 = .ok (.iinc 2 1, 3) := dk_132 2 1 (dk_at dksX7_back_2 8 rfl rfl)
theorem dX7_back_58 : decode cX7_back 58 = .ok (.goto (-26), 3) := dk_167 255 230 (dk_at dksX7_back_2 11 rfl rfl)
theorem dX7_back_61 : decode cX7_back 61 = .ok (.aload_n 0, 1) := dk_42 (dk_at dksX7_back_2 14 rfl rfl)
theorem dX7_back_62 : decode cX7_back 62 = .ok (.iconst 0, 1) := dk_3 (dk_at dksX7_back_2 15 rfl rfl)
theorem dX7_back_63 : decode cX7_back 63 = .ok (.putfield 340, 3) := dk_181 1 84 (dk_at dksX7_back_2 16 rfl rfl)
theorem dX7_back_66 : decode cX7_back 66 = .ok (.aload_n 0, 1) := dk_42 (dk_at dksX7_back_2 19 rfl rfl)
theorem dX7_back_67 : decode cX7_back 67 = .ok (.invokevirtual 498, 3) := dk_182 1 242 (dk_at dksX7_back_2 20 rfl rfl)
theorem dX7_back_70 : decode cX7_back 70 = .ok (.ireturn, 1) := dk_172 (dk_at dksX7_back_2 23 rfl rfl)
abbrev cX7_walker : ByteArray := prog_19_method_104_code
def yX7_walker : MethodName := ⟨RX7, "walker", "(II)I"⟩
def dkwX7_walker_7 : List UInt8 := [182, 0, 50, 172]
abbrev dktX7_walker_7 : List UInt8 := dkwX7_walker_7 ++ []
def dkwX7_walker_6 : List UInt8 := [42, 180, 1, 82, 180, 1, 61, 27, 46, 182, 0, 50, 172, 42, 42, 180, 1, 82, 180, 1, 64, 27, 46]
abbrev dktX7_walker_6 : List UInt8 := dkwX7_walker_6 ++ dktX7_walker_7
def dkwX7_walker_5 : List UInt8 := [180, 1, 55, 27, 46, 182, 0, 50, 172, 42, 42, 180, 1, 82, 180, 1, 58, 27, 46, 182, 0, 50, 172, 42]
abbrev dktX7_walker_5 : List UInt8 := dkwX7_walker_5 ++ dktX7_walker_6
def dkwX7_walker_4 : List UInt8 := [182, 0, 50, 172, 42, 42, 180, 1, 82, 180, 1, 52, 27, 46, 182, 0, 50, 172, 42, 42, 180, 1, 82]
abbrev dktX7_walker_4 : List UInt8 := dkwX7_walker_4 ++ dktX7_walker_5
def dkwX7_walker_3 : List UInt8 := [42, 42, 180, 1, 82, 180, 1, 46, 27, 46, 182, 0, 50, 172, 42, 42, 180, 1, 82, 180, 1, 49, 27, 46]
abbrev dktX7_walker_3 : List UInt8 := dkwX7_walker_3 ++ dktX7_walker_4
def dkwX7_walker_2 : List UInt8 := [170, 0, 0, 0, 0, 122, 0, 0, 0, 0, 0, 0, 0, 5, 0, 0, 0, 38, 0, 0, 0, 52, 0, 0, 0, 66, 0, 0, 0, 80, 0, 0, 0, 94, 0, 0, 0, 108]
abbrev dktX7_walker_2 : List UInt8 := dkwX7_walker_2 ++ dktX7_walker_3
def dkwX7_walker_1 : List UInt8 := [4, 182, 0, 46, 172, 28]
abbrev dktX7_walker_1 : List UInt8 := dkwX7_walker_1 ++ dktX7_walker_2
def dkwX7_walker_0 : List UInt8 := [42, 3, 181, 0, 40, 42, 27, 182, 1, 90, 153, 0, 13, 28, 3, 16, 6, 184, 0, 118, 154, 0, 9, 42]
abbrev dktX7_walker_0 : List UInt8 := dkwX7_walker_0 ++ dktX7_walker_1
theorem dksX7_walker_0 : cX7_walker.data.toList.drop 0 = dktX7_walker_0 := by decide +kernel
theorem dksX7_walker_1 : cX7_walker.data.toList.drop 24 = dktX7_walker_1 := dk_seg dksX7_walker_0 24 rfl rfl
theorem dksX7_walker_2 : cX7_walker.data.toList.drop 30 = dktX7_walker_2 := dk_seg dksX7_walker_1 6 rfl rfl
theorem dksX7_walker_3 : cX7_walker.data.toList.drop 68 = dktX7_walker_3 := dk_seg dksX7_walker_2 38 rfl rfl
theorem dksX7_walker_4 : cX7_walker.data.toList.drop 92 = dktX7_walker_4 := dk_seg dksX7_walker_3 24 rfl rfl
theorem dksX7_walker_5 : cX7_walker.data.toList.drop 115 = dktX7_walker_5 := dk_seg dksX7_walker_4 23 rfl rfl
theorem dksX7_walker_6 : cX7_walker.data.toList.drop 139 = dktX7_walker_6 := dk_seg dksX7_walker_5 24 rfl rfl
theorem dksX7_walker_7 : cX7_walker.data.toList.drop 162 = dktX7_walker_7 := dk_seg dksX7_walker_6 23 rfl rfl
theorem dX7_walker_0 : decode cX7_walker 0 = .ok (.aload_n 0, 1) := dk_42 (dk_at dksX7_walker_0 0 rfl rfl)
theorem dX7_walker_1 : decode cX7_walker 1 = .ok (.iconst 0, 1) := dk_3 (dk_at dksX7_walker_0 1 rfl rfl)
theorem dX7_walker_2 : decode cX7_walker 2 = .ok (.putfield 40, 3) := dk_181 0 40 (dk_at dksX7_walker_0 2 rfl rfl)
theorem dX7_walker_5 : decode cX7_walker 5 = .ok (.aload_n 0, 1) := dk_42 (dk_at dksX7_walker_0 5 rfl rfl)
theorem dX7_walker_6 : decode cX7_walker 6 = .ok (.iload_n 1, 1) := dk_27 (dk_at dksX7_walker_0 6 rfl rfl)
theorem dX7_walker_7 : decode cX7_walker 7 = .ok (.invokevirtual 346, 3) := dk_182 1 90 (dk_at dksX7_walker_0 7 rfl rfl)
theorem dX7_walker_10 : decode cX7_walker 10 = .ok (.ifCond .eq 13, 3) := dk_153 0 13 (dk_at dksX7_walker_0 10 rfl rfl)
theorem dX7_walker_13 : decode cX7_walker 13 = .ok (.iload_n 2, 1) := dk_28 (dk_at dksX7_walker_0 13 rfl rfl)
theorem dX7_walker_14 : decode cX7_walker 14 = .ok (.iconst 0, 1) := dk_3 (dk_at dksX7_walker_0 14 rfl rfl)
theorem dX7_walker_15 : decode cX7_walker 15 = .ok (.bipush 6, 2) := dk_16 6 (dk_at dksX7_walker_0 15 rfl rfl)
theorem dX7_walker_17 : decode cX7_walker 17 = .ok (.invokestatic 118, 3) := dk_184 0 118 (dk_at dksX7_walker_0 17 rfl rfl)
theorem dX7_walker_20 : decode cX7_walker 20 = .ok (.ifCond .ne 9, 3) := dk_154 0 9 (dk_at dksX7_walker_0 20 rfl rfl)
theorem dX7_walker_23 : decode cX7_walker 23 = .ok (.aload_n 0, 1) := dk_42 (dk_at dksX7_walker_0 23 rfl rfl)
theorem dX7_walker_24 : decode cX7_walker 24 = .ok (.iconst 1, 1) := dk_4 (dk_at dksX7_walker_1 0 rfl rfl)
theorem dX7_walker_25 : decode cX7_walker 25 = .ok (.invokevirtual 46, 3) := dk_182 0 46 (dk_at dksX7_walker_1 1 rfl rfl)
theorem dX7_walker_28 : decode cX7_walker 28 = .ok (.ireturn, 1) := dk_172 (dk_at dksX7_walker_1 4 rfl rfl)
theorem dX7_walker_29 : decode cX7_walker 29 = .ok (.iload_n 2, 1) := dk_28 (dk_at dksX7_walker_1 5 rfl rfl)
theorem dX7_walker_30 : decode cX7_walker 30 = .ok (.tableswitch 122 0 5 #[38, 52, 66, 80, 94, 108], 38) := by decide +kernel
theorem dX7_walker_68 : decode cX7_walker 68 = .ok (.aload_n 0, 1) := dk_42 (dk_at dksX7_walker_3 0 rfl rfl)
theorem dX7_walker_69 : decode cX7_walker 69 = .ok (.aload_n 0, 1) := dk_42 (dk_at dksX7_walker_3 1 rfl rfl)
theorem dX7_walker_70 : decode cX7_walker 70 = .ok (.getfield 338, 3) := dk_180 1 82 (dk_at dksX7_walker_3 2 rfl rfl)
theorem dX7_walker_73 : decode cX7_walker 73 = .ok (.getfield 302, 3) := dk_180 1 46 (dk_at dksX7_walker_3 5 rfl rfl)
theorem dX7_walker_76 : decode cX7_walker 76 = .ok (.iload_n 1, 1) := dk_27 (dk_at dksX7_walker_3 8 rfl rfl)
theorem dX7_walker_77 : decode cX7_walker 77 = .ok (.iaload, 1) := dk_46 (dk_at dksX7_walker_3 9 rfl rfl)
theorem dX7_walker_78 : decode cX7_walker 78 = .ok (.invokevirtual 50, 3) := dk_182 0 50 (dk_at dksX7_walker_3 10 rfl rfl)
theorem dX7_walker_81 : decode cX7_walker 81 = .ok (.ireturn, 1) := dk_172 (dk_at dksX7_walker_3 13 rfl rfl)
theorem dX7_walker_82 : decode cX7_walker 82 = .ok (.aload_n 0, 1) := dk_42 (dk_at dksX7_walker_3 14 rfl rfl)
theorem dX7_walker_83 : decode cX7_walker 83 = .ok (.aload_n 0, 1) := dk_42 (dk_at dksX7_walker_3 15 rfl rfl)
theorem dX7_walker_84 : decode cX7_walker 84 = .ok (.getfield 338, 3) := dk_180 1 82 (dk_at dksX7_walker_3 16 rfl rfl)
theorem dX7_walker_87 : decode cX7_walker 87 = .ok (.getfield 305, 3) := dk_180 1 49 (dk_at dksX7_walker_3 19 rfl rfl)
theorem dX7_walker_90 : decode cX7_walker 90 = .ok (.iload_n 1, 1) := dk_27 (dk_at dksX7_walker_3 22 rfl rfl)
theorem dX7_walker_91 : decode cX7_walker 91 = .ok (.iaload, 1) := dk_46 (dk_at dksX7_walker_3 23 rfl rfl)
theorem dX7_walker_92 : decode cX7_walker 92 = .ok (.invokevirtual 50, 3) := dk_182 0 50 (dk_at dksX7_walker_4 0 rfl rfl)
theorem dX7_walker_95 : decode cX7_walker 95 = .ok (.ireturn, 1) := dk_172 (dk_at dksX7_walker_4 3 rfl rfl)
theorem dX7_walker_96 : decode cX7_walker 96 = .ok (.aload_n 0, 1) := dk_42 (dk_at dksX7_walker_4 4 rfl rfl)
theorem dX7_walker_97 : decode cX7_walker 97 = .ok (.aload_n 0, 1) := dk_42 (dk_at dksX7_walker_4 5 rfl rfl)
theorem dX7_walker_98 : decode cX7_walker 98 = .ok (.getfield 338, 3) := dk_180 1 82 (dk_at dksX7_walker_4 6 rfl rfl)
theorem dX7_walker_101 : decode cX7_walker 101 = .ok (.getfield 308, 3) := dk_180 1 52 (dk_at dksX7_walker_4 9 rfl rfl)
theorem dX7_walker_104 : decode cX7_walker 104 = .ok (.iload_n 1, 1) := dk_27 (dk_at dksX7_walker_4 12 rfl rfl)
theorem dX7_walker_105 : decode cX7_walker 105 = .ok (.iaload, 1) := dk_46 (dk_at dksX7_walker_4 13 rfl rfl)
theorem dX7_walker_106 : decode cX7_walker 106 = .ok (.invokevirtual 50, 3) := dk_182 0 50 (dk_at dksX7_walker_4 14 rfl rfl)
theorem dX7_walker_109 : decode cX7_walker 109 = .ok (.ireturn, 1) := dk_172 (dk_at dksX7_walker_4 17 rfl rfl)
theorem dX7_walker_110 : decode cX7_walker 110 = .ok (.aload_n 0, 1) := dk_42 (dk_at dksX7_walker_4 18 rfl rfl)
theorem dX7_walker_111 : decode cX7_walker 111 = .ok (.aload_n 0, 1) := dk_42 (dk_at dksX7_walker_4 19 rfl rfl)
theorem dX7_walker_112 : decode cX7_walker 112 = .ok (.getfield 338, 3) := dk_180 1 82 (dk_at dksX7_walker_4 20 rfl rfl)
theorem dX7_walker_115 : decode cX7_walker 115 = .ok (.getfield 311, 3) := dk_180 1 55 (dk_at dksX7_walker_5 0 rfl rfl)
theorem dX7_walker_118 : decode cX7_walker 118 = .ok (.iload_n 1, 1) := dk_27 (dk_at dksX7_walker_5 3 rfl rfl)
theorem dX7_walker_119 : decode cX7_walker 119 = .ok (.iaload, 1) := dk_46 (dk_at dksX7_walker_5 4 rfl rfl)
theorem dX7_walker_120 : decode cX7_walker 120 = .ok (.invokevirtual 50, 3) := dk_182 0 50 (dk_at dksX7_walker_5 5 rfl rfl)
theorem dX7_walker_123 : decode cX7_walker 123 = .ok (.ireturn, 1) := dk_172 (dk_at dksX7_walker_5 8 rfl rfl)
theorem dX7_walker_124 : decode cX7_walker 124 = .ok (.aload_n 0, 1) := dk_42 (dk_at dksX7_walker_5 9 rfl rfl)
theorem dX7_walker_125 : decode cX7_walker 125 = .ok (.aload_n 0, 1) := dk_42 (dk_at dksX7_walker_5 10 rfl rfl)
theorem dX7_walker_126 : decode cX7_walker 126 = .ok (.getfield 338, 3) := dk_180 1 82 (dk_at dksX7_walker_5 11 rfl rfl)
theorem dX7_walker_129 : decode cX7_walker 129 = .ok (.getfield 314, 3) := dk_180 1 58 (dk_at dksX7_walker_5 14 rfl rfl)
theorem dX7_walker_132 : decode cX7_walker 132 = .ok (.iload_n 1, 1) := dk_27 (dk_at dksX7_walker_5 17 rfl rfl)
theorem dX7_walker_133 : decode cX7_walker 133 = .ok (.iaload, 1) := dk_46 (dk_at dksX7_walker_5 18 rfl rfl)
theorem dX7_walker_134 : decode cX7_walker 134 = .ok (.invokevirtual 50, 3) := dk_182 0 50 (dk_at dksX7_walker_5 19 rfl rfl)
theorem dX7_walker_137 : decode cX7_walker 137 = .ok (.ireturn, 1) := dk_172 (dk_at dksX7_walker_5 22 rfl rfl)
theorem dX7_walker_138 : decode cX7_walker 138 = .ok (.aload_n 0, 1) := dk_42 (dk_at dksX7_walker_5 23 rfl rfl)
theorem dX7_walker_139 : decode cX7_walker 139 = .ok (.aload_n 0, 1) := dk_42 (dk_at dksX7_walker_6 0 rfl rfl)
theorem dX7_walker_140 : decode cX7_walker 140 = .ok (.getfield 338, 3) := dk_180 1 82 (dk_at dksX7_walker_6 1 rfl rfl)
theorem dX7_walker_143 : decode cX7_walker 143 = .ok (.getfield 317, 3) := dk_180 1 61 (dk_at dksX7_walker_6 4 rfl rfl)
theorem dX7_walker_146 : decode cX7_walker 146 = .ok (.iload_n 1, 1) := dk_27 (dk_at dksX7_walker_6 7 rfl rfl)
theorem dX7_walker_147 : decode cX7_walker 147 = .ok (.iaload, 1) := dk_46 (dk_at dksX7_walker_6 8 rfl rfl)
theorem dX7_walker_148 : decode cX7_walker 148 = .ok (.invokevirtual 50, 3) := dk_182 0 50 (dk_at dksX7_walker_6 9 rfl rfl)
theorem dX7_walker_151 : decode cX7_walker 151 = .ok (.ireturn, 1) := dk_172 (dk_at dksX7_walker_6 12 rfl rfl)
theorem dX7_walker_152 : decode cX7_walker 152 = .ok (.aload_n 0, 1) := dk_42 (dk_at dksX7_walker_6 13 rfl rfl)
theorem dX7_walker_153 : decode cX7_walker 153 = .ok (.aload_n 0, 1) := dk_42 (dk_at dksX7_walker_6 14 rfl rfl)
theorem dX7_walker_154 : decode cX7_walker 154 = .ok (.getfield 338, 3) := dk_180 1 82 (dk_at dksX7_walker_6 15 rfl rfl)
theorem dX7_walker_157 : decode cX7_walker 157 = .ok (.getfield 320, 3) := dk_180 1 64 (dk_at dksX7_walker_6 18 rfl rfl)
theorem dX7_walker_160 : decode cX7_walker 160 = .ok (.iload_n 1, 1) := dk_27 (dk_at dksX7_walker_6 21 rfl rfl)
theorem dX7_walker_161 : decode cX7_walker 161 = .ok (.iaload, 1) := dk_46 (dk_at dksX7_walker_6 22 rfl rfl)
theorem dX7_walker_162 : decode cX7_walker 162 = .ok (.invokevirtual 50, 3) := dk_182 0 50 (dk_at dksX7_walker_7 0 rfl rfl)
theorem dX7_walker_165 : decode cX7_walker 165 = .ok (.ireturn, 1) := dk_172 (dk_at dksX7_walker_7 3 rfl rfl)
abbrev cX7_road : ByteArray := prog_19_method_105_code
def yX7_road : MethodName := ⟨RX7, "road", "(II)I"⟩
def dkwX7_road_5 : List UInt8 := [180, 1, 23, 27, 46, 182, 0, 50, 172, 42, 42, 180, 1, 82, 180, 1, 26, 27, 46, 182, 0, 50, 172]
abbrev dktX7_road_5 : List UInt8 := dkwX7_road_5 ++ []
def dkwX7_road_4 : List UInt8 := [182, 0, 50, 172, 42, 42, 180, 1, 82, 180, 1, 20, 27, 46, 182, 0, 50, 172, 42, 42, 180, 1, 82]
abbrev dktX7_road_4 : List UInt8 := dkwX7_road_4 ++ dktX7_road_5
def dkwX7_road_3 : List UInt8 := [42, 42, 180, 1, 82, 180, 1, 14, 27, 46, 182, 0, 50, 172, 42, 42, 180, 1, 82, 180, 1, 17, 27, 46]
abbrev dktX7_road_3 : List UInt8 := dkwX7_road_3 ++ dktX7_road_4
def dkwX7_road_2 : List UInt8 := [170, 0, 0, 0, 0, 0, 87, 0, 0, 0, 0, 0, 0, 0, 3, 0, 0, 0, 31, 0, 0, 0, 45, 0, 0, 0, 59, 0, 0, 0, 73]
abbrev dktX7_road_2 : List UInt8 := dkwX7_road_2 ++ dktX7_road_3
def dkwX7_road_1 : List UInt8 := [182, 0, 46, 172, 28]
abbrev dktX7_road_1 : List UInt8 := dkwX7_road_1 ++ dktX7_road_2
def dkwX7_road_0 : List UInt8 := [42, 3, 181, 0, 40, 42, 27, 182, 1, 93, 153, 0, 12, 28, 3, 7, 184, 0, 118, 154, 0, 9, 42, 4]
abbrev dktX7_road_0 : List UInt8 := dkwX7_road_0 ++ dktX7_road_1
theorem dksX7_road_0 : cX7_road.data.toList.drop 0 = dktX7_road_0 := by decide +kernel
theorem dksX7_road_1 : cX7_road.data.toList.drop 24 = dktX7_road_1 := dk_seg dksX7_road_0 24 rfl rfl
theorem dksX7_road_2 : cX7_road.data.toList.drop 29 = dktX7_road_2 := dk_seg dksX7_road_1 5 rfl rfl
theorem dksX7_road_3 : cX7_road.data.toList.drop 60 = dktX7_road_3 := dk_seg dksX7_road_2 31 rfl rfl
theorem dksX7_road_4 : cX7_road.data.toList.drop 84 = dktX7_road_4 := dk_seg dksX7_road_3 24 rfl rfl
theorem dksX7_road_5 : cX7_road.data.toList.drop 107 = dktX7_road_5 := dk_seg dksX7_road_4 23 rfl rfl
theorem dX7_road_0 : decode cX7_road 0 = .ok (.aload_n 0, 1) := dk_42 (dk_at dksX7_road_0 0 rfl rfl)
theorem dX7_road_1 : decode cX7_road 1 = .ok (.iconst 0, 1) := dk_3 (dk_at dksX7_road_0 1 rfl rfl)
theorem dX7_road_2 : decode cX7_road 2 = .ok (.putfield 40, 3) := dk_181 0 40 (dk_at dksX7_road_0 2 rfl rfl)
theorem dX7_road_5 : decode cX7_road 5 = .ok (.aload_n 0, 1) := dk_42 (dk_at dksX7_road_0 5 rfl rfl)
theorem dX7_road_6 : decode cX7_road 6 = .ok (.iload_n 1, 1) := dk_27 (dk_at dksX7_road_0 6 rfl rfl)
theorem dX7_road_7 : decode cX7_road 7 = .ok (.invokevirtual 349, 3) := dk_182 1 93 (dk_at dksX7_road_0 7 rfl rfl)
theorem dX7_road_10 : decode cX7_road 10 = .ok (.ifCond .eq 12, 3) := dk_153 0 12 (dk_at dksX7_road_0 10 rfl rfl)
theorem dX7_road_13 : decode cX7_road 13 = .ok (.iload_n 2, 1) := dk_28 (dk_at dksX7_road_0 13 rfl rfl)
theorem dX7_road_14 : decode cX7_road 14 = .ok (.iconst 0, 1) := dk_3 (dk_at dksX7_road_0 14 rfl rfl)
theorem dX7_road_15 : decode cX7_road 15 = .ok (.iconst 4, 1) := dk_7 (dk_at dksX7_road_0 15 rfl rfl)
theorem dX7_road_16 : decode cX7_road 16 = .ok (.invokestatic 118, 3) := dk_184 0 118 (dk_at dksX7_road_0 16 rfl rfl)
theorem dX7_road_19 : decode cX7_road 19 = .ok (.ifCond .ne 9, 3) := dk_154 0 9 (dk_at dksX7_road_0 19 rfl rfl)
theorem dX7_road_22 : decode cX7_road 22 = .ok (.aload_n 0, 1) := dk_42 (dk_at dksX7_road_0 22 rfl rfl)
theorem dX7_road_23 : decode cX7_road 23 = .ok (.iconst 1, 1) := dk_4 (dk_at dksX7_road_0 23 rfl rfl)
theorem dX7_road_24 : decode cX7_road 24 = .ok (.invokevirtual 46, 3) := dk_182 0 46 (dk_at dksX7_road_1 0 rfl rfl)
theorem dX7_road_27 : decode cX7_road 27 = .ok (.ireturn, 1) := dk_172 (dk_at dksX7_road_1 3 rfl rfl)
theorem dX7_road_28 : decode cX7_road 28 = .ok (.iload_n 2, 1) := dk_28 (dk_at dksX7_road_1 4 rfl rfl)
theorem dX7_road_29 : decode cX7_road 29 = .ok (.tableswitch 87 0 3 #[31, 45, 59, 73], 31) := by decide +kernel
theorem dX7_road_60 : decode cX7_road 60 = .ok (.aload_n 0, 1) := dk_42 (dk_at dksX7_road_3 0 rfl rfl)
theorem dX7_road_61 : decode cX7_road 61 = .ok (.aload_n 0, 1) := dk_42 (dk_at dksX7_road_3 1 rfl rfl)
theorem dX7_road_62 : decode cX7_road 62 = .ok (.getfield 338, 3) := dk_180 1 82 (dk_at dksX7_road_3 2 rfl rfl)
theorem dX7_road_65 : decode cX7_road 65 = .ok (.getfield 270, 3) := dk_180 1 14 (dk_at dksX7_road_3 5 rfl rfl)
theorem dX7_road_68 : decode cX7_road 68 = .ok (.iload_n 1, 1) := dk_27 (dk_at dksX7_road_3 8 rfl rfl)
theorem dX7_road_69 : decode cX7_road 69 = .ok (.iaload, 1) := dk_46 (dk_at dksX7_road_3 9 rfl rfl)
theorem dX7_road_70 : decode cX7_road 70 = .ok (.invokevirtual 50, 3) := dk_182 0 50 (dk_at dksX7_road_3 10 rfl rfl)
theorem dX7_road_73 : decode cX7_road 73 = .ok (.ireturn, 1) := dk_172 (dk_at dksX7_road_3 13 rfl rfl)
theorem dX7_road_74 : decode cX7_road 74 = .ok (.aload_n 0, 1) := dk_42 (dk_at dksX7_road_3 14 rfl rfl)
theorem dX7_road_75 : decode cX7_road 75 = .ok (.aload_n 0, 1) := dk_42 (dk_at dksX7_road_3 15 rfl rfl)
theorem dX7_road_76 : decode cX7_road 76 = .ok (.getfield 338, 3) := dk_180 1 82 (dk_at dksX7_road_3 16 rfl rfl)
theorem dX7_road_79 : decode cX7_road 79 = .ok (.getfield 273, 3) := dk_180 1 17 (dk_at dksX7_road_3 19 rfl rfl)
theorem dX7_road_82 : decode cX7_road 82 = .ok (.iload_n 1, 1) := dk_27 (dk_at dksX7_road_3 22 rfl rfl)
theorem dX7_road_83 : decode cX7_road 83 = .ok (.iaload, 1) := dk_46 (dk_at dksX7_road_3 23 rfl rfl)
theorem dX7_road_84 : decode cX7_road 84 = .ok (.invokevirtual 50, 3) := dk_182 0 50 (dk_at dksX7_road_4 0 rfl rfl)
theorem dX7_road_87 : decode cX7_road 87 = .ok (.ireturn, 1) := dk_172 (dk_at dksX7_road_4 3 rfl rfl)
theorem dX7_road_88 : decode cX7_road 88 = .ok (.aload_n 0, 1) := dk_42 (dk_at dksX7_road_4 4 rfl rfl)
theorem dX7_road_89 : decode cX7_road 89 = .ok (.aload_n 0, 1) := dk_42 (dk_at dksX7_road_4 5 rfl rfl)
theorem dX7_road_90 : decode cX7_road 90 = .ok (.getfield 338, 3) := dk_180 1 82 (dk_at dksX7_road_4 6 rfl rfl)
theorem dX7_road_93 : decode cX7_road 93 = .ok (.getfield 276, 3) := dk_180 1 20 (dk_at dksX7_road_4 9 rfl rfl)
theorem dX7_road_96 : decode cX7_road 96 = .ok (.iload_n 1, 1) := dk_27 (dk_at dksX7_road_4 12 rfl rfl)
theorem dX7_road_97 : decode cX7_road 97 = .ok (.iaload, 1) := dk_46 (dk_at dksX7_road_4 13 rfl rfl)
theorem dX7_road_98 : decode cX7_road 98 = .ok (.invokevirtual 50, 3) := dk_182 0 50 (dk_at dksX7_road_4 14 rfl rfl)
theorem dX7_road_101 : decode cX7_road 101 = .ok (.ireturn, 1) := dk_172 (dk_at dksX7_road_4 17 rfl rfl)
theorem dX7_road_102 : decode cX7_road 102 = .ok (.aload_n 0, 1) := dk_42 (dk_at dksX7_road_4 18 rfl rfl)
theorem dX7_road_103 : decode cX7_road 103 = .ok (.aload_n 0, 1) := dk_42 (dk_at dksX7_road_4 19 rfl rfl)
theorem dX7_road_104 : decode cX7_road 104 = .ok (.getfield 338, 3) := dk_180 1 82 (dk_at dksX7_road_4 20 rfl rfl)
theorem dX7_road_107 : decode cX7_road 107 = .ok (.getfield 279, 3) := dk_180 1 23 (dk_at dksX7_road_5 0 rfl rfl)
theorem dX7_road_110 : decode cX7_road 110 = .ok (.iload_n 1, 1) := dk_27 (dk_at dksX7_road_5 3 rfl rfl)
theorem dX7_road_111 : decode cX7_road 111 = .ok (.iaload, 1) := dk_46 (dk_at dksX7_road_5 4 rfl rfl)
theorem dX7_road_112 : decode cX7_road 112 = .ok (.invokevirtual 50, 3) := dk_182 0 50 (dk_at dksX7_road_5 5 rfl rfl)
theorem dX7_road_115 : decode cX7_road 115 = .ok (.ireturn, 1) := dk_172 (dk_at dksX7_road_5 8 rfl rfl)
theorem dX7_road_116 : decode cX7_road 116 = .ok (.aload_n 0, 1) := dk_42 (dk_at dksX7_road_5 9 rfl rfl)
theorem dX7_road_117 : decode cX7_road 117 = .ok (.aload_n 0, 1) := dk_42 (dk_at dksX7_road_5 10 rfl rfl)
theorem dX7_road_118 : decode cX7_road 118 = .ok (.getfield 338, 3) := dk_180 1 82 (dk_at dksX7_road_5 11 rfl rfl)
theorem dX7_road_121 : decode cX7_road 121 = .ok (.getfield 282, 3) := dk_180 1 26 (dk_at dksX7_road_5 14 rfl rfl)
theorem dX7_road_124 : decode cX7_road 124 = .ok (.iload_n 1, 1) := dk_27 (dk_at dksX7_road_5 17 rfl rfl)
theorem dX7_road_125 : decode cX7_road 125 = .ok (.iaload, 1) := dk_46 (dk_at dksX7_road_5 18 rfl rfl)
theorem dX7_road_126 : decode cX7_road 126 = .ok (.invokevirtual 50, 3) := dk_182 0 50 (dk_at dksX7_road_5 19 rfl rfl)
theorem dX7_road_129 : decode cX7_road 129 = .ok (.ireturn, 1) := dk_172 (dk_at dksX7_road_5 22 rfl rfl)
abbrev cX7_led : ByteArray := prog_19_method_106_code
def yX7_led : MethodName := ⟨RX7, "led", "(I)I"⟩
def dkwX7_led_3 : List UInt8 := [160, 0, 5, 29, 172, 132, 2, 1, 132, 3, 1, 167, 255, 182, 42, 4, 181, 0, 40, 3, 172]
abbrev dktX7_led_3 : List UInt8 := dkwX7_led_3 ++ []
def dkwX7_led_2 : List UInt8 := [180, 1, 82, 180, 1, 17, 29, 46, 133, 42, 180, 0, 31, 3, 47, 148, 153, 0, 6, 167, 0, 13, 28, 27]
abbrev dktX7_led_2 : List UInt8 := dkwX7_led_2 ++ dktX7_led_3
def dkwX7_led_1 : List UInt8 := [162, 0, 62, 42, 180, 1, 82, 180, 1, 14, 29, 46, 133, 42, 180, 0, 31, 3, 47, 148, 153, 0, 26, 42]
abbrev dktX7_led_1 : List UInt8 := dkwX7_led_1 ++ dktX7_led_2
def dkwX7_led_0 : List UInt8 := [42, 3, 181, 0, 40, 3, 61, 3, 62, 42, 182, 1, 228, 153, 0, 73, 29, 42, 180, 1, 82, 180, 1, 8]
abbrev dktX7_led_0 : List UInt8 := dkwX7_led_0 ++ dktX7_led_1
theorem dksX7_led_0 : cX7_led.data.toList.drop 0 = dktX7_led_0 := by decide +kernel
theorem dksX7_led_1 : cX7_led.data.toList.drop 24 = dktX7_led_1 := dk_seg dksX7_led_0 24 rfl rfl
theorem dksX7_led_2 : cX7_led.data.toList.drop 48 = dktX7_led_2 := dk_seg dksX7_led_1 24 rfl rfl
theorem dksX7_led_3 : cX7_led.data.toList.drop 72 = dktX7_led_3 := dk_seg dksX7_led_2 24 rfl rfl
theorem dX7_led_0 : decode cX7_led 0 = .ok (.aload_n 0, 1) := dk_42 (dk_at dksX7_led_0 0 rfl rfl)
theorem dX7_led_1 : decode cX7_led 1 = .ok (.iconst 0, 1) := dk_3 (dk_at dksX7_led_0 1 rfl rfl)
theorem dX7_led_2 : decode cX7_led 2 = .ok (.putfield 40, 3) := dk_181 0 40 (dk_at dksX7_led_0 2 rfl rfl)
theorem dX7_led_5 : decode cX7_led 5 = .ok (.iconst 0, 1) := dk_3 (dk_at dksX7_led_0 5 rfl rfl)
theorem dX7_led_6 : decode cX7_led 6 = .ok (.istore_n 2, 1) := dk_61 (dk_at dksX7_led_0 6 rfl rfl)
theorem dX7_led_7 : decode cX7_led 7 = .ok (.iconst 0, 1) := dk_3 (dk_at dksX7_led_0 7 rfl rfl)
theorem dX7_led_8 : decode cX7_led 8 = .ok (.istore_n 3, 1) := dk_62 (dk_at dksX7_led_0 8 rfl rfl)
theorem dX7_led_9 : decode cX7_led 9 = .ok (.aload_n 0, 1) := dk_42 (dk_at dksX7_led_0 9 rfl rfl)
theorem dX7_led_10 : decode cX7_led 10 = .ok (.invokevirtual 484, 3) := dk_182 1 228 (dk_at dksX7_led_0 10 rfl rfl)
theorem dX7_led_13 : decode cX7_led 13 = .ok (.ifCond .eq 73, 3) := dk_153 0 73 (dk_at dksX7_led_0 13 rfl rfl)
theorem dX7_led_16 : decode cX7_led 16 = .ok (.iload_n 3, 1) := dk_29 (dk_at dksX7_led_0 16 rfl rfl)
theorem dX7_led_17 : decode cX7_led 17 = .ok (.aload_n 0, 1) := dk_42 (dk_at dksX7_led_0 17 rfl rfl)
theorem dX7_led_18 : decode cX7_led 18 = .ok (.getfield 338, 3) := dk_180 1 82 (dk_at dksX7_led_0 18 rfl rfl)
theorem dX7_led_21 : decode cX7_led 21 = .ok (.getfield 264, 3) := dk_180 1 8 (dk_at dksX7_led_0 21 rfl rfl)
theorem dX7_led_24 : decode cX7_led 24 = .ok (.if_icmp .ge 62, 3) := dk_162 0 62 (dk_at dksX7_led_1 0 rfl rfl)
theorem dX7_led_27 : decode cX7_led 27 = .ok (.aload_n 0, 1) := dk_42 (dk_at dksX7_led_1 3 rfl rfl)
theorem dX7_led_28 : decode cX7_led 28 = .ok (.getfield 338, 3) := dk_180 1 82 (dk_at dksX7_led_1 4 rfl rfl)
theorem dX7_led_31 : decode cX7_led 31 = .ok (.getfield 270, 3) := dk_180 1 14 (dk_at dksX7_led_1 7 rfl rfl)
theorem dX7_led_34 : decode cX7_led 34 = .ok (.iload_n 3, 1) := dk_29 (dk_at dksX7_led_1 10 rfl rfl)
theorem dX7_led_35 : decode cX7_led 35 = .ok (.iaload, 1) := dk_46 (dk_at dksX7_led_1 11 rfl rfl)
theorem dX7_led_36 : decode cX7_led 36 = .ok (.i2l, 1) := dk_133 (dk_at dksX7_led_1 12 rfl rfl)
theorem dX7_led_37 : decode cX7_led 37 = .ok (.aload_n 0, 1) := dk_42 (dk_at dksX7_led_1 13 rfl rfl)
theorem dX7_led_38 : decode cX7_led 38 = .ok (.getfield 31, 3) := dk_180 0 31 (dk_at dksX7_led_1 14 rfl rfl)
theorem dX7_led_41 : decode cX7_led 41 = .ok (.iconst 0, 1) := dk_3 (dk_at dksX7_led_1 17 rfl rfl)
theorem dX7_led_42 : decode cX7_led 42 = .ok (.laload, 1) := dk_47 (dk_at dksX7_led_1 18 rfl rfl)
theorem dX7_led_43 : decode cX7_led 43 = .ok (.lcmp, 1) := dk_148 (dk_at dksX7_led_1 19 rfl rfl)
theorem dX7_led_44 : decode cX7_led 44 = .ok (.ifCond .eq 26, 3) := dk_153 0 26 (dk_at dksX7_led_1 20 rfl rfl)
theorem dX7_led_47 : decode cX7_led 47 = .ok (.aload_n 0, 1) := dk_42 (dk_at dksX7_led_1 23 rfl rfl)
theorem dX7_led_48 : decode cX7_led 48 = .ok (.getfield 338, 3) := dk_180 1 82 (dk_at dksX7_led_2 0 rfl rfl)
theorem dX7_led_51 : decode cX7_led 51 = .ok (.getfield 273, 3) := dk_180 1 17 (dk_at dksX7_led_2 3 rfl rfl)
theorem dX7_led_54 : decode cX7_led 54 = .ok (.iload_n 3, 1) := dk_29 (dk_at dksX7_led_2 6 rfl rfl)
theorem dX7_led_55 : decode cX7_led 55 = .ok (.iaload, 1) := dk_46 (dk_at dksX7_led_2 7 rfl rfl)
theorem dX7_led_56 : decode cX7_led 56 = .ok (.i2l, 1) := dk_133 (dk_at dksX7_led_2 8 rfl rfl)
theorem dX7_led_57 : decode cX7_led 57 = .ok (.aload_n 0, 1) := dk_42 (dk_at dksX7_led_2 9 rfl rfl)
theorem dX7_led_58 : decode cX7_led 58 = .ok (.getfield 31, 3) := dk_180 0 31 (dk_at dksX7_led_2 10 rfl rfl)
theorem dX7_led_61 : decode cX7_led 61 = .ok (.iconst 0, 1) := dk_3 (dk_at dksX7_led_2 13 rfl rfl)
theorem dX7_led_62 : decode cX7_led 62 = .ok (.laload, 1) := dk_47 (dk_at dksX7_led_2 14 rfl rfl)
theorem dX7_led_63 : decode cX7_led 63 = .ok (.lcmp, 1) := dk_148 (dk_at dksX7_led_2 15 rfl rfl)
theorem dX7_led_64 : decode cX7_led 64 = .ok (.ifCond .eq 6, 3) := dk_153 0 6 (dk_at dksX7_led_2 16 rfl rfl)
theorem dX7_led_67 : decode cX7_led 67 = .ok (.goto 13, 3) := dk_167 0 13 (dk_at dksX7_led_2 19 rfl rfl)
theorem dX7_led_70 : decode cX7_led 70 = .ok (.iload_n 2, 1) := dk_28 (dk_at dksX7_led_2 22 rfl rfl)
theorem dX7_led_71 : decode cX7_led 71 = .ok (.iload_n 1, 1) := dk_27 (dk_at dksX7_led_2 23 rfl rfl)
theorem dX7_led_72 : decode cX7_led 72 = .ok (.if_icmp .ne 5, 3) := dk_160 0 5 (dk_at dksX7_led_3 0 rfl rfl)
theorem dX7_led_75 : decode cX7_led 75 = .ok (.iload_n 3, 1) := dk_29 (dk_at dksX7_led_3 3 rfl rfl)
theorem dX7_led_76 : decode cX7_led 76 = .ok (.ireturn, 1) := dk_172 (dk_at dksX7_led_3 4 rfl rfl)
theorem dX7_led_77 : decode cX7_led 77 = .ok (.iinc 2 1, 3) := dk_132 2 1 (dk_at dksX7_led_3 5 rfl rfl)
theorem dX7_led_80 : decode cX7_led 80 = .ok (.iinc 3 1, 3) := dk_132 3 1 (dk_at dksX7_led_3 8 rfl rfl)
theorem dX7_led_83 : decode cX7_led 83 = .ok (.goto (-74), 3) := dk_167 255 182 (dk_at dksX7_led_3 11 rfl rfl)
theorem dX7_led_86 : decode cX7_led 86 = .ok (.aload_n 0, 1) := dk_42 (dk_at dksX7_led_3 14 rfl rfl)
theorem dX7_led_87 : decode cX7_led 87 = .ok (.iconst 1, 1) := dk_4 (dk_at dksX7_led_3 15 rfl rfl)
theorem dX7_led_88 : decode cX7_led 88 = .ok (.putfield 40, 3) := dk_181 0 40 (dk_at dksX7_led_3 16 rfl rfl)
theorem dX7_led_91 : decode cX7_led 91 = .ok (.iconst 0, 1) := dk_3 (dk_at dksX7_led_3 19 rfl rfl)
theorem dX7_led_92 : decode cX7_led 92 = .ok (.ireturn, 1) := dk_172 (dk_at dksX7_led_3 20 rfl rfl)
abbrev cX7_size : ByteArray := prog_19_method_107_code
def yX7_size : MethodName := ⟨RX7, "size", "(I)I"⟩
def dkwX7_size_7 : List UInt8 := [172, 42, 180, 1, 87, 172]
abbrev dktX7_size_7 : List UInt8 := dkwX7_size_7 ++ []
def dkwX7_size_6 : List UInt8 := [172, 42, 182, 1, 228, 153, 0, 13, 42, 180, 0, 31, 4, 47, 136, 167, 0, 4, 3, 172, 42, 180, 1, 84]
abbrev dktX7_size_6 : List UInt8 := dkwX7_size_6 ++ dktX7_size_7
def dkwX7_size_5 : List UInt8 := [42, 180, 0, 28, 172, 42, 182, 1, 228, 153, 0, 13, 42, 180, 0, 31, 3, 47, 136, 167, 0, 5, 16, 254]
abbrev dktX7_size_5 : List UInt8 := dkwX7_size_5 ++ dktX7_size_6
def dkwX7_size_4 : List UInt8 := [42, 180, 1, 82, 180, 1, 8, 172, 42, 180, 1, 82, 180, 0, 193, 172, 42, 180, 1, 82, 180, 1, 67, 172]
abbrev dktX7_size_4 : List UInt8 := dkwX7_size_4 ++ dktX7_size_5
def dkwX7_size_3 : List UInt8 := [42, 180, 1, 82, 180, 0, 151, 172, 42, 180, 1, 82, 180, 0, 219, 172, 42, 180, 1, 82, 180, 0, 190, 172]
abbrev dktX7_size_3 : List UInt8 := dkwX7_size_3 ++ dktX7_size_4
def dkwX7_size_2 : List UInt8 := [170, 0, 0, 0, 0, 151, 0, 0, 0, 0, 0, 0, 0, 9, 0, 0, 0, 54, 0, 0, 0, 62, 0, 0, 0, 70, 0, 0, 0, 78, 0, 0, 0, 86, 0, 0, 0, 94, 0, 0, 0, 102, 0, 0, 0, 107, 0, 0, 0, 127, 0, 0, 0, 146]
abbrev dktX7_size_2 : List UInt8 := dkwX7_size_2 ++ dktX7_size_3
def dkwX7_size_1 : List UInt8 := [154, 0, 5, 2, 172, 42, 180, 1, 82, 199, 0, 5, 3, 172, 27]
abbrev dktX7_size_1 : List UInt8 := dkwX7_size_1 ++ dktX7_size_2
def dkwX7_size_0 : List UInt8 := [42, 3, 181, 0, 40, 27, 16, 11, 160, 0, 8, 42, 180, 1, 75, 172, 27, 3, 16, 10, 184, 0, 118]
abbrev dktX7_size_0 : List UInt8 := dkwX7_size_0 ++ dktX7_size_1
theorem dksX7_size_0 : cX7_size.data.toList.drop 0 = dktX7_size_0 := by decide +kernel
theorem dksX7_size_1 : cX7_size.data.toList.drop 23 = dktX7_size_1 := dk_seg dksX7_size_0 23 rfl rfl
theorem dksX7_size_2 : cX7_size.data.toList.drop 38 = dktX7_size_2 := dk_seg dksX7_size_1 15 rfl rfl
theorem dksX7_size_3 : cX7_size.data.toList.drop 92 = dktX7_size_3 := dk_seg dksX7_size_2 54 rfl rfl
theorem dksX7_size_4 : cX7_size.data.toList.drop 116 = dktX7_size_4 := dk_seg dksX7_size_3 24 rfl rfl
theorem dksX7_size_5 : cX7_size.data.toList.drop 140 = dktX7_size_5 := dk_seg dksX7_size_4 24 rfl rfl
theorem dksX7_size_6 : cX7_size.data.toList.drop 164 = dktX7_size_6 := dk_seg dksX7_size_5 24 rfl rfl
theorem dksX7_size_7 : cX7_size.data.toList.drop 188 = dktX7_size_7 := dk_seg dksX7_size_6 24 rfl rfl
theorem dX7_size_0 : decode cX7_size 0 = .ok (.aload_n 0, 1) := dk_42 (dk_at dksX7_size_0 0 rfl rfl)
theorem dX7_size_1 : decode cX7_size 1 = .ok (.iconst 0, 1) := dk_3 (dk_at dksX7_size_0 1 rfl rfl)
theorem dX7_size_2 : decode cX7_size 2 = .ok (.putfield 40, 3) := dk_181 0 40 (dk_at dksX7_size_0 2 rfl rfl)
theorem dX7_size_5 : decode cX7_size 5 = .ok (.iload_n 1, 1) := dk_27 (dk_at dksX7_size_0 5 rfl rfl)
theorem dX7_size_6 : decode cX7_size 6 = .ok (.bipush 11, 2) := dk_16 11 (dk_at dksX7_size_0 6 rfl rfl)
theorem dX7_size_8 : decode cX7_size 8 = .ok (.if_icmp .ne 8, 3) := dk_160 0 8 (dk_at dksX7_size_0 8 rfl rfl)
theorem dX7_size_11 : decode cX7_size 11 = .ok (.aload_n 0, 1) := dk_42 (dk_at dksX7_size_0 11 rfl rfl)
theorem dX7_size_12 : decode cX7_size 12 = .ok (.getfield 331, 3) := dk_180 1 75 (dk_at dksX7_size_0 12 rfl rfl)
theorem dX7_size_15 : decode cX7_size 15 = .ok (.ireturn, 1) := dk_172 (dk_at dksX7_size_0 15 rfl rfl)
theorem dX7_size_16 : decode cX7_size 16 = .ok (.iload_n 1, 1) := dk_27 (dk_at dksX7_size_0 16 rfl rfl)
theorem dX7_size_17 : decode cX7_size 17 = .ok (.iconst 0, 1) := dk_3 (dk_at dksX7_size_0 17 rfl rfl)
theorem dX7_size_18 : decode cX7_size 18 = .ok (.bipush 10, 2) := dk_16 10 (dk_at dksX7_size_0 18 rfl rfl)
theorem dX7_size_20 : decode cX7_size 20 = .ok (.invokestatic 118, 3) := dk_184 0 118 (dk_at dksX7_size_0 20 rfl rfl)
theorem dX7_size_23 : decode cX7_size 23 = .ok (.ifCond .ne 5, 3) := dk_154 0 5 (dk_at dksX7_size_1 0 rfl rfl)
theorem dX7_size_26 : decode cX7_size 26 = .ok (.iconst (-1), 1) := dk_2 (dk_at dksX7_size_1 3 rfl rfl)
theorem dX7_size_27 : decode cX7_size 27 = .ok (.ireturn, 1) := dk_172 (dk_at dksX7_size_1 4 rfl rfl)
theorem dX7_size_28 : decode cX7_size 28 = .ok (.aload_n 0, 1) := dk_42 (dk_at dksX7_size_1 5 rfl rfl)
theorem dX7_size_29 : decode cX7_size 29 = .ok (.getfield 338, 3) := dk_180 1 82 (dk_at dksX7_size_1 6 rfl rfl)
theorem dX7_size_32 : decode cX7_size 32 = .ok (.ifnonnull 5, 3) := dk_199 0 5 (dk_at dksX7_size_1 9 rfl rfl)
theorem dX7_size_35 : decode cX7_size 35 = .ok (.iconst 0, 1) := dk_3 (dk_at dksX7_size_1 12 rfl rfl)
theorem dX7_size_36 : decode cX7_size 36 = .ok (.ireturn, 1) := dk_172 (dk_at dksX7_size_1 13 rfl rfl)
theorem dX7_size_37 : decode cX7_size 37 = .ok (.iload_n 1, 1) := dk_27 (dk_at dksX7_size_1 14 rfl rfl)
theorem dX7_size_38 : decode cX7_size 38 = .ok (.tableswitch 151 0 9 #[54, 62, 70, 78, 86, 94, 102, 107, 127, 146], 54) := by decide +kernel
theorem dX7_size_92 : decode cX7_size 92 = .ok (.aload_n 0, 1) := dk_42 (dk_at dksX7_size_3 0 rfl rfl)
theorem dX7_size_93 : decode cX7_size 93 = .ok (.getfield 338, 3) := dk_180 1 82 (dk_at dksX7_size_3 1 rfl rfl)
theorem dX7_size_96 : decode cX7_size 96 = .ok (.getfield 151, 3) := dk_180 0 151 (dk_at dksX7_size_3 4 rfl rfl)
theorem dX7_size_99 : decode cX7_size 99 = .ok (.ireturn, 1) := dk_172 (dk_at dksX7_size_3 7 rfl rfl)
theorem dX7_size_100 : decode cX7_size 100 = .ok (.aload_n 0, 1) := dk_42 (dk_at dksX7_size_3 8 rfl rfl)
theorem dX7_size_101 : decode cX7_size 101 = .ok (.getfield 338, 3) := dk_180 1 82 (dk_at dksX7_size_3 9 rfl rfl)
theorem dX7_size_104 : decode cX7_size 104 = .ok (.getfield 219, 3) := dk_180 0 219 (dk_at dksX7_size_3 12 rfl rfl)
theorem dX7_size_107 : decode cX7_size 107 = .ok (.ireturn, 1) := dk_172 (dk_at dksX7_size_3 15 rfl rfl)
theorem dX7_size_108 : decode cX7_size 108 = .ok (.aload_n 0, 1) := dk_42 (dk_at dksX7_size_3 16 rfl rfl)
theorem dX7_size_109 : decode cX7_size 109 = .ok (.getfield 338, 3) := dk_180 1 82 (dk_at dksX7_size_3 17 rfl rfl)
theorem dX7_size_112 : decode cX7_size 112 = .ok (.getfield 190, 3) := dk_180 0 190 (dk_at dksX7_size_3 20 rfl rfl)
theorem dX7_size_115 : decode cX7_size 115 = .ok (.ireturn, 1) := dk_172 (dk_at dksX7_size_3 23 rfl rfl)
theorem dX7_size_116 : decode cX7_size 116 = .ok (.aload_n 0, 1) := dk_42 (dk_at dksX7_size_4 0 rfl rfl)
theorem dX7_size_117 : decode cX7_size 117 = .ok (.getfield 338, 3) := dk_180 1 82 (dk_at dksX7_size_4 1 rfl rfl)
theorem dX7_size_120 : decode cX7_size 120 = .ok (.getfield 264, 3) := dk_180 1 8 (dk_at dksX7_size_4 4 rfl rfl)
theorem dX7_size_123 : decode cX7_size 123 = .ok (.ireturn, 1) := dk_172 (dk_at dksX7_size_4 7 rfl rfl)
theorem dX7_size_124 : decode cX7_size 124 = .ok (.aload_n 0, 1) := dk_42 (dk_at dksX7_size_4 8 rfl rfl)
theorem dX7_size_125 : decode cX7_size 125 = .ok (.getfield 338, 3) := dk_180 1 82 (dk_at dksX7_size_4 9 rfl rfl)
theorem dX7_size_128 : decode cX7_size 128 = .ok (.getfield 193, 3) := dk_180 0 193 (dk_at dksX7_size_4 12 rfl rfl)
theorem dX7_size_131 : decode cX7_size 131 = .ok (.ireturn, 1) := dk_172 (dk_at dksX7_size_4 15 rfl rfl)
theorem dX7_size_132 : decode cX7_size 132 = .ok (.aload_n 0, 1) := dk_42 (dk_at dksX7_size_4 16 rfl rfl)
theorem dX7_size_133 : decode cX7_size 133 = .ok (.getfield 338, 3) := dk_180 1 82 (dk_at dksX7_size_4 17 rfl rfl)
theorem dX7_size_136 : decode cX7_size 136 = .ok (.getfield 323, 3) := dk_180 1 67 (dk_at dksX7_size_4 20 rfl rfl)
theorem dX7_size_139 : decode cX7_size 139 = .ok (.ireturn, 1) := dk_172 (dk_at dksX7_size_4 23 rfl rfl)
theorem dX7_size_140 : decode cX7_size 140 = .ok (.aload_n 0, 1) := dk_42 (dk_at dksX7_size_5 0 rfl rfl)
theorem dX7_size_141 : decode cX7_size 141 = .ok (.getfield 28, 3) := dk_180 0 28 (dk_at dksX7_size_5 1 rfl rfl)
theorem dX7_size_144 : decode cX7_size 144 = .ok (.ireturn, 1) := dk_172 (dk_at dksX7_size_5 4 rfl rfl)
theorem dX7_size_145 : decode cX7_size 145 = .ok (.aload_n 0, 1) := dk_42 (dk_at dksX7_size_5 5 rfl rfl)
theorem dX7_size_146 : decode cX7_size 146 = .ok (.invokevirtual 484, 3) := dk_182 1 228 (dk_at dksX7_size_5 6 rfl rfl)
theorem dX7_size_149 : decode cX7_size 149 = .ok (.ifCond .eq 13, 3) := dk_153 0 13 (dk_at dksX7_size_5 9 rfl rfl)
theorem dX7_size_152 : decode cX7_size 152 = .ok (.aload_n 0, 1) := dk_42 (dk_at dksX7_size_5 12 rfl rfl)
theorem dX7_size_153 : decode cX7_size 153 = .ok (.getfield 31, 3) := dk_180 0 31 (dk_at dksX7_size_5 13 rfl rfl)
theorem dX7_size_156 : decode cX7_size 156 = .ok (.iconst 0, 1) := dk_3 (dk_at dksX7_size_5 16 rfl rfl)
theorem dX7_size_157 : decode cX7_size 157 = .ok (.laload, 1) := dk_47 (dk_at dksX7_size_5 17 rfl rfl)
theorem dX7_size_158 : decode cX7_size 158 = .ok (.l2i, 1) := dk_136 (dk_at dksX7_size_5 18 rfl rfl)
theorem dX7_size_159 : decode cX7_size 159 = .ok (.goto 5, 3) := dk_167 0 5 (dk_at dksX7_size_5 19 rfl rfl)
theorem dX7_size_162 : decode cX7_size 162 = .ok (.bipush (-2), 2) := dk_16 254 (dk_at dksX7_size_5 22 rfl rfl)
theorem dX7_size_164 : decode cX7_size 164 = .ok (.ireturn, 1) := dk_172 (dk_at dksX7_size_6 0 rfl rfl)
theorem dX7_size_165 : decode cX7_size 165 = .ok (.aload_n 0, 1) := dk_42 (dk_at dksX7_size_6 1 rfl rfl)
theorem dX7_size_166 : decode cX7_size 166 = .ok (.invokevirtual 484, 3) := dk_182 1 228 (dk_at dksX7_size_6 2 rfl rfl)
theorem dX7_size_169 : decode cX7_size 169 = .ok (.ifCond .eq 13, 3) := dk_153 0 13 (dk_at dksX7_size_6 5 rfl rfl)
theorem dX7_size_172 : decode cX7_size 172 = .ok (.aload_n 0, 1) := dk_42 (dk_at dksX7_size_6 8 rfl rfl)
theorem dX7_size_173 : decode cX7_size 173 = .ok (.getfield 31, 3) := dk_180 0 31 (dk_at dksX7_size_6 9 rfl rfl)
theorem dX7_size_176 : decode cX7_size 176 = .ok (.iconst 1, 1) := dk_4 (dk_at dksX7_size_6 12 rfl rfl)
theorem dX7_size_177 : decode cX7_size 177 = .ok (.laload, 1) := dk_47 (dk_at dksX7_size_6 13 rfl rfl)
theorem dX7_size_178 : decode cX7_size 178 = .ok (.l2i, 1) := dk_136 (dk_at dksX7_size_6 14 rfl rfl)
theorem dX7_size_179 : decode cX7_size 179 = .ok (.goto 4, 3) := dk_167 0 4 (dk_at dksX7_size_6 15 rfl rfl)
theorem dX7_size_182 : decode cX7_size 182 = .ok (.iconst 0, 1) := dk_3 (dk_at dksX7_size_6 18 rfl rfl)
theorem dX7_size_183 : decode cX7_size 183 = .ok (.ireturn, 1) := dk_172 (dk_at dksX7_size_6 19 rfl rfl)
theorem dX7_size_184 : decode cX7_size 184 = .ok (.aload_n 0, 1) := dk_42 (dk_at dksX7_size_6 20 rfl rfl)
theorem dX7_size_185 : decode cX7_size 185 = .ok (.getfield 340, 3) := dk_180 1 84 (dk_at dksX7_size_6 21 rfl rfl)
theorem dX7_size_188 : decode cX7_size 188 = .ok (.ireturn, 1) := dk_172 (dk_at dksX7_size_7 0 rfl rfl)
theorem dX7_size_189 : decode cX7_size 189 = .ok (.aload_n 0, 1) := dk_42 (dk_at dksX7_size_7 1 rfl rfl)
theorem dX7_size_190 : decode cX7_size 190 = .ok (.getfield 343, 3) := dk_180 1 87 (dk_at dksX7_size_7 2 rfl rfl)
theorem dX7_size_193 : decode cX7_size 193 = .ok (.ireturn, 1) := dk_172 (dk_at dksX7_size_7 5 rfl rfl)
abbrev cX7_trouble : ByteArray := prog_19_method_108_code
def yX7_trouble : MethodName := ⟨RX7, "trouble", "()I"⟩
def dkwX7_trouble_0 : List UInt8 := [42, 3, 181, 0, 40, 42, 180, 0, 43, 172]
abbrev dktX7_trouble_0 : List UInt8 := dkwX7_trouble_0 ++ []
theorem dksX7_trouble_0 : cX7_trouble.data.toList.drop 0 = dktX7_trouble_0 := by decide +kernel
theorem dX7_trouble_0 : decode cX7_trouble 0 = .ok (.aload_n 0, 1) := dk_42 (dk_at dksX7_trouble_0 0 rfl rfl)
theorem dX7_trouble_1 : decode cX7_trouble 1 = .ok (.iconst 0, 1) := dk_3 (dk_at dksX7_trouble_0 1 rfl rfl)
theorem dX7_trouble_2 : decode cX7_trouble 2 = .ok (.putfield 40, 3) := dk_181 0 40 (dk_at dksX7_trouble_0 2 rfl rfl)
theorem dX7_trouble_5 : decode cX7_trouble 5 = .ok (.aload_n 0, 1) := dk_42 (dk_at dksX7_trouble_0 5 rfl rfl)
theorem dX7_trouble_6 : decode cX7_trouble 6 = .ok (.getfield 43, 3) := dk_180 0 43 (dk_at dksX7_trouble_0 6 rfl rfl)
theorem dX7_trouble_9 : decode cX7_trouble 9 = .ok (.ireturn, 1) := dk_172 (dk_at dksX7_trouble_0 9 rfl rfl)
theorem q121 : (Jvm.Cond.initialized "RainWalkModel") ∈ lw_all := lw_g (lw_at lw_m1 10 rfl) rfl
theorem q1481 : (Jvm.Cond.instantiable "RainWalkModel" (26 : Nat)) ∈ lw_all := lw_g (lw_at lw_m6 170 rfl) rfl
theorem q1483 : (Jvm.Cond.instanceMethod ({ cls := "RainWalkModel", name := "<init>", desc := "()V" } : Jvm.MethodName)) ∈ lw_all := lw_g (lw_at lw_m6 172 rfl) rfl
theorem q1484 : (Jvm.Cond.code ({ cls := "RainWalkModel", name := "<init>", desc := "()V" } : Jvm.MethodName) prog_19_method_1_code (1 : Nat) (Option.none : Option Jvm.ClassFile.FieldType)) ∈ lw_all := lw_g (lw_at lw_m6 173 rfl) rfl
theorem q1485 : (Jvm.Cond.methodLink "RainWalkModel" (3 : Nat) ({ cls := "java/lang/Object", name := "<init>", desc := "()V" } : Jvm.MethodName)) ∈ lw_all := lw_g (lw_at lw_m6 174 rfl) rfl
theorem q1486 : (Jvm.Cond.fieldLink "RainWalkModel" (40 : Nat) "RainWalkModel" "thrown" "I") ∈ lw_all := lw_g (lw_at lw_m6 175 rfl) rfl
theorem q1487 : (Jvm.Cond.fieldLink "RainWalkModel" (43 : Nat) "RainWalkModel" "trouble" "I") ∈ lw_all := lw_g (lw_at lw_m6 176 rfl) rfl
theorem q1488 : (Jvm.Cond.fieldLink "RainWalkModel" (9 : Nat) "RainWalkModel" "where" "I") ∈ lw_all := lw_g (lw_at lw_m6 177 rfl) rfl
theorem q1489 : (Jvm.Cond.fieldLink "RainWalkModel" (338 : Nat) "RainWalkModel" "world" "LRainWalkModel$World;") ∈ lw_all := lw_g (lw_at lw_m6 178 rfl) rfl
theorem q1490 : (Jvm.Cond.fieldLink "RainWalkModel" (147 : Nat) "RainWalkModel" "read" "LRainWalkModel$World;") ∈ lw_all := lw_g (lw_at lw_m6 179 rfl) rfl
theorem q1491 : (Jvm.Cond.fieldLink "RainWalkModel" (13 : Nat) "RainWalkModel" "tape" "[B") ∈ lw_all := lw_g (lw_at lw_m6 180 rfl) rfl
theorem q1492 : (Jvm.Cond.fieldLink "RainWalkModel" (331 : Nat) "RainWalkModel" "taped" "I") ∈ lw_all := lw_g (lw_at lw_m6 181 rfl) rfl
theorem q1493 : (Jvm.Cond.fieldLink "RainWalkModel" (53 : Nat) "RainWalkModel" "size" "I") ∈ lw_all := lw_g (lw_at lw_m6 182 rfl) rfl
theorem q1494 : (Jvm.Cond.fieldLink "RainWalkModel" (71 : Nat) "RainWalkModel" "spot" "I") ∈ lw_all := lw_g (lw_at lw_m6 183 rfl) rfl
theorem q1495 : (Jvm.Cond.fieldLink "RainWalkModel" (68 : Nat) "RainWalkModel" "sort" "I") ∈ lw_all := lw_g (lw_at lw_m6 184 rfl) rfl
theorem q1496 : (Jvm.Cond.fieldLink "RainWalkModel" (77 : Nat) "RainWalkModel" "place" "I") ∈ lw_all := lw_g (lw_at lw_m6 185 rfl) rfl
theorem q1497 : (Jvm.Cond.fieldLink "RainWalkModel" (80 : Nat) "RainWalkModel" "sign" "I") ∈ lw_all := lw_g (lw_at lw_m6 186 rfl) rfl
theorem q1498 : (Jvm.Cond.fieldLink "RainWalkModel" (94 : Nat) "RainWalkModel" "number" "I") ∈ lw_all := lw_g (lw_at lw_m6 187 rfl) rfl
theorem q1499 : (Jvm.Cond.fieldLink "RainWalkModel" (97 : Nat) "RainWalkModel" "fault" "I") ∈ lw_all := lw_g (lw_at lw_m6 188 rfl) rfl
theorem q1500 : (Jvm.Cond.fieldLink "RainWalkModel" (100 : Nat) "RainWalkModel" "wrongAt" "I") ∈ lw_all := lw_g (lw_at lw_m6 189 rfl) rfl
theorem q1501 : (Jvm.Cond.fieldLink "RainWalkModel" (87 : Nat) "RainWalkModel" "word" "J") ∈ lw_all := lw_g (lw_at lw_m6 190 rfl) rfl
theorem q1502 : (Jvm.Cond.fieldLink "RainWalkModel" (17 : Nat) "RainWalkModel" "least" "[J") ∈ lw_all := lw_g (lw_at lw_m6 191 rfl) rfl
theorem q1503 : (Jvm.Cond.fieldLink "RainWalkModel" (21 : Nat) "RainWalkModel" "arrives" "[I") ∈ lw_all := lw_g (lw_at lw_m6 192 rfl) rfl
theorem q1504 : (Jvm.Cond.fieldLink "RainWalkModel" (25 : Nat) "RainWalkModel" "stepBy" "[I") ∈ lw_all := lw_g (lw_at lw_m6 193 rfl) rfl
theorem q1505 : (Jvm.Cond.fieldLink "RainWalkModel" (28 : Nat) "RainWalkModel" "who" "I") ∈ lw_all := lw_g (lw_at lw_m6 194 rfl) rfl
theorem q1506 : (Jvm.Cond.fieldLink "RainWalkModel" (475 : Nat) "RainWalkModel" "rains" "I") ∈ lw_all := lw_g (lw_at lw_m6 195 rfl) rfl
theorem q1507 : (Jvm.Cond.fieldLink "RainWalkModel" (31 : Nat) "RainWalkModel" "d" "[J") ∈ lw_all := lw_g (lw_at lw_m6 196 rfl) rfl
theorem q1508 : (Jvm.Cond.fieldLink "RainWalkModel" (34 : Nat) "RainWalkModel" "past" "[J") ∈ lw_all := lw_g (lw_at lw_m6 197 rfl) rfl
theorem q1509 : (Jvm.Cond.fieldLink "RainWalkModel" (37 : Nat) "RainWalkModel" "kept" "[J") ∈ lw_all := lw_g (lw_at lw_m6 198 rfl) rfl
theorem q1510 : (Jvm.Cond.fieldLink "RainWalkModel" (340 : Nat) "RainWalkModel" "acts" "I") ∈ lw_all := lw_g (lw_at lw_m6 199 rfl) rfl
theorem q1511 : (Jvm.Cond.fieldLink "RainWalkModel" (343 : Nat) "RainWalkModel" "marks" "I") ∈ lw_all := lw_g (lw_at lw_m6 200 rfl) rfl
theorem q1512 : (Jvm.Cond.lays "RainWalkModel" "RainWalkModel" "thrown" "I") ∈ lw_all := lw_g (lw_at lw_m6 201 rfl) rfl
theorem q1513 : (Jvm.Cond.soleField "RainWalkModel" "thrown") ∈ lw_all := lw_g (lw_at lw_m6 202 rfl) rfl
theorem q1514 : (Jvm.Cond.lays "RainWalkModel" "RainWalkModel" "trouble" "I") ∈ lw_all := lw_g (lw_at lw_m6 203 rfl) rfl
theorem q1515 : (Jvm.Cond.soleField "RainWalkModel" "trouble") ∈ lw_all := lw_g (lw_at lw_m6 204 rfl) rfl
theorem q1516 : (Jvm.Cond.lays "RainWalkModel" "RainWalkModel" "where" "I") ∈ lw_all := lw_g (lw_at lw_m6 205 rfl) rfl
theorem q1517 : (Jvm.Cond.soleField "RainWalkModel" "where") ∈ lw_all := lw_g (lw_at lw_m6 206 rfl) rfl
theorem q1518 : (Jvm.Cond.lays "RainWalkModel" "RainWalkModel" "world" "LRainWalkModel$World;") ∈ lw_all := lw_g (lw_at lw_m6 207 rfl) rfl
theorem q1519 : (Jvm.Cond.soleField "RainWalkModel" "world") ∈ lw_all := lw_g (lw_at lw_m6 208 rfl) rfl
theorem q1520 : (Jvm.Cond.lays "RainWalkModel" "RainWalkModel" "read" "LRainWalkModel$World;") ∈ lw_all := lw_g (lw_at lw_m6 209 rfl) rfl
theorem q1521 : (Jvm.Cond.soleField "RainWalkModel" "read") ∈ lw_all := lw_g (lw_at lw_m6 210 rfl) rfl
theorem q1522 : (Jvm.Cond.laysFinal "RainWalkModel" "RainWalkModel" "tape" "[B") ∈ lw_all := lw_g (lw_at lw_m6 211 rfl) rfl
theorem q1523 : (Jvm.Cond.soleField "RainWalkModel" "tape") ∈ lw_all := lw_g (lw_at lw_m6 212 rfl) rfl
theorem q1524 : (Jvm.Cond.lays "RainWalkModel" "RainWalkModel" "taped" "I") ∈ lw_all := lw_g (lw_at lw_m6 213 rfl) rfl
theorem q1525 : (Jvm.Cond.soleField "RainWalkModel" "taped") ∈ lw_all := lw_g (lw_at lw_m6 214 rfl) rfl
theorem q1526 : (Jvm.Cond.lays "RainWalkModel" "RainWalkModel" "size" "I") ∈ lw_all := lw_g (lw_at lw_m6 215 rfl) rfl
theorem q1527 : (Jvm.Cond.soleField "RainWalkModel" "size") ∈ lw_all := lw_g (lw_at lw_m6 216 rfl) rfl
theorem q1528 : (Jvm.Cond.lays "RainWalkModel" "RainWalkModel" "spot" "I") ∈ lw_all := lw_g (lw_at lw_m6 217 rfl) rfl
theorem q1529 : (Jvm.Cond.soleField "RainWalkModel" "spot") ∈ lw_all := lw_g (lw_at lw_m6 218 rfl) rfl
theorem q1530 : (Jvm.Cond.lays "RainWalkModel" "RainWalkModel" "sort" "I") ∈ lw_all := lw_g (lw_at lw_m6 219 rfl) rfl
theorem q1531 : (Jvm.Cond.soleField "RainWalkModel" "sort") ∈ lw_all := lw_g (lw_at lw_m6 220 rfl) rfl
theorem q1532 : (Jvm.Cond.lays "RainWalkModel" "RainWalkModel" "place" "I") ∈ lw_all := lw_g (lw_at lw_m6 221 rfl) rfl
theorem q1533 : (Jvm.Cond.soleField "RainWalkModel" "place") ∈ lw_all := lw_g (lw_at lw_m6 222 rfl) rfl
theorem q1534 : (Jvm.Cond.lays "RainWalkModel" "RainWalkModel" "sign" "I") ∈ lw_all := lw_g (lw_at lw_m6 223 rfl) rfl
theorem q1535 : (Jvm.Cond.soleField "RainWalkModel" "sign") ∈ lw_all := lw_g (lw_at lw_m6 224 rfl) rfl
theorem q1536 : (Jvm.Cond.lays "RainWalkModel" "RainWalkModel" "number" "I") ∈ lw_all := lw_g (lw_at lw_m6 225 rfl) rfl
theorem q1537 : (Jvm.Cond.soleField "RainWalkModel" "number") ∈ lw_all := lw_g (lw_at lw_m6 226 rfl) rfl
theorem q1538 : (Jvm.Cond.lays "RainWalkModel" "RainWalkModel" "fault" "I") ∈ lw_all := lw_g (lw_at lw_m6 227 rfl) rfl
theorem q1539 : (Jvm.Cond.soleField "RainWalkModel" "fault") ∈ lw_all := lw_g (lw_at lw_m6 228 rfl) rfl
theorem q1540 : (Jvm.Cond.lays "RainWalkModel" "RainWalkModel" "wrongAt" "I") ∈ lw_all := lw_g (lw_at lw_m6 229 rfl) rfl
theorem q1541 : (Jvm.Cond.soleField "RainWalkModel" "wrongAt") ∈ lw_all := lw_g (lw_at lw_m6 230 rfl) rfl
theorem q1542 : (Jvm.Cond.lays "RainWalkModel" "RainWalkModel" "word" "J") ∈ lw_all := lw_g (lw_at lw_m6 231 rfl) rfl
theorem q1543 : (Jvm.Cond.soleField "RainWalkModel" "word") ∈ lw_all := lw_g (lw_at lw_m6 232 rfl) rfl
theorem q1544 : (Jvm.Cond.laysFinal "RainWalkModel" "RainWalkModel" "least" "[J") ∈ lw_all := lw_g (lw_at lw_m6 233 rfl) rfl
theorem q1545 : (Jvm.Cond.soleField "RainWalkModel" "least") ∈ lw_all := lw_g (lw_at lw_m6 234 rfl) rfl
theorem q1546 : (Jvm.Cond.laysFinal "RainWalkModel" "RainWalkModel" "arrives" "[I") ∈ lw_all := lw_g (lw_at lw_m6 235 rfl) rfl
theorem q1547 : (Jvm.Cond.soleField "RainWalkModel" "arrives") ∈ lw_all := lw_g (lw_at lw_m6 236 rfl) rfl
theorem q1548 : (Jvm.Cond.laysFinal "RainWalkModel" "RainWalkModel" "stepBy" "[I") ∈ lw_all := lw_g (lw_at lw_m6 237 rfl) rfl
theorem q1549 : (Jvm.Cond.soleField "RainWalkModel" "stepBy") ∈ lw_all := lw_g (lw_at lw_m6 238 rfl) rfl
theorem q1550 : (Jvm.Cond.lays "RainWalkModel" "RainWalkModel" "who" "I") ∈ lw_all := lw_g (lw_at lw_m6 239 rfl) rfl
theorem q1551 : (Jvm.Cond.soleField "RainWalkModel" "who") ∈ lw_all := lw_g (lw_at lw_m7 0 rfl) rfl
theorem q1552 : (Jvm.Cond.lays "RainWalkModel" "RainWalkModel" "rains" "I") ∈ lw_all := lw_g (lw_at lw_m7 1 rfl) rfl
theorem q1553 : (Jvm.Cond.soleField "RainWalkModel" "rains") ∈ lw_all := lw_g (lw_at lw_m7 2 rfl) rfl
theorem q1554 : (Jvm.Cond.laysFinal "RainWalkModel" "RainWalkModel" "d" "[J") ∈ lw_all := lw_g (lw_at lw_m7 3 rfl) rfl
theorem q1555 : (Jvm.Cond.soleField "RainWalkModel" "d") ∈ lw_all := lw_g (lw_at lw_m7 4 rfl) rfl
theorem q1556 : (Jvm.Cond.laysFinal "RainWalkModel" "RainWalkModel" "past" "[J") ∈ lw_all := lw_g (lw_at lw_m7 5 rfl) rfl
theorem q1557 : (Jvm.Cond.soleField "RainWalkModel" "past") ∈ lw_all := lw_g (lw_at lw_m7 6 rfl) rfl
theorem q1558 : (Jvm.Cond.laysFinal "RainWalkModel" "RainWalkModel" "kept" "[J") ∈ lw_all := lw_g (lw_at lw_m7 7 rfl) rfl
theorem q1559 : (Jvm.Cond.soleField "RainWalkModel" "kept") ∈ lw_all := lw_g (lw_at lw_m7 8 rfl) rfl
theorem q1560 : (Jvm.Cond.lays "RainWalkModel" "RainWalkModel" "acts" "I") ∈ lw_all := lw_g (lw_at lw_m7 9 rfl) rfl
theorem q1561 : (Jvm.Cond.soleField "RainWalkModel" "acts") ∈ lw_all := lw_g (lw_at lw_m7 10 rfl) rfl
theorem q1562 : (Jvm.Cond.lays "RainWalkModel" "RainWalkModel" "marks" "I") ∈ lw_all := lw_g (lw_at lw_m7 11 rfl) rfl
theorem q1563 : (Jvm.Cond.soleField "RainWalkModel" "marks") ∈ lw_all := lw_g (lw_at lw_m7 12 rfl) rfl
theorem q1564 : (Jvm.Cond.superclass "RainWalkModel" "java/lang/Object") ∈ lw_all := lw_g (lw_at lw_m7 13 rfl) rfl
theorem q1566 : (Jvm.Cond.instanceMethod ({ cls := "RainWalkModel", name := "thrown", desc := "()I" } : Jvm.MethodName)) ∈ lw_all := lw_g (lw_at lw_m7 15 rfl) rfl
theorem q1567 : (Jvm.Cond.selects "RainWalkModel" ({ cls := "RainWalkModel", name := "thrown", desc := "()I" } : Jvm.MethodName) ({ cls := "RainWalkModel", name := "thrown", desc := "()I" } : Jvm.MethodName)) ∈ lw_all := lw_g (lw_at lw_m7 16 rfl) rfl
theorem q1568 : (Jvm.Cond.code ({ cls := "RainWalkModel", name := "thrown", desc := "()I" } : Jvm.MethodName) prog_19_method_2_code (1 : Nat) (Option.some Jvm.ClassFile.FieldType.int)) ∈ lw_all := lw_g (lw_at lw_m7 17 rfl) rfl
theorem q1570 : (Jvm.Cond.instanceMethod ({ cls := "RainWalkModel", name := "feed", desc := "(IIIII)I" } : Jvm.MethodName)) ∈ lw_all := lw_g (lw_at lw_m7 19 rfl) rfl
theorem q1571 : (Jvm.Cond.selects "RainWalkModel" ({ cls := "RainWalkModel", name := "feed", desc := "(IIIII)I" } : Jvm.MethodName) ({ cls := "RainWalkModel", name := "feed", desc := "(IIIII)I" } : Jvm.MethodName)) ∈ lw_all := lw_g (lw_at lw_m7 20 rfl) rfl
theorem q1572 : (Jvm.Cond.code ({ cls := "RainWalkModel", name := "feed", desc := "(IIIII)I" } : Jvm.MethodName) prog_19_method_36_code (8 : Nat) (Option.some Jvm.ClassFile.FieldType.int)) ∈ lw_all := lw_g (lw_at lw_m7 21 rfl) rfl
theorem q1574 : (Jvm.Cond.instanceMethod ({ cls := "RainWalkModel", name := "world", desc := "(I)I" } : Jvm.MethodName)) ∈ lw_all := lw_g (lw_at lw_m7 23 rfl) rfl
theorem q1575 : (Jvm.Cond.selects "RainWalkModel" ({ cls := "RainWalkModel", name := "world", desc := "(I)I" } : Jvm.MethodName) ({ cls := "RainWalkModel", name := "world", desc := "(I)I" } : Jvm.MethodName)) ∈ lw_all := lw_g (lw_at lw_m7 24 rfl) rfl
theorem q1576 : (Jvm.Cond.code ({ cls := "RainWalkModel", name := "world", desc := "(I)I" } : Jvm.MethodName) prog_19_method_37_code (2 : Nat) (Option.some Jvm.ClassFile.FieldType.int)) ∈ lw_all := lw_g (lw_at lw_m7 25 rfl) rfl
theorem q1577 : (Jvm.Cond.methodLink "RainWalkModel" (46 : Nat) ({ cls := "RainWalkModel", name := "refused", desc := "(I)I" } : Jvm.MethodName)) ∈ lw_all := lw_g (lw_at lw_m7 26 rfl) rfl
theorem q1578 : (Jvm.Cond.privateMethod ({ cls := "RainWalkModel", name := "refused", desc := "(I)I" } : Jvm.MethodName)) ∈ lw_tbl := lw_at lw_m7 27 rfl
theorem q1579 : (Jvm.Cond.instanceMethod ({ cls := "RainWalkModel", name := "refused", desc := "(I)I" } : Jvm.MethodName)) ∈ lw_all := lw_g (lw_at lw_m7 28 rfl) rfl
theorem q1580 : (Jvm.Cond.code ({ cls := "RainWalkModel", name := "refused", desc := "(I)I" } : Jvm.MethodName) prog_19_method_3_code (2 : Nat) (Option.some Jvm.ClassFile.FieldType.int)) ∈ lw_all := lw_g (lw_at lw_m7 29 rfl) rfl
theorem q1581 : (Jvm.Cond.classLink "RainWalkModel" (152 : Nat) "RainWalkModel$World") ∈ lw_all := lw_g (lw_at lw_m7 30 rfl) rfl
theorem q1583 : (Jvm.Cond.methodLinkNest "RainWalkModel" (334 : Nat) ({ cls := "RainWalkModel$World", name := "<init>", desc := "()V" } : Jvm.MethodName) "RainWalkModel") ∈ lw_tbl := lw_at lw_m7 32 rfl
theorem q1587 : (Jvm.Cond.fieldLinkNest "RainWalkModel" (151 : Nat) "RainWalkModel$World" "hour" "I" "RainWalkModel") ∈ lw_tbl := lw_at lw_m7 36 rfl
theorem q1588 : (Jvm.Cond.fieldLinkNest "RainWalkModel" (219 : Nat) "RainWalkModel$World" "hours" "I" "RainWalkModel") ∈ lw_tbl := lw_at lw_m7 37 rfl
theorem q1589 : (Jvm.Cond.fieldLinkNest "RainWalkModel" (190 : Nat) "RainWalkModel$World" "places" "I" "RainWalkModel") ∈ lw_tbl := lw_at lw_m7 38 rfl
theorem q1590 : (Jvm.Cond.fieldLinkNest "RainWalkModel" (264 : Nat) "RainWalkModel$World" "roads" "I" "RainWalkModel") ∈ lw_tbl := lw_at lw_m7 39 rfl
theorem q1591 : (Jvm.Cond.fieldLinkNest "RainWalkModel" (193 : Nat) "RainWalkModel$World" "walkers" "I" "RainWalkModel") ∈ lw_tbl := lw_at lw_m7 40 rfl
theorem q1592 : (Jvm.Cond.fieldLinkNest "RainWalkModel" (323 : Nat) "RainWalkModel$World" "seens" "I" "RainWalkModel") ∈ lw_tbl := lw_at lw_m7 41 rfl
theorem q1594 : (Jvm.Cond.fieldLinkNest "RainWalkModel" (167 : Nat) "RainWalkModel$World" "names" "I" "RainWalkModel") ∈ lw_tbl := lw_at lw_m7 43 rfl
theorem q1596 : (Jvm.Cond.fieldLinkNest "RainWalkModel" (237 : Nat) "RainWalkModel$World" "drops" "[I" "RainWalkModel") ∈ lw_tbl := lw_at lw_m7 45 rfl
theorem q1598 : (Jvm.Cond.fieldLinkNest "RainWalkModel" (239 : Nat) "RainWalkModel$World" "down" "[I" "RainWalkModel") ∈ lw_tbl := lw_at lw_m7 47 rfl
theorem q1600 : (Jvm.Cond.fieldLinkNest "RainWalkModel" (241 : Nat) "RainWalkModel$World" "windSide" "[I" "RainWalkModel") ∈ lw_tbl := lw_at lw_m7 49 rfl
theorem q1602 : (Jvm.Cond.fieldLinkNest "RainWalkModel" (244 : Nat) "RainWalkModel$World" "wind" "[I" "RainWalkModel") ∈ lw_tbl := lw_at lw_m7 51 rfl
theorem q1604 : (Jvm.Cond.fieldLinkNest "RainWalkModel" (246 : Nat) "RainWalkModel$World" "chance" "[I" "RainWalkModel") ∈ lw_tbl := lw_at lw_m7 53 rfl
theorem q1606 : (Jvm.Cond.fieldLinkNest "RainWalkModel" (262 : Nat) "RainWalkModel$World" "tree" "[I" "RainWalkModel") ∈ lw_tbl := lw_at lw_m7 55 rfl
theorem q1608 : (Jvm.Cond.fieldLinkNest "RainWalkModel" (270 : Nat) "RainWalkModel$World" "roadFrom" "[I" "RainWalkModel") ∈ lw_tbl := lw_at lw_m7 57 rfl
theorem q1610 : (Jvm.Cond.fieldLinkNest "RainWalkModel" (273 : Nat) "RainWalkModel$World" "roadTo" "[I" "RainWalkModel") ∈ lw_tbl := lw_at lw_m7 59 rfl
theorem q1612 : (Jvm.Cond.fieldLinkNest "RainWalkModel" (276 : Nat) "RainWalkModel$World" "roadSide" "[I" "RainWalkModel") ∈ lw_tbl := lw_at lw_m7 61 rfl
theorem q1614 : (Jvm.Cond.fieldLinkNest "RainWalkModel" (279 : Nat) "RainWalkModel$World" "roadLong" "[I" "RainWalkModel") ∈ lw_tbl := lw_at lw_m7 63 rfl
theorem q1616 : (Jvm.Cond.fieldLinkNest "RainWalkModel" (282 : Nat) "RainWalkModel$World" "awning" "[I" "RainWalkModel") ∈ lw_tbl := lw_at lw_m7 65 rfl
theorem q1618 : (Jvm.Cond.fieldLinkNest "RainWalkModel" (258 : Nat) "RainWalkModel$World" "isInn" "[Z" "RainWalkModel") ∈ lw_tbl := lw_at lw_m7 67 rfl
theorem q1620 : (Jvm.Cond.fieldLinkNest "RainWalkModel" (302 : Nat) "RainWalkModel$World" "kind" "[I" "RainWalkModel") ∈ lw_tbl := lw_at lw_m7 69 rfl
theorem q1622 : (Jvm.Cond.fieldLinkNest "RainWalkModel" (305 : Nat) "RainWalkModel$World" "much" "[I" "RainWalkModel") ∈ lw_tbl := lw_at lw_m7 71 rfl
theorem q1624 : (Jvm.Cond.fieldLinkNest "RainWalkModel" (308 : Nat) "RainWalkModel$World" "top" "[I" "RainWalkModel") ∈ lw_tbl := lw_at lw_m7 73 rfl
theorem q1626 : (Jvm.Cond.fieldLinkNest "RainWalkModel" (311 : Nat) "RainWalkModel$World" "front" "[I" "RainWalkModel") ∈ lw_tbl := lw_at lw_m7 75 rfl
theorem q1628 : (Jvm.Cond.fieldLinkNest "RainWalkModel" (314 : Nat) "RainWalkModel$World" "side" "[I" "RainWalkModel") ∈ lw_tbl := lw_at lw_m7 77 rfl
theorem q1630 : (Jvm.Cond.fieldLinkNest "RainWalkModel" (317 : Nat) "RainWalkModel$World" "slowest" "[I" "RainWalkModel") ∈ lw_tbl := lw_at lw_m7 79 rfl
theorem q1632 : (Jvm.Cond.fieldLinkNest "RainWalkModel" (320 : Nat) "RainWalkModel$World" "fastest" "[I" "RainWalkModel") ∈ lw_tbl := lw_at lw_m7 81 rfl
theorem q1634 : (Jvm.Cond.fieldLinkNest "RainWalkModel" (328 : Nat) "RainWalkModel$World" "seenWho" "[I" "RainWalkModel") ∈ lw_tbl := lw_at lw_m7 83 rfl
theorem q1636 : (Jvm.Cond.fieldLinkNest "RainWalkModel" (326 : Nat) "RainWalkModel$World" "seen" "[I" "RainWalkModel") ∈ lw_tbl := lw_at lw_m7 85 rfl
theorem q1638 : (Jvm.Cond.fieldLinkNest "RainWalkModel" (164 : Nat) "RainWalkModel$World" "name" "[J" "RainWalkModel") ∈ lw_tbl := lw_at lw_m7 87 rfl
theorem q1640 : (Jvm.Cond.fieldLinkNest "RainWalkModel" (170 : Nat) "RainWalkModel$World" "nameSort" "[I" "RainWalkModel") ∈ lw_tbl := lw_at lw_m7 89 rfl
theorem q1642 : (Jvm.Cond.fieldLinkNest "RainWalkModel" (173 : Nat) "RainWalkModel$World" "nameNumber" "[I" "RainWalkModel") ∈ lw_tbl := lw_at lw_m7 91 rfl
theorem q1707 : (Jvm.Cond.methodLink "RainWalkModel" (111 : Nat) ({ cls := "RainWalkModel", name := "goesOn", desc := "()V" } : Jvm.MethodName)) ∈ lw_all := lw_g (lw_at lw_m7 156 rfl) rfl
theorem q1708 : (Jvm.Cond.privateMethod ({ cls := "RainWalkModel", name := "goesOn", desc := "()V" } : Jvm.MethodName)) ∈ lw_tbl := lw_at lw_m7 157 rfl
theorem q1709 : (Jvm.Cond.instanceMethod ({ cls := "RainWalkModel", name := "goesOn", desc := "()V" } : Jvm.MethodName)) ∈ lw_all := lw_g (lw_at lw_m7 158 rfl) rfl
theorem q1710 : (Jvm.Cond.code ({ cls := "RainWalkModel", name := "goesOn", desc := "()V" } : Jvm.MethodName) prog_19_method_14_code (3 : Nat) (Option.none : Option Jvm.ClassFile.FieldType)) ∈ lw_all := lw_g (lw_at lw_m7 159 rfl) rfl
theorem q1711 : (Jvm.Cond.methodLink "RainWalkModel" (74 : Nat) ({ cls := "RainWalkModel", name := "byteAt", desc := "(I)I" } : Jvm.MethodName)) ∈ lw_all := lw_g (lw_at lw_m7 160 rfl) rfl
theorem q1712 : (Jvm.Cond.privateMethod ({ cls := "RainWalkModel", name := "byteAt", desc := "(I)I" } : Jvm.MethodName)) ∈ lw_tbl := lw_at lw_m7 161 rfl
theorem q1713 : (Jvm.Cond.instanceMethod ({ cls := "RainWalkModel", name := "byteAt", desc := "(I)I" } : Jvm.MethodName)) ∈ lw_all := lw_g (lw_at lw_m7 162 rfl) rfl
theorem q1714 : (Jvm.Cond.code ({ cls := "RainWalkModel", name := "byteAt", desc := "(I)I" } : Jvm.MethodName) prog_19_method_10_code (2 : Nat) (Option.some Jvm.ClassFile.FieldType.int)) ∈ lw_all := lw_g (lw_at lw_m7 163 rfl) rfl
theorem q1715 : (Jvm.Cond.methodLink "RainWalkModel" (83 : Nat) ({ cls := "RainWalkModel", name := "isLetter", desc := "(I)Z" } : Jvm.MethodName)) ∈ lw_all := lw_g (lw_at lw_m7 164 rfl) rfl
theorem q1716 : (Jvm.Cond.static ({ cls := "RainWalkModel", name := "isLetter", desc := "(I)Z" } : Jvm.MethodName)) ∈ lw_all := lw_g (lw_at lw_m7 165 rfl) rfl
theorem q1717 : (Jvm.Cond.code ({ cls := "RainWalkModel", name := "isLetter", desc := "(I)Z" } : Jvm.MethodName) prog_19_method_11_code (1 : Nat) (Option.some Jvm.ClassFile.FieldType.boolean)) ∈ lw_all := lw_g (lw_at lw_m7 166 rfl) rfl
theorem q1718 : (Jvm.Cond.constantLong "RainWalkModel" (62 : Nat) (32 : Int64)) ∈ lw_all := lw_g (lw_at lw_m7 167 rfl) rfl
theorem q1719 : (Jvm.Cond.methodLink "RainWalkModel" (91 : Nat) ({ cls := "RainWalkModel", name := "isDigit", desc := "(I)Z" } : Jvm.MethodName)) ∈ lw_all := lw_g (lw_at lw_m7 168 rfl) rfl
theorem q1720 : (Jvm.Cond.static ({ cls := "RainWalkModel", name := "isDigit", desc := "(I)Z" } : Jvm.MethodName)) ∈ lw_all := lw_g (lw_at lw_m7 169 rfl) rfl
theorem q1721 : (Jvm.Cond.code ({ cls := "RainWalkModel", name := "isDigit", desc := "(I)Z" } : Jvm.MethodName) prog_19_method_12_code (1 : Nat) (Option.some Jvm.ClassFile.FieldType.boolean)) ∈ lw_all := lw_g (lw_at lw_m7 170 rfl) rfl
theorem q1722 : (Jvm.Cond.methodLink "RainWalkModel" (335 : Nat) ({ cls := "RainWalkModel", name := "readAll", desc := "()V" } : Jvm.MethodName)) ∈ lw_all := lw_g (lw_at lw_m7 171 rfl) rfl
theorem q1723 : (Jvm.Cond.privateMethod ({ cls := "RainWalkModel", name := "readAll", desc := "()V" } : Jvm.MethodName)) ∈ lw_tbl := lw_at lw_m7 172 rfl
theorem q1724 : (Jvm.Cond.instanceMethod ({ cls := "RainWalkModel", name := "readAll", desc := "()V" } : Jvm.MethodName)) ∈ lw_all := lw_g (lw_at lw_m7 173 rfl) rfl
theorem q1725 : (Jvm.Cond.code ({ cls := "RainWalkModel", name := "readAll", desc := "()V" } : Jvm.MethodName) prog_19_method_28_code (2 : Nat) (Option.none : Option Jvm.ClassFile.FieldType)) ∈ lw_all := lw_g (lw_at lw_m7 174 rfl) rfl
theorem q1726 : (Jvm.Cond.methodLink "RainWalkModel" (184 : Nat) ({ cls := "RainWalkModel", name := "readLine", desc := "()V" } : Jvm.MethodName)) ∈ lw_all := lw_g (lw_at lw_m7 175 rfl) rfl
theorem q1727 : (Jvm.Cond.privateMethod ({ cls := "RainWalkModel", name := "readLine", desc := "()V" } : Jvm.MethodName)) ∈ lw_tbl := lw_at lw_m7 176 rfl
theorem q1728 : (Jvm.Cond.instanceMethod ({ cls := "RainWalkModel", name := "readLine", desc := "()V" } : Jvm.MethodName)) ∈ lw_all := lw_g (lw_at lw_m7 177 rfl) rfl
theorem q1729 : (Jvm.Cond.code ({ cls := "RainWalkModel", name := "readLine", desc := "()V" } : Jvm.MethodName) prog_19_method_29_code (1 : Nat) (Option.none : Option Jvm.ClassFile.FieldType)) ∈ lw_all := lw_g (lw_at lw_m7 178 rfl) rfl
theorem q1730 : (Jvm.Cond.stringRef "RainWalkModel" (130 : Nat) "world") ∈ lw_tbl := lw_at lw_m7 179 rfl
theorem q1731 : (Jvm.Cond.methodLink "RainWalkModel" (107 : Nat) ({ cls := "RainWalkModel", name := "isWord", desc := "(Ljava/lang/String;)Z" } : Jvm.MethodName)) ∈ lw_all := lw_g (lw_at lw_m7 180 rfl) rfl
theorem q1732 : (Jvm.Cond.privateMethod ({ cls := "RainWalkModel", name := "isWord", desc := "(Ljava/lang/String;)Z" } : Jvm.MethodName)) ∈ lw_tbl := lw_at lw_m7 181 rfl
theorem q1733 : (Jvm.Cond.instanceMethod ({ cls := "RainWalkModel", name := "isWord", desc := "(Ljava/lang/String;)Z" } : Jvm.MethodName)) ∈ lw_all := lw_g (lw_at lw_m7 182 rfl) rfl
theorem q1734 : (Jvm.Cond.code ({ cls := "RainWalkModel", name := "isWord", desc := "(Ljava/lang/String;)Z" } : Jvm.MethodName) prog_19_method_16_code (2 : Nat) (Option.some Jvm.ClassFile.FieldType.boolean)) ∈ lw_all := lw_g (lw_at lw_m7 183 rfl) rfl
theorem q1735 : (Jvm.Cond.methodLink "RainWalkModel" (103 : Nat) ({ cls := "RainWalkModel", name := "wordOf", desc := "(Ljava/lang/String;)J" } : Jvm.MethodName)) ∈ lw_all := lw_g (lw_at lw_m7 184 rfl) rfl
theorem q1736 : (Jvm.Cond.static ({ cls := "RainWalkModel", name := "wordOf", desc := "(Ljava/lang/String;)J" } : Jvm.MethodName)) ∈ lw_all := lw_g (lw_at lw_m7 185 rfl) rfl
theorem q1737 : (Jvm.Cond.code ({ cls := "RainWalkModel", name := "wordOf", desc := "(Ljava/lang/String;)J" } : Jvm.MethodName) prog_19_method_13_code (4 : Nat) (Option.some Jvm.ClassFile.FieldType.long)) ∈ lw_all := lw_g (lw_at lw_m7 186 rfl) rfl
theorem q1738 : (Jvm.Cond.methodLink "RainWalkModel" (56 : Nat) ({ cls := "java/lang/String", name := "length", desc := "()I" } : Jvm.MethodName)) ∈ lw_all := lw_g (lw_at lw_m7 187 rfl) rfl
theorem q1746 : (Jvm.Cond.methodLink "RainWalkModel" (64 : Nat) ({ cls := "java/lang/String", name := "charAt", desc := "(I)C" } : Jvm.MethodName)) ∈ lw_all := lw_g (lw_at lw_m7 195 rfl) rfl
theorem q1766 : (Jvm.Cond.methodLink "RainWalkModel" (196 : Nat) ({ cls := "RainWalkModel", name := "readWorld", desc := "()V" } : Jvm.MethodName)) ∈ lw_all := lw_g (lw_at lw_m7 215 rfl) rfl
theorem q1767 : (Jvm.Cond.privateMethod ({ cls := "RainWalkModel", name := "readWorld", desc := "()V" } : Jvm.MethodName)) ∈ lw_tbl := lw_at lw_m7 216 rfl
theorem q1768 : (Jvm.Cond.instanceMethod ({ cls := "RainWalkModel", name := "readWorld", desc := "()V" } : Jvm.MethodName)) ∈ lw_all := lw_g (lw_at lw_m7 217 rfl) rfl
theorem q1769 : (Jvm.Cond.code ({ cls := "RainWalkModel", name := "readWorld", desc := "()V" } : Jvm.MethodName) prog_19_method_30_code (2 : Nat) (Option.none : Option Jvm.ClassFile.FieldType)) ∈ lw_all := lw_g (lw_at lw_m7 218 rfl) rfl
theorem q1770 : (Jvm.Cond.methodLink "RainWalkModel" (114 : Nat) ({ cls := "RainWalkModel", name := "flaw", desc := "(I)V" } : Jvm.MethodName)) ∈ lw_all := lw_g (lw_at lw_m7 219 rfl) rfl
theorem q1771 : (Jvm.Cond.privateMethod ({ cls := "RainWalkModel", name := "flaw", desc := "(I)V" } : Jvm.MethodName)) ∈ lw_tbl := lw_at lw_m7 220 rfl
theorem q1772 : (Jvm.Cond.instanceMethod ({ cls := "RainWalkModel", name := "flaw", desc := "(I)V" } : Jvm.MethodName)) ∈ lw_all := lw_g (lw_at lw_m7 221 rfl) rfl
theorem q1773 : (Jvm.Cond.code ({ cls := "RainWalkModel", name := "flaw", desc := "(I)V" } : Jvm.MethodName) prog_19_method_15_code (2 : Nat) (Option.none : Option Jvm.ClassFile.FieldType)) ∈ lw_all := lw_g (lw_at lw_m7 222 rfl) rfl
theorem q1774 : (Jvm.Cond.stringRef "RainWalkModel" (214 : Nat) "hour") ∈ lw_tbl := lw_at lw_m7 223 rfl
theorem q1775 : (Jvm.Cond.methodLink "RainWalkModel" (215 : Nat) ({ cls := "RainWalkModel", name := "readPart", desc := "(Ljava/lang/String;II)I" } : Jvm.MethodName)) ∈ lw_all := lw_g (lw_at lw_m7 224 rfl) rfl
theorem q1776 : (Jvm.Cond.privateMethod ({ cls := "RainWalkModel", name := "readPart", desc := "(Ljava/lang/String;II)I" } : Jvm.MethodName)) ∈ lw_tbl := lw_at lw_m7 225 rfl
theorem q1777 : (Jvm.Cond.instanceMethod ({ cls := "RainWalkModel", name := "readPart", desc := "(Ljava/lang/String;II)I" } : Jvm.MethodName)) ∈ lw_all := lw_g (lw_at lw_m7 226 rfl) rfl
theorem q1778 : (Jvm.Cond.code ({ cls := "RainWalkModel", name := "readPart", desc := "(Ljava/lang/String;II)I" } : Jvm.MethodName) prog_19_method_21_code (4 : Nat) (Option.some Jvm.ClassFile.FieldType.int)) ∈ lw_all := lw_g (lw_at lw_m7 227 rfl) rfl
theorem q1779 : (Jvm.Cond.methodLink "RainWalkModel" (122 : Nat) ({ cls := "RainWalkModel", name := "needs", desc := "(Ljava/lang/String;)V" } : Jvm.MethodName)) ∈ lw_all := lw_g (lw_at lw_m7 228 rfl) rfl
theorem q1780 : (Jvm.Cond.privateMethod ({ cls := "RainWalkModel", name := "needs", desc := "(Ljava/lang/String;)V" } : Jvm.MethodName)) ∈ lw_tbl := lw_at lw_m7 229 rfl
theorem q1781 : (Jvm.Cond.instanceMethod ({ cls := "RainWalkModel", name := "needs", desc := "(Ljava/lang/String;)V" } : Jvm.MethodName)) ∈ lw_all := lw_g (lw_at lw_m7 230 rfl) rfl
theorem q1782 : (Jvm.Cond.code ({ cls := "RainWalkModel", name := "needs", desc := "(Ljava/lang/String;)V" } : Jvm.MethodName) prog_19_method_19_code (2 : Nat) (Option.none : Option Jvm.ClassFile.FieldType)) ∈ lw_all := lw_g (lw_at lw_m7 231 rfl) rfl
theorem q1783 : (Jvm.Cond.methodLink "RainWalkModel" (126 : Nat) ({ cls := "RainWalkModel", name := "readWhole", desc := "(II)I" } : Jvm.MethodName)) ∈ lw_all := lw_g (lw_at lw_m7 232 rfl) rfl
theorem q1784 : (Jvm.Cond.privateMethod ({ cls := "RainWalkModel", name := "readWhole", desc := "(II)I" } : Jvm.MethodName)) ∈ lw_tbl := lw_at lw_m7 233 rfl
theorem q1785 : (Jvm.Cond.instanceMethod ({ cls := "RainWalkModel", name := "readWhole", desc := "(II)I" } : Jvm.MethodName)) ∈ lw_all := lw_g (lw_at lw_m7 234 rfl) rfl
theorem q1786 : (Jvm.Cond.code ({ cls := "RainWalkModel", name := "readWhole", desc := "(II)I" } : Jvm.MethodName) prog_19_method_20_code (4 : Nat) (Option.some Jvm.ClassFile.FieldType.int)) ∈ lw_all := lw_g (lw_at lw_m7 235 rfl) rfl
theorem q1787 : (Jvm.Cond.methodLink "RainWalkModel" (118 : Nat) ({ cls := "RainWalkModel", name := "in", desc := "(III)Z" } : Jvm.MethodName)) ∈ lw_all := lw_g (lw_at lw_m7 236 rfl) rfl
theorem q1788 : (Jvm.Cond.static ({ cls := "RainWalkModel", name := "in", desc := "(III)Z" } : Jvm.MethodName)) ∈ lw_all := lw_g (lw_at lw_m7 237 rfl) rfl
theorem q1789 : (Jvm.Cond.code ({ cls := "RainWalkModel", name := "in", desc := "(III)Z" } : Jvm.MethodName) prog_19_method_8_code (3 : Nat) (Option.some Jvm.ClassFile.FieldType.boolean)) ∈ lw_all := lw_g (lw_at lw_m7 238 rfl) rfl
theorem q1790 : (Jvm.Cond.stringRef "RainWalkModel" (132 : Nat) "rain") ∈ lw_tbl := lw_at lw_m7 239 rfl
theorem q1791 : (Jvm.Cond.methodLink "RainWalkModel" (199 : Nat) ({ cls := "RainWalkModel", name := "readRain", desc := "()V" } : Jvm.MethodName)) ∈ lw_all := lw_g (lw_at lw_m8 0 rfl) rfl
theorem q1792 : (Jvm.Cond.privateMethod ({ cls := "RainWalkModel", name := "readRain", desc := "()V" } : Jvm.MethodName)) ∈ lw_tbl := lw_at lw_m8 1 rfl
theorem q1793 : (Jvm.Cond.instanceMethod ({ cls := "RainWalkModel", name := "readRain", desc := "()V" } : Jvm.MethodName)) ∈ lw_all := lw_g (lw_at lw_m8 2 rfl) rfl
theorem q1794 : (Jvm.Cond.code ({ cls := "RainWalkModel", name := "readRain", desc := "()V" } : Jvm.MethodName) prog_19_method_31_code (6 : Nat) (Option.none : Option Jvm.ClassFile.FieldType)) ∈ lw_all := lw_g (lw_at lw_m8 3 rfl) rfl
theorem q1795 : (Jvm.Cond.methodLink "RainWalkModel" (222 : Nat) ({ cls := "RainWalkModel", name := "begins", desc := "(II)V" } : Jvm.MethodName)) ∈ lw_all := lw_g (lw_at lw_m8 4 rfl) rfl
theorem q1796 : (Jvm.Cond.privateMethod ({ cls := "RainWalkModel", name := "begins", desc := "(II)V" } : Jvm.MethodName)) ∈ lw_tbl := lw_at lw_m8 5 rfl
theorem q1797 : (Jvm.Cond.instanceMethod ({ cls := "RainWalkModel", name := "begins", desc := "(II)V" } : Jvm.MethodName)) ∈ lw_all := lw_g (lw_at lw_m8 6 rfl) rfl
theorem q1798 : (Jvm.Cond.code ({ cls := "RainWalkModel", name := "begins", desc := "(II)V" } : Jvm.MethodName) prog_19_method_23_code (3 : Nat) (Option.none : Option Jvm.ClassFile.FieldType)) ∈ lw_all := lw_g (lw_at lw_m8 7 rfl) rfl
theorem q1799 : (Jvm.Cond.stringRef "RainWalkModel" (226 : Nat) "drops") ∈ lw_tbl := lw_at lw_m8 8 rfl
theorem q1800 : (Jvm.Cond.stringRef "RainWalkModel" (228 : Nat) "down") ∈ lw_tbl := lw_at lw_m8 9 rfl
theorem q1801 : (Jvm.Cond.stringRef "RainWalkModel" (230 : Nat) "wind") ∈ lw_tbl := lw_at lw_m8 10 rfl
theorem q1802 : (Jvm.Cond.methodLink "RainWalkModel" (232 : Nat) ({ cls := "RainWalkModel", name := "readSide", desc := "()I" } : Jvm.MethodName)) ∈ lw_all := lw_g (lw_at lw_m8 11 rfl) rfl
theorem q1803 : (Jvm.Cond.privateMethod ({ cls := "RainWalkModel", name := "readSide", desc := "()I" } : Jvm.MethodName)) ∈ lw_tbl := lw_at lw_m8 12 rfl
theorem q1804 : (Jvm.Cond.instanceMethod ({ cls := "RainWalkModel", name := "readSide", desc := "()I" } : Jvm.MethodName)) ∈ lw_all := lw_g (lw_at lw_m8 13 rfl) rfl
theorem q1805 : (Jvm.Cond.code ({ cls := "RainWalkModel", name := "readSide", desc := "()I" } : Jvm.MethodName) prog_19_method_27_code (2 : Nat) (Option.some Jvm.ClassFile.FieldType.int)) ∈ lw_all := lw_g (lw_at lw_m8 14 rfl) rfl
theorem q1806 : (Jvm.Cond.stringRef "RainWalkModel" (176 : Nat) "north") ∈ lw_tbl := lw_at lw_m8 15 rfl
theorem q1807 : (Jvm.Cond.stringRef "RainWalkModel" (178 : Nat) "east") ∈ lw_tbl := lw_at lw_m8 16 rfl
theorem q1808 : (Jvm.Cond.stringRef "RainWalkModel" (180 : Nat) "south") ∈ lw_tbl := lw_at lw_m8 17 rfl
theorem q1809 : (Jvm.Cond.stringRef "RainWalkModel" (182 : Nat) "west") ∈ lw_tbl := lw_at lw_m8 18 rfl
theorem q1810 : (Jvm.Cond.stringRef "RainWalkModel" (235 : Nat) "chance") ∈ lw_tbl := lw_at lw_m8 19 rfl
theorem q1811 : (Jvm.Cond.stringRef "RainWalkModel" (134 : Nat) "place") ∈ lw_tbl := lw_at lw_m8 20 rfl
theorem q1812 : (Jvm.Cond.methodLink "RainWalkModel" (202 : Nat) ({ cls := "RainWalkModel", name := "readPlace", desc := "()V" } : Jvm.MethodName)) ∈ lw_all := lw_g (lw_at lw_m8 21 rfl) rfl
theorem q1813 : (Jvm.Cond.privateMethod ({ cls := "RainWalkModel", name := "readPlace", desc := "()V" } : Jvm.MethodName)) ∈ lw_tbl := lw_at lw_m8 22 rfl
theorem q1814 : (Jvm.Cond.instanceMethod ({ cls := "RainWalkModel", name := "readPlace", desc := "()V" } : Jvm.MethodName)) ∈ lw_all := lw_g (lw_at lw_m8 23 rfl) rfl
theorem q1815 : (Jvm.Cond.code ({ cls := "RainWalkModel", name := "readPlace", desc := "()V" } : Jvm.MethodName) prog_19_method_32_code (5 : Nat) (Option.none : Option Jvm.ClassFile.FieldType)) ∈ lw_all := lw_g (lw_at lw_m8 24 rfl) rfl
theorem q1816 : (Jvm.Cond.methodLink "RainWalkModel" (248 : Nat) ({ cls := "RainWalkModel", name := "readFresh", desc := "()J" } : Jvm.MethodName)) ∈ lw_all := lw_g (lw_at lw_m8 25 rfl) rfl
theorem q1817 : (Jvm.Cond.privateMethod ({ cls := "RainWalkModel", name := "readFresh", desc := "()J" } : Jvm.MethodName)) ∈ lw_tbl := lw_at lw_m8 26 rfl
theorem q1818 : (Jvm.Cond.instanceMethod ({ cls := "RainWalkModel", name := "readFresh", desc := "()J" } : Jvm.MethodName)) ∈ lw_all := lw_g (lw_at lw_m8 27 rfl) rfl
theorem q1819 : (Jvm.Cond.code ({ cls := "RainWalkModel", name := "readFresh", desc := "()J" } : Jvm.MethodName) prog_19_method_24_code (3 : Nat) (Option.some Jvm.ClassFile.FieldType.long)) ∈ lw_all := lw_g (lw_at lw_m8 28 rfl) rfl
theorem q1820 : (Jvm.Cond.methodLink "RainWalkModel" (156 : Nat) ({ cls := "RainWalkModel", name := "isName", desc := "()Z" } : Jvm.MethodName)) ∈ lw_all := lw_g (lw_at lw_m8 29 rfl) rfl
theorem q1821 : (Jvm.Cond.privateMethod ({ cls := "RainWalkModel", name := "isName", desc := "()Z" } : Jvm.MethodName)) ∈ lw_tbl := lw_at lw_m8 30 rfl
theorem q1822 : (Jvm.Cond.instanceMethod ({ cls := "RainWalkModel", name := "isName", desc := "()Z" } : Jvm.MethodName)) ∈ lw_all := lw_g (lw_at lw_m8 31 rfl) rfl
theorem q1823 : (Jvm.Cond.code ({ cls := "RainWalkModel", name := "isName", desc := "()Z" } : Jvm.MethodName) prog_19_method_22_code (1 : Nat) (Option.some Jvm.ClassFile.FieldType.boolean)) ∈ lw_all := lw_g (lw_at lw_m8 32 rfl) rfl
theorem q1824 : (Jvm.Cond.stringRef "RainWalkModel" (135 : Nat) "road") ∈ lw_tbl := lw_at lw_m8 33 rfl
theorem q1825 : (Jvm.Cond.stringRef "RainWalkModel" (137 : Nat) "walker") ∈ lw_tbl := lw_at lw_m8 34 rfl
theorem q1826 : (Jvm.Cond.stringRef "RainWalkModel" (139 : Nat) "seen") ∈ lw_tbl := lw_at lw_m8 35 rfl
theorem q1827 : (Jvm.Cond.stringRef "RainWalkModel" (141 : Nat) "inn") ∈ lw_tbl := lw_at lw_m8 36 rfl
theorem q1828 : (Jvm.Cond.stringRef "RainWalkModel" (143 : Nat) "tree") ∈ lw_tbl := lw_at lw_m8 37 rfl
theorem q1829 : (Jvm.Cond.stringRef "RainWalkModel" (145 : Nat) "awning") ∈ lw_tbl := lw_at lw_m8 38 rfl
theorem q1830 : (Jvm.Cond.methodLink "RainWalkModel" (160 : Nat) ({ cls := "RainWalkModel$World", name := "find", desc := "(J)I" } : Jvm.MethodName)) ∈ lw_all := lw_g (lw_at lw_m8 39 rfl) rfl
theorem q1834 : (Jvm.Cond.methodLink "RainWalkModel" (252 : Nat) ({ cls := "RainWalkModel", name := "eatsWord", desc := "(Ljava/lang/String;)Z" } : Jvm.MethodName)) ∈ lw_all := lw_g (lw_at lw_m8 43 rfl) rfl
theorem q1835 : (Jvm.Cond.privateMethod ({ cls := "RainWalkModel", name := "eatsWord", desc := "(Ljava/lang/String;)Z" } : Jvm.MethodName)) ∈ lw_tbl := lw_at lw_m8 44 rfl
theorem q1836 : (Jvm.Cond.instanceMethod ({ cls := "RainWalkModel", name := "eatsWord", desc := "(Ljava/lang/String;)Z" } : Jvm.MethodName)) ∈ lw_all := lw_g (lw_at lw_m8 45 rfl) rfl
theorem q1837 : (Jvm.Cond.code ({ cls := "RainWalkModel", name := "eatsWord", desc := "(Ljava/lang/String;)Z" } : Jvm.MethodName) prog_19_method_17_code (3 : Nat) (Option.some Jvm.ClassFile.FieldType.boolean)) ∈ lw_all := lw_g (lw_at lw_m8 46 rfl) rfl
theorem q1838 : (Jvm.Cond.methodLink "RainWalkModel" (255 : Nat) ({ cls := "RainWalkModel", name := "names", desc := "(JII)V" } : Jvm.MethodName)) ∈ lw_all := lw_g (lw_at lw_m8 47 rfl) rfl
theorem q1839 : (Jvm.Cond.privateMethod ({ cls := "RainWalkModel", name := "names", desc := "(JII)V" } : Jvm.MethodName)) ∈ lw_tbl := lw_at lw_m8 48 rfl
theorem q1840 : (Jvm.Cond.instanceMethod ({ cls := "RainWalkModel", name := "names", desc := "(JII)V" } : Jvm.MethodName)) ∈ lw_all := lw_g (lw_at lw_m8 49 rfl) rfl
theorem q1841 : (Jvm.Cond.code ({ cls := "RainWalkModel", name := "names", desc := "(JII)V" } : Jvm.MethodName) prog_19_method_25_code (5 : Nat) (Option.none : Option Jvm.ClassFile.FieldType)) ∈ lw_all := lw_g (lw_at lw_m8 50 rfl) rfl
theorem q1842 : (Jvm.Cond.methodLink "RainWalkModel" (205 : Nat) ({ cls := "RainWalkModel", name := "readRoad", desc := "()V" } : Jvm.MethodName)) ∈ lw_all := lw_g (lw_at lw_m8 51 rfl) rfl
theorem q1843 : (Jvm.Cond.privateMethod ({ cls := "RainWalkModel", name := "readRoad", desc := "()V" } : Jvm.MethodName)) ∈ lw_tbl := lw_at lw_m8 52 rfl
theorem q1844 : (Jvm.Cond.instanceMethod ({ cls := "RainWalkModel", name := "readRoad", desc := "()V" } : Jvm.MethodName)) ∈ lw_all := lw_g (lw_at lw_m8 53 rfl) rfl
theorem q1845 : (Jvm.Cond.code ({ cls := "RainWalkModel", name := "readRoad", desc := "()V" } : Jvm.MethodName) prog_19_method_33_code (7 : Nat) (Option.none : Option Jvm.ClassFile.FieldType)) ∈ lw_all := lw_g (lw_at lw_m8 54 rfl) rfl
theorem q1846 : (Jvm.Cond.methodLink "RainWalkModel" (267 : Nat) ({ cls := "RainWalkModel", name := "known", desc := "(I)I" } : Jvm.MethodName)) ∈ lw_all := lw_g (lw_at lw_m8 55 rfl) rfl
theorem q1847 : (Jvm.Cond.privateMethod ({ cls := "RainWalkModel", name := "known", desc := "(I)I" } : Jvm.MethodName)) ∈ lw_tbl := lw_at lw_m8 56 rfl
theorem q1848 : (Jvm.Cond.instanceMethod ({ cls := "RainWalkModel", name := "known", desc := "(I)I" } : Jvm.MethodName)) ∈ lw_all := lw_g (lw_at lw_m8 57 rfl) rfl
theorem q1849 : (Jvm.Cond.code ({ cls := "RainWalkModel", name := "known", desc := "(I)I" } : Jvm.MethodName) prog_19_method_26_code (3 : Nat) (Option.some Jvm.ClassFile.FieldType.int)) ∈ lw_all := lw_g (lw_at lw_m8 58 rfl) rfl
theorem q1850 : (Jvm.Cond.methodLink "RainWalkModel" (208 : Nat) ({ cls := "RainWalkModel", name := "readWalker", desc := "()V" } : Jvm.MethodName)) ∈ lw_all := lw_g (lw_at lw_m8 59 rfl) rfl
theorem q1851 : (Jvm.Cond.privateMethod ({ cls := "RainWalkModel", name := "readWalker", desc := "()V" } : Jvm.MethodName)) ∈ lw_tbl := lw_at lw_m8 60 rfl
theorem q1852 : (Jvm.Cond.instanceMethod ({ cls := "RainWalkModel", name := "readWalker", desc := "()V" } : Jvm.MethodName)) ∈ lw_all := lw_g (lw_at lw_m8 61 rfl) rfl
theorem q1853 : (Jvm.Cond.code ({ cls := "RainWalkModel", name := "readWalker", desc := "()V" } : Jvm.MethodName) prog_19_method_34_code (12 : Nat) (Option.none : Option Jvm.ClassFile.FieldType)) ∈ lw_all := lw_g (lw_at lw_m8 62 rfl) rfl
theorem q1854 : (Jvm.Cond.stringRef "RainWalkModel" (284 : Nat) "plain") ∈ lw_tbl := lw_at lw_m8 63 rfl
theorem q1855 : (Jvm.Cond.stringRef "RainWalkModel" (286 : Nat) "bent") ∈ lw_tbl := lw_at lw_m8 64 rfl
theorem q1856 : (Jvm.Cond.stringRef "RainWalkModel" (288 : Nat) "coat") ∈ lw_tbl := lw_at lw_m8 65 rfl
theorem q1857 : (Jvm.Cond.stringRef "RainWalkModel" (290 : Nat) "shield") ∈ lw_tbl := lw_at lw_m8 66 rfl
theorem q1858 : (Jvm.Cond.stringRef "RainWalkModel" (292 : Nat) "broad") ∈ lw_tbl := lw_at lw_m8 67 rfl
theorem q1859 : (Jvm.Cond.stringRef "RainWalkModel" (294 : Nat) "deep") ∈ lw_tbl := lw_at lw_m8 68 rfl
theorem q1860 : (Jvm.Cond.stringRef "RainWalkModel" (296 : Nat) "high") ∈ lw_tbl := lw_at lw_m8 69 rfl
theorem q1861 : (Jvm.Cond.stringRef "RainWalkModel" (298 : Nat) "from") ∈ lw_tbl := lw_at lw_m8 70 rfl
theorem q1862 : (Jvm.Cond.stringRef "RainWalkModel" (300 : Nat) "to") ∈ lw_tbl := lw_at lw_m8 71 rfl
theorem q1863 : (Jvm.Cond.methodLink "RainWalkModel" (211 : Nat) ({ cls := "RainWalkModel", name := "readSeen", desc := "()V" } : Jvm.MethodName)) ∈ lw_all := lw_g (lw_at lw_m8 72 rfl) rfl
theorem q1864 : (Jvm.Cond.privateMethod ({ cls := "RainWalkModel", name := "readSeen", desc := "()V" } : Jvm.MethodName)) ∈ lw_tbl := lw_at lw_m8 73 rfl
theorem q1865 : (Jvm.Cond.instanceMethod ({ cls := "RainWalkModel", name := "readSeen", desc := "()V" } : Jvm.MethodName)) ∈ lw_all := lw_g (lw_at lw_m8 74 rfl) rfl
theorem q1866 : (Jvm.Cond.code ({ cls := "RainWalkModel", name := "readSeen", desc := "()V" } : Jvm.MethodName) prog_19_method_35_code (4 : Nat) (Option.none : Option Jvm.ClassFile.FieldType)) ∈ lw_all := lw_g (lw_at lw_m8 75 rfl) rfl
theorem q1867 : (Jvm.Cond.methodLink "RainWalkModel" (187 : Nat) ({ cls := "RainWalkModel", name := "eatsSign", desc := "(I)Z" } : Jvm.MethodName)) ∈ lw_all := lw_g (lw_at lw_m8 76 rfl) rfl
theorem q1868 : (Jvm.Cond.privateMethod ({ cls := "RainWalkModel", name := "eatsSign", desc := "(I)Z" } : Jvm.MethodName)) ∈ lw_tbl := lw_at lw_m8 77 rfl
theorem q1869 : (Jvm.Cond.instanceMethod ({ cls := "RainWalkModel", name := "eatsSign", desc := "(I)Z" } : Jvm.MethodName)) ∈ lw_all := lw_g (lw_at lw_m8 78 rfl) rfl
theorem q1870 : (Jvm.Cond.code ({ cls := "RainWalkModel", name := "eatsSign", desc := "(I)Z" } : Jvm.MethodName) prog_19_method_18_code (3 : Nat) (Option.some Jvm.ClassFile.FieldType.boolean)) ∈ lw_all := lw_g (lw_at lw_m8 79 rfl) rfl
theorem q1871 : (Jvm.Cond.methodLink "RainWalkModel" (50 : Nat) ({ cls := "RainWalkModel", name := "good", desc := "(I)I" } : Jvm.MethodName)) ∈ lw_all := lw_g (lw_at lw_m8 80 rfl) rfl
theorem q1872 : (Jvm.Cond.privateMethod ({ cls := "RainWalkModel", name := "good", desc := "(I)I" } : Jvm.MethodName)) ∈ lw_tbl := lw_at lw_m8 81 rfl
theorem q1873 : (Jvm.Cond.instanceMethod ({ cls := "RainWalkModel", name := "good", desc := "(I)I" } : Jvm.MethodName)) ∈ lw_all := lw_g (lw_at lw_m8 82 rfl) rfl
theorem q1874 : (Jvm.Cond.code ({ cls := "RainWalkModel", name := "good", desc := "(I)I" } : Jvm.MethodName) prog_19_method_6_code (2 : Nat) (Option.some Jvm.ClassFile.FieldType.int)) ∈ lw_all := lw_g (lw_at lw_m8 83 rfl) rfl
theorem q1876 : (Jvm.Cond.instanceMethod ({ cls := "RainWalkModel", name := "fault", desc := "()I" } : Jvm.MethodName)) ∈ lw_all := lw_g (lw_at lw_m8 85 rfl) rfl
theorem q1877 : (Jvm.Cond.selects "RainWalkModel" ({ cls := "RainWalkModel", name := "fault", desc := "()I" } : Jvm.MethodName) ({ cls := "RainWalkModel", name := "fault", desc := "()I" } : Jvm.MethodName)) ∈ lw_all := lw_g (lw_at lw_m8 86 rfl) rfl
theorem q1878 : (Jvm.Cond.code ({ cls := "RainWalkModel", name := "fault", desc := "()I" } : Jvm.MethodName) prog_19_method_38_code (1 : Nat) (Option.some Jvm.ClassFile.FieldType.int)) ∈ lw_all := lw_g (lw_at lw_m8 87 rfl) rfl
theorem q1880 : (Jvm.Cond.instanceMethod ({ cls := "RainWalkModel", name := "where", desc := "()I" } : Jvm.MethodName)) ∈ lw_all := lw_g (lw_at lw_m8 89 rfl) rfl
theorem q1881 : (Jvm.Cond.selects "RainWalkModel" ({ cls := "RainWalkModel", name := "where", desc := "()I" } : Jvm.MethodName) ({ cls := "RainWalkModel", name := "where", desc := "()I" } : Jvm.MethodName)) ∈ lw_all := lw_g (lw_at lw_m8 90 rfl) rfl
theorem q1882 : (Jvm.Cond.code ({ cls := "RainWalkModel", name := "where", desc := "()I" } : Jvm.MethodName) prog_19_method_39_code (1 : Nat) (Option.some Jvm.ClassFile.FieldType.int)) ∈ lw_all := lw_g (lw_at lw_m8 91 rfl) rfl
theorem q1884 : (Jvm.Cond.instanceMethod ({ cls := "RainWalkModel", name := "face", desc := "(IIIIIIZ)J" } : Jvm.MethodName)) ∈ lw_all := lw_g (lw_at lw_m8 93 rfl) rfl
theorem q1885 : (Jvm.Cond.selects "RainWalkModel" ({ cls := "RainWalkModel", name := "face", desc := "(IIIIIIZ)J" } : Jvm.MethodName) ({ cls := "RainWalkModel", name := "face", desc := "(IIIIIIZ)J" } : Jvm.MethodName)) ∈ lw_all := lw_g (lw_at lw_m8 94 rfl) rfl
theorem q1886 : (Jvm.Cond.code ({ cls := "RainWalkModel", name := "face", desc := "(IIIIIIZ)J" } : Jvm.MethodName) prog_19_method_51_code (9 : Nat) (Option.some Jvm.ClassFile.FieldType.long)) ∈ lw_all := lw_g (lw_at lw_m8 95 rfl) rfl
theorem q1887 : (Jvm.Cond.methodLink "RainWalkModel" (383 : Nat) ({ cls := "RainWalkModel", name := "refuses", desc := "(IIIII)I" } : Jvm.MethodName)) ∈ lw_all := lw_g (lw_at lw_m8 96 rfl) rfl
theorem q1888 : (Jvm.Cond.privateMethod ({ cls := "RainWalkModel", name := "refuses", desc := "(IIIII)I" } : Jvm.MethodName)) ∈ lw_tbl := lw_at lw_m8 97 rfl
theorem q1889 : (Jvm.Cond.instanceMethod ({ cls := "RainWalkModel", name := "refuses", desc := "(IIIII)I" } : Jvm.MethodName)) ∈ lw_all := lw_g (lw_at lw_m8 98 rfl) rfl
theorem q1890 : (Jvm.Cond.code ({ cls := "RainWalkModel", name := "refuses", desc := "(IIIII)I" } : Jvm.MethodName) prog_19_method_45_code (6 : Nat) (Option.some Jvm.ClassFile.FieldType.int)) ∈ lw_all := lw_g (lw_at lw_m8 99 rfl) rfl
theorem q1891 : (Jvm.Cond.methodLink "RainWalkModel" (346 : Nat) ({ cls := "RainWalkModel", name := "isWalker", desc := "(I)Z" } : Jvm.MethodName)) ∈ lw_all := lw_g (lw_at lw_m8 100 rfl) rfl
theorem q1892 : (Jvm.Cond.privateMethod ({ cls := "RainWalkModel", name := "isWalker", desc := "(I)Z" } : Jvm.MethodName)) ∈ lw_tbl := lw_at lw_m8 101 rfl
theorem q1893 : (Jvm.Cond.instanceMethod ({ cls := "RainWalkModel", name := "isWalker", desc := "(I)Z" } : Jvm.MethodName)) ∈ lw_all := lw_g (lw_at lw_m8 102 rfl) rfl
theorem q1894 : (Jvm.Cond.code ({ cls := "RainWalkModel", name := "isWalker", desc := "(I)Z" } : Jvm.MethodName) prog_19_method_40_code (2 : Nat) (Option.some Jvm.ClassFile.FieldType.boolean)) ∈ lw_all := lw_g (lw_at lw_m8 103 rfl) rfl
theorem q1895 : (Jvm.Cond.methodLink "RainWalkModel" (349 : Nat) ({ cls := "RainWalkModel", name := "isRoad", desc := "(I)Z" } : Jvm.MethodName)) ∈ lw_all := lw_g (lw_at lw_m8 104 rfl) rfl
theorem q1896 : (Jvm.Cond.privateMethod ({ cls := "RainWalkModel", name := "isRoad", desc := "(I)Z" } : Jvm.MethodName)) ∈ lw_tbl := lw_at lw_m8 105 rfl
theorem q1897 : (Jvm.Cond.instanceMethod ({ cls := "RainWalkModel", name := "isRoad", desc := "(I)Z" } : Jvm.MethodName)) ∈ lw_all := lw_g (lw_at lw_m8 106 rfl) rfl
theorem q1898 : (Jvm.Cond.code ({ cls := "RainWalkModel", name := "isRoad", desc := "(I)Z" } : Jvm.MethodName) prog_19_method_41_code (2 : Nat) (Option.some Jvm.ClassFile.FieldType.boolean)) ∈ lw_all := lw_g (lw_at lw_m8 107 rfl) rfl
theorem q1899 : (Jvm.Cond.methodLink "RainWalkModel" (352 : Nat) ({ cls := "RainWalkModel", name := "isHour", desc := "(I)Z" } : Jvm.MethodName)) ∈ lw_all := lw_g (lw_at lw_m8 108 rfl) rfl
theorem q1900 : (Jvm.Cond.privateMethod ({ cls := "RainWalkModel", name := "isHour", desc := "(I)Z" } : Jvm.MethodName)) ∈ lw_tbl := lw_at lw_m8 109 rfl
theorem q1901 : (Jvm.Cond.instanceMethod ({ cls := "RainWalkModel", name := "isHour", desc := "(I)Z" } : Jvm.MethodName)) ∈ lw_all := lw_g (lw_at lw_m8 110 rfl) rfl
theorem q1902 : (Jvm.Cond.code ({ cls := "RainWalkModel", name := "isHour", desc := "(I)Z" } : Jvm.MethodName) prog_19_method_43_code (2 : Nat) (Option.some Jvm.ClassFile.FieldType.boolean)) ∈ lw_all := lw_g (lw_at lw_m8 111 rfl) rfl
theorem q1903 : (Jvm.Cond.methodLink "RainWalkModel" (355 : Nat) ({ cls := "RainWalkModel", name := "isSpeed", desc := "(II)Z" } : Jvm.MethodName)) ∈ lw_all := lw_g (lw_at lw_m8 112 rfl) rfl
theorem q1904 : (Jvm.Cond.privateMethod ({ cls := "RainWalkModel", name := "isSpeed", desc := "(II)Z" } : Jvm.MethodName)) ∈ lw_tbl := lw_at lw_m8 113 rfl
theorem q1905 : (Jvm.Cond.instanceMethod ({ cls := "RainWalkModel", name := "isSpeed", desc := "(II)Z" } : Jvm.MethodName)) ∈ lw_all := lw_g (lw_at lw_m8 114 rfl) rfl
theorem q1906 : (Jvm.Cond.code ({ cls := "RainWalkModel", name := "isSpeed", desc := "(II)Z" } : Jvm.MethodName) prog_19_method_44_code (3 : Nat) (Option.some Jvm.ClassFile.FieldType.boolean)) ∈ lw_all := lw_g (lw_at lw_m8 115 rfl) rfl
theorem q1907 : (Jvm.Cond.methodLink "RainWalkModel" (379 : Nat) ({ cls := "RainWalkModel", name := "partsOf", desc := "(IIIIII)J" } : Jvm.MethodName)) ∈ lw_all := lw_g (lw_at lw_m8 116 rfl) rfl
theorem q1908 : (Jvm.Cond.privateMethod ({ cls := "RainWalkModel", name := "partsOf", desc := "(IIIIII)J" } : Jvm.MethodName)) ∈ lw_tbl := lw_at lw_m8 117 rfl
theorem q1909 : (Jvm.Cond.instanceMethod ({ cls := "RainWalkModel", name := "partsOf", desc := "(IIIIII)J" } : Jvm.MethodName)) ∈ lw_all := lw_g (lw_at lw_m8 118 rfl) rfl
theorem q1910 : (Jvm.Cond.code ({ cls := "RainWalkModel", name := "partsOf", desc := "(IIIIII)J" } : Jvm.MethodName) prog_19_method_49_code (7 : Nat) (Option.some Jvm.ClassFile.FieldType.long)) ∈ lw_all := lw_g (lw_at lw_m8 119 rfl) rfl
theorem q1911 : (Jvm.Cond.methodLink "RainWalkModel" (375 : Nat) ({ cls := "RainWalkModel", name := "inTime", desc := "(IIIIIIII)I" } : Jvm.MethodName)) ∈ lw_all := lw_g (lw_at lw_m8 120 rfl) rfl
theorem q1912 : (Jvm.Cond.privateMethod ({ cls := "RainWalkModel", name := "inTime", desc := "(IIIIIIII)I" } : Jvm.MethodName)) ∈ lw_tbl := lw_at lw_m8 121 rfl
theorem q1913 : (Jvm.Cond.instanceMethod ({ cls := "RainWalkModel", name := "inTime", desc := "(IIIIIIII)I" } : Jvm.MethodName)) ∈ lw_all := lw_g (lw_at lw_m8 122 rfl) rfl
theorem q1914 : (Jvm.Cond.code ({ cls := "RainWalkModel", name := "inTime", desc := "(IIIIIIII)I" } : Jvm.MethodName) prog_19_method_48_code (14 : Nat) (Option.some Jvm.ClassFile.FieldType.int)) ∈ lw_all := lw_g (lw_at lw_m8 123 rfl) rfl
theorem q1915 : (Jvm.Cond.methodLink "RainWalkModel" (361 : Nat) ({ cls := "RainWalkModel$World", name := "air", desc := "(III)I" } : Jvm.MethodName)) ∈ lw_all := lw_g (lw_at lw_m8 124 rfl) rfl
theorem q1923 : (Jvm.Cond.methodLink "RainWalkModel" (365 : Nat) ({ cls := "RainWalkModel$World", name := "across", desc := "(III)I" } : Jvm.MethodName)) ∈ lw_all := lw_g (lw_at lw_m8 132 rfl) rfl
theorem q1927 : (Jvm.Cond.methodLink "RainWalkModel" (368 : Nat) ({ cls := "RainWalkModel", name := "isForward", desc := "(IIIII)Z" } : Jvm.MethodName)) ∈ lw_all := lw_g (lw_at lw_m8 136 rfl) rfl
theorem q1928 : (Jvm.Cond.privateMethod ({ cls := "RainWalkModel", name := "isForward", desc := "(IIIII)Z" } : Jvm.MethodName)) ∈ lw_tbl := lw_at lw_m8 137 rfl
theorem q1929 : (Jvm.Cond.instanceMethod ({ cls := "RainWalkModel", name := "isForward", desc := "(IIIII)Z" } : Jvm.MethodName)) ∈ lw_all := lw_g (lw_at lw_m8 138 rfl) rfl
theorem q1930 : (Jvm.Cond.code ({ cls := "RainWalkModel", name := "isForward", desc := "(IIIII)Z" } : Jvm.MethodName) prog_19_method_46_code (11 : Nat) (Option.some Jvm.ClassFile.FieldType.boolean)) ∈ lw_all := lw_g (lw_at lw_m8 139 rfl) rfl
theorem q1931 : (Jvm.Cond.methodLink "RainWalkModel" (359 : Nat) ({ cls := "RainWalkModel$World", name := "shield", desc := "(I)I" } : Jvm.MethodName)) ∈ lw_all := lw_g (lw_at lw_m8 140 rfl) rfl
theorem q1935 : (Jvm.Cond.methodLink "RainWalkModel" (372 : Nat) ({ cls := "RainWalkModel", name := "less", desc := "(II)I" } : Jvm.MethodName)) ∈ lw_all := lw_g (lw_at lw_m8 144 rfl) rfl
theorem q1936 : (Jvm.Cond.static ({ cls := "RainWalkModel", name := "less", desc := "(II)I" } : Jvm.MethodName)) ∈ lw_all := lw_g (lw_at lw_m8 145 rfl) rfl
theorem q1937 : (Jvm.Cond.code ({ cls := "RainWalkModel", name := "less", desc := "(II)I" } : Jvm.MethodName) prog_19_method_47_code (2 : Nat) (Option.some Jvm.ClassFile.FieldType.int)) ∈ lw_all := lw_g (lw_at lw_m8 146 rfl) rfl
theorem q1938 : (Jvm.Cond.constantLong "RainWalkModel" (387 : Nat) (2520 : Int64)) ∈ lw_all := lw_g (lw_at lw_m8 147 rfl) rfl
theorem q1939 : (Jvm.Cond.methodLink "RainWalkModel" (389 : Nat) ({ cls := "RainWalkModel", name := "told", desc := "(JJZ)J" } : Jvm.MethodName)) ∈ lw_all := lw_g (lw_at lw_m8 148 rfl) rfl
theorem q1940 : (Jvm.Cond.privateMethod ({ cls := "RainWalkModel", name := "told", desc := "(JJZ)J" } : Jvm.MethodName)) ∈ lw_tbl := lw_at lw_m8 149 rfl
theorem q1941 : (Jvm.Cond.instanceMethod ({ cls := "RainWalkModel", name := "told", desc := "(JJZ)J" } : Jvm.MethodName)) ∈ lw_all := lw_g (lw_at lw_m8 150 rfl) rfl
theorem q1942 : (Jvm.Cond.code ({ cls := "RainWalkModel", name := "told", desc := "(JJZ)J" } : Jvm.MethodName) prog_19_method_9_code (12 : Nat) (Option.some Jvm.ClassFile.FieldType.long)) ∈ lw_all := lw_g (lw_at lw_m8 151 rfl) rfl
theorem q1944 : (Jvm.Cond.instanceMethod ({ cls := "RainWalkModel", name := "wet", desc := "(IIIIIZ)J" } : Jvm.MethodName)) ∈ lw_all := lw_g (lw_at lw_m8 153 rfl) rfl
theorem q1945 : (Jvm.Cond.selects "RainWalkModel" ({ cls := "RainWalkModel", name := "wet", desc := "(IIIIIZ)J" } : Jvm.MethodName) ({ cls := "RainWalkModel", name := "wet", desc := "(IIIIIZ)J" } : Jvm.MethodName)) ∈ lw_all := lw_g (lw_at lw_m8 154 rfl) rfl
theorem q1946 : (Jvm.Cond.code ({ cls := "RainWalkModel", name := "wet", desc := "(IIIIIZ)J" } : Jvm.MethodName) prog_19_method_52_code (8 : Nat) (Option.some Jvm.ClassFile.FieldType.long)) ∈ lw_all := lw_g (lw_at lw_m8 155 rfl) rfl
theorem q1947 : (Jvm.Cond.methodLink "RainWalkModel" (393 : Nat) ({ cls := "RainWalkModel", name := "wetOf", desc := "(IIIII)J" } : Jvm.MethodName)) ∈ lw_all := lw_g (lw_at lw_m8 156 rfl) rfl
theorem q1948 : (Jvm.Cond.privateMethod ({ cls := "RainWalkModel", name := "wetOf", desc := "(IIIII)J" } : Jvm.MethodName)) ∈ lw_tbl := lw_at lw_m8 157 rfl
theorem q1949 : (Jvm.Cond.instanceMethod ({ cls := "RainWalkModel", name := "wetOf", desc := "(IIIII)J" } : Jvm.MethodName)) ∈ lw_all := lw_g (lw_at lw_m8 158 rfl) rfl
theorem q1950 : (Jvm.Cond.code ({ cls := "RainWalkModel", name := "wetOf", desc := "(IIIII)J" } : Jvm.MethodName) prog_19_method_50_code (9 : Nat) (Option.some Jvm.ClassFile.FieldType.long)) ∈ lw_all := lw_g (lw_at lw_m8 159 rfl) rfl
theorem q1952 : (Jvm.Cond.instanceMethod ({ cls := "RainWalkModel", name := "mean", desc := "(IIIIIZ)J" } : Jvm.MethodName)) ∈ lw_all := lw_g (lw_at lw_m8 161 rfl) rfl
theorem q1953 : (Jvm.Cond.selects "RainWalkModel" ({ cls := "RainWalkModel", name := "mean", desc := "(IIIIIZ)J" } : Jvm.MethodName) ({ cls := "RainWalkModel", name := "mean", desc := "(IIIIIZ)J" } : Jvm.MethodName)) ∈ lw_all := lw_g (lw_at lw_m8 162 rfl) rfl
theorem q1954 : (Jvm.Cond.code ({ cls := "RainWalkModel", name := "mean", desc := "(IIIIIZ)J" } : Jvm.MethodName) prog_19_method_53_code (8 : Nat) (Option.some Jvm.ClassFile.FieldType.long)) ∈ lw_all := lw_g (lw_at lw_m8 163 rfl) rfl
theorem q1955 : (Jvm.Cond.constantLong "RainWalkModel" (397 : Nat) (252000 : Int64)) ∈ lw_all := lw_g (lw_at lw_m8 164 rfl) rfl
theorem q1957 : (Jvm.Cond.instanceMethod ({ cls := "RainWalkModel", name := "minutes", desc := "(III)I" } : Jvm.MethodName)) ∈ lw_all := lw_g (lw_at lw_m8 166 rfl) rfl
theorem q1958 : (Jvm.Cond.selects "RainWalkModel" ({ cls := "RainWalkModel", name := "minutes", desc := "(III)I" } : Jvm.MethodName) ({ cls := "RainWalkModel", name := "minutes", desc := "(III)I" } : Jvm.MethodName)) ∈ lw_all := lw_g (lw_at lw_m8 167 rfl) rfl
theorem q1959 : (Jvm.Cond.code ({ cls := "RainWalkModel", name := "minutes", desc := "(III)I" } : Jvm.MethodName) prog_19_method_54_code (4 : Nat) (Option.some Jvm.ClassFile.FieldType.int)) ∈ lw_all := lw_g (lw_at lw_m8 168 rfl) rfl
theorem q1960 : (Jvm.Cond.methodLink "RainWalkModel" (399 : Nat) ({ cls := "RainWalkModel$World", name := "minutes", desc := "(II)I" } : Jvm.MethodName)) ∈ lw_all := lw_g (lw_at lw_m8 169 rfl) rfl
theorem q1965 : (Jvm.Cond.instanceMethod ({ cls := "RainWalkModel", name := "air", desc := "(III)I" } : Jvm.MethodName)) ∈ lw_all := lw_g (lw_at lw_m8 174 rfl) rfl
theorem q1966 : (Jvm.Cond.selects "RainWalkModel" ({ cls := "RainWalkModel", name := "air", desc := "(III)I" } : Jvm.MethodName) ({ cls := "RainWalkModel", name := "air", desc := "(III)I" } : Jvm.MethodName)) ∈ lw_all := lw_g (lw_at lw_m8 175 rfl) rfl
theorem q1967 : (Jvm.Cond.code ({ cls := "RainWalkModel", name := "air", desc := "(III)I" } : Jvm.MethodName) prog_19_method_55_code (4 : Nat) (Option.some Jvm.ClassFile.FieldType.int)) ∈ lw_all := lw_g (lw_at lw_m8 176 rfl) rfl
theorem q1968 : (Jvm.Cond.methodLink "RainWalkModel" (402 : Nat) ({ cls := "RainWalkModel", name := "lost", desc := "(I)I" } : Jvm.MethodName)) ∈ lw_all := lw_g (lw_at lw_m8 177 rfl) rfl
theorem q1969 : (Jvm.Cond.privateMethod ({ cls := "RainWalkModel", name := "lost", desc := "(I)I" } : Jvm.MethodName)) ∈ lw_tbl := lw_at lw_m8 178 rfl
theorem q1970 : (Jvm.Cond.instanceMethod ({ cls := "RainWalkModel", name := "lost", desc := "(I)I" } : Jvm.MethodName)) ∈ lw_all := lw_g (lw_at lw_m8 179 rfl) rfl
theorem q1971 : (Jvm.Cond.code ({ cls := "RainWalkModel", name := "lost", desc := "(I)I" } : Jvm.MethodName) prog_19_method_4_code (2 : Nat) (Option.some Jvm.ClassFile.FieldType.int)) ∈ lw_all := lw_g (lw_at lw_m8 180 rfl) rfl
theorem q1973 : (Jvm.Cond.instanceMethod ({ cls := "RainWalkModel", name := "held", desc := "(IIIII)I" } : Jvm.MethodName)) ∈ lw_all := lw_g (lw_at lw_m8 182 rfl) rfl
theorem q1974 : (Jvm.Cond.selects "RainWalkModel" ({ cls := "RainWalkModel", name := "held", desc := "(IIIII)I" } : Jvm.MethodName) ({ cls := "RainWalkModel", name := "held", desc := "(IIIII)I" } : Jvm.MethodName)) ∈ lw_all := lw_g (lw_at lw_m8 183 rfl) rfl
theorem q1975 : (Jvm.Cond.code ({ cls := "RainWalkModel", name := "held", desc := "(IIIII)I" } : Jvm.MethodName) prog_19_method_56_code (7 : Nat) (Option.some Jvm.ClassFile.FieldType.int)) ∈ lw_all := lw_g (lw_at lw_m8 184 rfl) rfl
theorem q1977 : (Jvm.Cond.instanceMethod ({ cls := "RainWalkModel", name := "best", desc := "(IIII)I" } : Jvm.MethodName)) ∈ lw_all := lw_g (lw_at lw_m8 186 rfl) rfl
theorem q1978 : (Jvm.Cond.selects "RainWalkModel" ({ cls := "RainWalkModel", name := "best", desc := "(IIII)I" } : Jvm.MethodName) ({ cls := "RainWalkModel", name := "best", desc := "(IIII)I" } : Jvm.MethodName)) ∈ lw_all := lw_g (lw_at lw_m8 187 rfl) rfl
theorem q1979 : (Jvm.Cond.code ({ cls := "RainWalkModel", name := "best", desc := "(IIII)I" } : Jvm.MethodName) prog_19_method_58_code (5 : Nat) (Option.some Jvm.ClassFile.FieldType.int)) ∈ lw_all := lw_g (lw_at lw_m8 188 rfl) rfl
theorem q1980 : (Jvm.Cond.methodLink "RainWalkModel" (405 : Nat) ({ cls := "RainWalkModel", name := "bestOf", desc := "(IIII)I" } : Jvm.MethodName)) ∈ lw_all := lw_g (lw_at lw_m8 189 rfl) rfl
theorem q1981 : (Jvm.Cond.privateMethod ({ cls := "RainWalkModel", name := "bestOf", desc := "(IIII)I" } : Jvm.MethodName)) ∈ lw_tbl := lw_at lw_m8 190 rfl
theorem q1982 : (Jvm.Cond.instanceMethod ({ cls := "RainWalkModel", name := "bestOf", desc := "(IIII)I" } : Jvm.MethodName)) ∈ lw_all := lw_g (lw_at lw_m8 191 rfl) rfl
theorem q1983 : (Jvm.Cond.code ({ cls := "RainWalkModel", name := "bestOf", desc := "(IIII)I" } : Jvm.MethodName) prog_19_method_57_code (7 : Nat) (Option.some Jvm.ClassFile.FieldType.int)) ∈ lw_all := lw_g (lw_at lw_m8 192 rfl) rfl
theorem q1985 : (Jvm.Cond.instanceMethod ({ cls := "RainWalkModel", name := "saves", desc := "(IIIIZ)J" } : Jvm.MethodName)) ∈ lw_all := lw_g (lw_at lw_m8 194 rfl) rfl
theorem q1986 : (Jvm.Cond.selects "RainWalkModel" ({ cls := "RainWalkModel", name := "saves", desc := "(IIIIZ)J" } : Jvm.MethodName) ({ cls := "RainWalkModel", name := "saves", desc := "(IIIIZ)J" } : Jvm.MethodName)) ∈ lw_all := lw_g (lw_at lw_m8 195 rfl) rfl
theorem q1987 : (Jvm.Cond.code ({ cls := "RainWalkModel", name := "saves", desc := "(IIIIZ)J" } : Jvm.MethodName) prog_19_method_59_code (6 : Nat) (Option.some Jvm.ClassFile.FieldType.long)) ∈ lw_all := lw_g (lw_at lw_m8 196 rfl) rfl
theorem q1989 : (Jvm.Cond.instanceMethod ({ cls := "RainWalkModel", name := "worst", desc := "(IIII)I" } : Jvm.MethodName)) ∈ lw_all := lw_g (lw_at lw_m8 198 rfl) rfl
theorem q1990 : (Jvm.Cond.selects "RainWalkModel" ({ cls := "RainWalkModel", name := "worst", desc := "(IIII)I" } : Jvm.MethodName) ({ cls := "RainWalkModel", name := "worst", desc := "(IIII)I" } : Jvm.MethodName)) ∈ lw_all := lw_g (lw_at lw_m8 199 rfl) rfl
theorem q1991 : (Jvm.Cond.code ({ cls := "RainWalkModel", name := "worst", desc := "(IIII)I" } : Jvm.MethodName) prog_19_method_60_code (7 : Nat) (Option.some Jvm.ClassFile.FieldType.int)) ∈ lw_all := lw_g (lw_at lw_m8 200 rfl) rfl
theorem q1993 : (Jvm.Cond.instanceMethod ({ cls := "RainWalkModel", name := "even", desc := "(IIII)I" } : Jvm.MethodName)) ∈ lw_all := lw_g (lw_at lw_m8 202 rfl) rfl
theorem q1994 : (Jvm.Cond.selects "RainWalkModel" ({ cls := "RainWalkModel", name := "even", desc := "(IIII)I" } : Jvm.MethodName) ({ cls := "RainWalkModel", name := "even", desc := "(IIII)I" } : Jvm.MethodName)) ∈ lw_all := lw_g (lw_at lw_m8 203 rfl) rfl
theorem q1995 : (Jvm.Cond.code ({ cls := "RainWalkModel", name := "even", desc := "(IIII)I" } : Jvm.MethodName) prog_19_method_61_code (7 : Nat) (Option.some Jvm.ClassFile.FieldType.int)) ∈ lw_all := lw_g (lw_at lw_m8 204 rfl) rfl
theorem q1997 : (Jvm.Cond.instanceMethod ({ cls := "RainWalkModel", name := "round", desc := "(IIIZ)J" } : Jvm.MethodName)) ∈ lw_all := lw_g (lw_at lw_m8 206 rfl) rfl
theorem q1998 : (Jvm.Cond.selects "RainWalkModel" ({ cls := "RainWalkModel", name := "round", desc := "(IIIZ)J" } : Jvm.MethodName) ({ cls := "RainWalkModel", name := "round", desc := "(IIIZ)J" } : Jvm.MethodName)) ∈ lw_all := lw_g (lw_at lw_m8 207 rfl) rfl
theorem q1999 : (Jvm.Cond.code ({ cls := "RainWalkModel", name := "round", desc := "(IIIZ)J" } : Jvm.MethodName) prog_19_method_63_code (5 : Nat) (Option.some Jvm.ClassFile.FieldType.long)) ∈ lw_all := lw_g (lw_at lw_m8 208 rfl) rfl
theorem q2000 : (Jvm.Cond.methodLink "RainWalkModel" (409 : Nat) ({ cls := "RainWalkModel", name := "wetAtBest", desc := "(IIII)J" } : Jvm.MethodName)) ∈ lw_all := lw_g (lw_at lw_m8 209 rfl) rfl
theorem q2001 : (Jvm.Cond.privateMethod ({ cls := "RainWalkModel", name := "wetAtBest", desc := "(IIII)J" } : Jvm.MethodName)) ∈ lw_tbl := lw_at lw_m8 210 rfl
theorem q2002 : (Jvm.Cond.instanceMethod ({ cls := "RainWalkModel", name := "wetAtBest", desc := "(IIII)J" } : Jvm.MethodName)) ∈ lw_all := lw_g (lw_at lw_m8 211 rfl) rfl
theorem q2003 : (Jvm.Cond.code ({ cls := "RainWalkModel", name := "wetAtBest", desc := "(IIII)J" } : Jvm.MethodName) prog_19_method_62_code (5 : Nat) (Option.some Jvm.ClassFile.FieldType.long)) ∈ lw_all := lw_g (lw_at lw_m8 212 rfl) rfl
theorem q2005 : (Jvm.Cond.instanceMethod ({ cls := "RainWalkModel", name := "driest", desc := "(III)I" } : Jvm.MethodName)) ∈ lw_all := lw_g (lw_at lw_m8 214 rfl) rfl
theorem q2006 : (Jvm.Cond.selects "RainWalkModel" ({ cls := "RainWalkModel", name := "driest", desc := "(III)I" } : Jvm.MethodName) ({ cls := "RainWalkModel", name := "driest", desc := "(III)I" } : Jvm.MethodName)) ∈ lw_all := lw_g (lw_at lw_m8 215 rfl) rfl
theorem q2007 : (Jvm.Cond.code ({ cls := "RainWalkModel", name := "driest", desc := "(III)I" } : Jvm.MethodName) prog_19_method_64_code (10 : Nat) (Option.some Jvm.ClassFile.FieldType.int)) ∈ lw_all := lw_g (lw_at lw_m8 216 rfl) rfl
theorem q2009 : (Jvm.Cond.instanceMethod ({ cls := "RainWalkModel", name := "lee", desc := "(IIIIIIZ)J" } : Jvm.MethodName)) ∈ lw_all := lw_g (lw_at lw_m8 218 rfl) rfl
theorem q2010 : (Jvm.Cond.selects "RainWalkModel" ({ cls := "RainWalkModel", name := "lee", desc := "(IIIIIIZ)J" } : Jvm.MethodName) ({ cls := "RainWalkModel", name := "lee", desc := "(IIIIIIZ)J" } : Jvm.MethodName)) ∈ lw_all := lw_g (lw_at lw_m8 219 rfl) rfl
theorem q2011 : (Jvm.Cond.code ({ cls := "RainWalkModel", name := "lee", desc := "(IIIIIIZ)J" } : Jvm.MethodName) prog_19_method_67_code (9 : Nat) (Option.some Jvm.ClassFile.FieldType.long)) ∈ lw_all := lw_g (lw_at lw_m8 220 rfl) rfl
theorem q2012 : (Jvm.Cond.methodLink "RainWalkModel" (413 : Nat) ({ cls := "RainWalkModel", name := "refusesTwo", desc := "(IIIIII)I" } : Jvm.MethodName)) ∈ lw_all := lw_g (lw_at lw_m8 221 rfl) rfl
theorem q2013 : (Jvm.Cond.privateMethod ({ cls := "RainWalkModel", name := "refusesTwo", desc := "(IIIIII)I" } : Jvm.MethodName)) ∈ lw_tbl := lw_at lw_m8 222 rfl
theorem q2014 : (Jvm.Cond.instanceMethod ({ cls := "RainWalkModel", name := "refusesTwo", desc := "(IIIIII)I" } : Jvm.MethodName)) ∈ lw_all := lw_g (lw_at lw_m8 223 rfl) rfl
theorem q2015 : (Jvm.Cond.code ({ cls := "RainWalkModel", name := "refusesTwo", desc := "(IIIIII)I" } : Jvm.MethodName) prog_19_method_66_code (8 : Nat) (Option.some Jvm.ClassFile.FieldType.int)) ∈ lw_all := lw_g (lw_at lw_m8 224 rfl) rfl
theorem q2016 : (Jvm.Cond.methodLink "RainWalkModel" (417 : Nat) ({ cls := "RainWalkModel", name := "together", desc := "(IIIIII)J" } : Jvm.MethodName)) ∈ lw_all := lw_g (lw_at lw_m8 225 rfl) rfl
theorem q2017 : (Jvm.Cond.privateMethod ({ cls := "RainWalkModel", name := "together", desc := "(IIIIII)J" } : Jvm.MethodName)) ∈ lw_tbl := lw_at lw_m8 226 rfl
theorem q2018 : (Jvm.Cond.instanceMethod ({ cls := "RainWalkModel", name := "together", desc := "(IIIIII)J" } : Jvm.MethodName)) ∈ lw_all := lw_g (lw_at lw_m8 227 rfl) rfl
theorem q2019 : (Jvm.Cond.code ({ cls := "RainWalkModel", name := "together", desc := "(IIIIII)J" } : Jvm.MethodName) prog_19_method_65_code (10 : Nat) (Option.some Jvm.ClassFile.FieldType.long)) ∈ lw_all := lw_g (lw_at lw_m8 228 rfl) rfl
theorem q2021 : (Jvm.Cond.instanceMethod ({ cls := "RainWalkModel", name := "first", desc := "(IIIIII)I" } : Jvm.MethodName)) ∈ lw_all := lw_g (lw_at lw_m8 230 rfl) rfl
theorem q2022 : (Jvm.Cond.selects "RainWalkModel" ({ cls := "RainWalkModel", name := "first", desc := "(IIIIII)I" } : Jvm.MethodName) ({ cls := "RainWalkModel", name := "first", desc := "(IIIIII)I" } : Jvm.MethodName)) ∈ lw_all := lw_g (lw_at lw_m8 231 rfl) rfl
theorem q2023 : (Jvm.Cond.code ({ cls := "RainWalkModel", name := "first", desc := "(IIIIII)I" } : Jvm.MethodName) prog_19_method_68_code (12 : Nat) (Option.some Jvm.ClassFile.FieldType.int)) ∈ lw_all := lw_g (lw_at lw_m8 232 rfl) rfl
theorem q2025 : (Jvm.Cond.instanceMethod ({ cls := "RainWalkModel", name := "least", desc := "(IIIIIZ)J" } : Jvm.MethodName)) ∈ lw_all := lw_g (lw_at lw_m8 234 rfl) rfl
theorem q2026 : (Jvm.Cond.selects "RainWalkModel" ({ cls := "RainWalkModel", name := "least", desc := "(IIIIIZ)J" } : Jvm.MethodName) ({ cls := "RainWalkModel", name := "least", desc := "(IIIIIZ)J" } : Jvm.MethodName)) ∈ lw_all := lw_g (lw_at lw_m8 235 rfl) rfl
theorem q2027 : (Jvm.Cond.code ({ cls := "RainWalkModel", name := "least", desc := "(IIIIIZ)J" } : Jvm.MethodName) prog_19_method_79_code (8 : Nat) (Option.some Jvm.ClassFile.FieldType.long)) ∈ lw_all := lw_g (lw_at lw_m8 236 rfl) rfl
theorem q2028 : (Jvm.Cond.methodLink "RainWalkModel" (462 : Nat) ({ cls := "RainWalkModel", name := "refusesWay", desc := "(IIIII)I" } : Jvm.MethodName)) ∈ lw_all := lw_g (lw_at lw_m8 237 rfl) rfl
theorem q2029 : (Jvm.Cond.privateMethod ({ cls := "RainWalkModel", name := "refusesWay", desc := "(IIIII)I" } : Jvm.MethodName)) ∈ lw_tbl := lw_at lw_m8 238 rfl
theorem q2030 : (Jvm.Cond.instanceMethod ({ cls := "RainWalkModel", name := "refusesWay", desc := "(IIIII)I" } : Jvm.MethodName)) ∈ lw_all := lw_g (lw_at lw_m8 239 rfl) rfl
theorem q2031 : (Jvm.Cond.code ({ cls := "RainWalkModel", name := "refusesWay", desc := "(IIIII)I" } : Jvm.MethodName) prog_19_method_78_code (6 : Nat) (Option.some Jvm.ClassFile.FieldType.int)) ∈ lw_all := lw_g (lw_at lw_m9 0 rfl) rfl
theorem q2032 : (Jvm.Cond.methodLink "RainWalkModel" (455 : Nat) ({ cls := "RainWalkModel", name := "isPlace", desc := "(I)Z" } : Jvm.MethodName)) ∈ lw_all := lw_g (lw_at lw_m9 1 rfl) rfl
theorem q2033 : (Jvm.Cond.privateMethod ({ cls := "RainWalkModel", name := "isPlace", desc := "(I)Z" } : Jvm.MethodName)) ∈ lw_tbl := lw_at lw_m9 2 rfl
theorem q2034 : (Jvm.Cond.instanceMethod ({ cls := "RainWalkModel", name := "isPlace", desc := "(I)Z" } : Jvm.MethodName)) ∈ lw_all := lw_g (lw_at lw_m9 3 rfl) rfl
theorem q2035 : (Jvm.Cond.code ({ cls := "RainWalkModel", name := "isPlace", desc := "(I)Z" } : Jvm.MethodName) prog_19_method_42_code (2 : Nat) (Option.some Jvm.ClassFile.FieldType.boolean)) ∈ lw_all := lw_g (lw_at lw_m9 4 rfl) rfl
theorem q2036 : (Jvm.Cond.methodLink "RainWalkModel" (458 : Nat) ({ cls := "RainWalkModel", name := "laysWays", desc := "(III)V" } : Jvm.MethodName)) ∈ lw_all := lw_g (lw_at lw_m9 5 rfl) rfl
theorem q2037 : (Jvm.Cond.privateMethod ({ cls := "RainWalkModel", name := "laysWays", desc := "(III)V" } : Jvm.MethodName)) ∈ lw_tbl := lw_at lw_m9 6 rfl
theorem q2038 : (Jvm.Cond.instanceMethod ({ cls := "RainWalkModel", name := "laysWays", desc := "(III)V" } : Jvm.MethodName)) ∈ lw_all := lw_g (lw_at lw_m9 7 rfl) rfl
theorem q2039 : (Jvm.Cond.code ({ cls := "RainWalkModel", name := "laysWays", desc := "(III)V" } : Jvm.MethodName) prog_19_method_75_code (7 : Nat) (Option.none : Option Jvm.ClassFile.FieldType)) ∈ lw_all := lw_g (lw_at lw_m9 8 rfl) rfl
theorem q2040 : (Jvm.Cond.methodLink "RainWalkModel" (427 : Nat) ({ cls := "RainWalkModel", name := "spotOf", desc := "(II)I" } : Jvm.MethodName)) ∈ lw_all := lw_g (lw_at lw_m9 9 rfl) rfl
theorem q2041 : (Jvm.Cond.static ({ cls := "RainWalkModel", name := "spotOf", desc := "(II)I" } : Jvm.MethodName)) ∈ lw_all := lw_g (lw_at lw_m9 10 rfl) rfl
theorem q2042 : (Jvm.Cond.code ({ cls := "RainWalkModel", name := "spotOf", desc := "(II)I" } : Jvm.MethodName) prog_19_method_69_code (2 : Nat) (Option.some Jvm.ClassFile.FieldType.int)) ∈ lw_all := lw_g (lw_at lw_m9 11 rfl) rfl
theorem q2043 : (Jvm.Cond.constantLong "RainWalkModel" (430 : Nat) (-1 : Int64)) ∈ lw_all := lw_g (lw_at lw_m9 12 rfl) rfl
theorem q2044 : (Jvm.Cond.methodLink "RainWalkModel" (432 : Nat) ({ cls := "RainWalkModel", name := "tries", desc := "(IIII)V" } : Jvm.MethodName)) ∈ lw_all := lw_g (lw_at lw_m9 13 rfl) rfl
theorem q2045 : (Jvm.Cond.privateMethod ({ cls := "RainWalkModel", name := "tries", desc := "(IIII)V" } : Jvm.MethodName)) ∈ lw_tbl := lw_at lw_m9 14 rfl
theorem q2046 : (Jvm.Cond.instanceMethod ({ cls := "RainWalkModel", name := "tries", desc := "(IIII)V" } : Jvm.MethodName)) ∈ lw_all := lw_g (lw_at lw_m9 15 rfl) rfl
theorem q2047 : (Jvm.Cond.code ({ cls := "RainWalkModel", name := "tries", desc := "(IIII)V" } : Jvm.MethodName) prog_19_method_76_code (9 : Nat) (Option.none : Option Jvm.ClassFile.FieldType)) ∈ lw_all := lw_g (lw_at lw_m9 16 rfl) rfl
theorem q2048 : (Jvm.Cond.methodLink "RainWalkModel" (436 : Nat) ({ cls := "RainWalkModel$World", name := "begins", desc := "(II)I" } : Jvm.MethodName)) ∈ lw_all := lw_g (lw_at lw_m9 17 rfl) rfl
theorem q2052 : (Jvm.Cond.methodLink "RainWalkModel" (438 : Nat) ({ cls := "RainWalkModel$World", name := "ends", desc := "(II)I" } : Jvm.MethodName)) ∈ lw_all := lw_g (lw_at lw_m9 21 rfl) rfl
theorem q2056 : (Jvm.Cond.methodLink "RainWalkModel" (441 : Nat) ({ cls := "RainWalkModel", name := "meanOf", desc := "(IIIII)J" } : Jvm.MethodName)) ∈ lw_all := lw_g (lw_at lw_m9 25 rfl) rfl
theorem q2057 : (Jvm.Cond.privateMethod ({ cls := "RainWalkModel", name := "meanOf", desc := "(IIIII)J" } : Jvm.MethodName)) ∈ lw_tbl := lw_at lw_m9 26 rfl
theorem q2058 : (Jvm.Cond.instanceMethod ({ cls := "RainWalkModel", name := "meanOf", desc := "(IIIII)J" } : Jvm.MethodName)) ∈ lw_all := lw_g (lw_at lw_m9 27 rfl) rfl
theorem q2059 : (Jvm.Cond.code ({ cls := "RainWalkModel", name := "meanOf", desc := "(IIIII)J" } : Jvm.MethodName) prog_19_method_71_code (7 : Nat) (Option.some Jvm.ClassFile.FieldType.long)) ∈ lw_all := lw_g (lw_at lw_m9 28 rfl) rfl
theorem q2060 : (Jvm.Cond.methodLink "RainWalkModel" (420 : Nat) ({ cls := "RainWalkModel", name := "hourOf", desc := "(I)I" } : Jvm.MethodName)) ∈ lw_all := lw_g (lw_at lw_m9 29 rfl) rfl
theorem q2061 : (Jvm.Cond.privateMethod ({ cls := "RainWalkModel", name := "hourOf", desc := "(I)I" } : Jvm.MethodName)) ∈ lw_tbl := lw_at lw_m9 30 rfl
theorem q2062 : (Jvm.Cond.instanceMethod ({ cls := "RainWalkModel", name := "hourOf", desc := "(I)I" } : Jvm.MethodName)) ∈ lw_all := lw_g (lw_at lw_m9 31 rfl) rfl
theorem q2063 : (Jvm.Cond.code ({ cls := "RainWalkModel", name := "hourOf", desc := "(I)I" } : Jvm.MethodName) prog_19_method_70_code (2 : Nat) (Option.some Jvm.ClassFile.FieldType.int)) ∈ lw_all := lw_g (lw_at lw_m9 32 rfl) rfl
theorem q2064 : (Jvm.Cond.methodLink "RainWalkModel" (444 : Nat) ({ cls := "RainWalkModel", name := "takes", desc := "(IIJI)V" } : Jvm.MethodName)) ∈ lw_all := lw_g (lw_at lw_m9 33 rfl) rfl
theorem q2065 : (Jvm.Cond.privateMethod ({ cls := "RainWalkModel", name := "takes", desc := "(IIJI)V" } : Jvm.MethodName)) ∈ lw_tbl := lw_at lw_m9 34 rfl
theorem q2066 : (Jvm.Cond.instanceMethod ({ cls := "RainWalkModel", name := "takes", desc := "(IIJI)V" } : Jvm.MethodName)) ∈ lw_all := lw_g (lw_at lw_m9 35 rfl) rfl
theorem q2067 : (Jvm.Cond.code ({ cls := "RainWalkModel", name := "takes", desc := "(IIJI)V" } : Jvm.MethodName) prog_19_method_77_code (8 : Nat) (Option.none : Option Jvm.ClassFile.FieldType)) ∈ lw_all := lw_g (lw_at lw_m9 36 rfl) rfl
theorem q2068 : (Jvm.Cond.methodLink "RainWalkModel" (448 : Nat) ({ cls := "RainWalkModel", name := "canWait", desc := "(I)Z" } : Jvm.MethodName)) ∈ lw_all := lw_g (lw_at lw_m9 37 rfl) rfl
theorem q2069 : (Jvm.Cond.privateMethod ({ cls := "RainWalkModel", name := "canWait", desc := "(I)Z" } : Jvm.MethodName)) ∈ lw_tbl := lw_at lw_m9 38 rfl
theorem q2070 : (Jvm.Cond.instanceMethod ({ cls := "RainWalkModel", name := "canWait", desc := "(I)Z" } : Jvm.MethodName)) ∈ lw_all := lw_g (lw_at lw_m9 39 rfl) rfl
theorem q2071 : (Jvm.Cond.code ({ cls := "RainWalkModel", name := "canWait", desc := "(I)Z" } : Jvm.MethodName) prog_19_method_73_code (2 : Nat) (Option.some Jvm.ClassFile.FieldType.boolean)) ∈ lw_all := lw_g (lw_at lw_m9 40 rfl) rfl
theorem q2072 : (Jvm.Cond.methodLink "RainWalkModel" (451 : Nat) ({ cls := "RainWalkModel", name := "waitsOf", desc := "(III)J" } : Jvm.MethodName)) ∈ lw_all := lw_g (lw_at lw_m9 41 rfl) rfl
theorem q2073 : (Jvm.Cond.privateMethod ({ cls := "RainWalkModel", name := "waitsOf", desc := "(III)J" } : Jvm.MethodName)) ∈ lw_tbl := lw_at lw_m9 42 rfl
theorem q2074 : (Jvm.Cond.instanceMethod ({ cls := "RainWalkModel", name := "waitsOf", desc := "(III)J" } : Jvm.MethodName)) ∈ lw_all := lw_g (lw_at lw_m9 43 rfl) rfl
theorem q2075 : (Jvm.Cond.code ({ cls := "RainWalkModel", name := "waitsOf", desc := "(III)J" } : Jvm.MethodName) prog_19_method_74_code (5 : Nat) (Option.some Jvm.ClassFile.FieldType.long)) ∈ lw_all := lw_g (lw_at lw_m9 44 rfl) rfl
theorem q2076 : (Jvm.Cond.methodLink "RainWalkModel" (423 : Nat) ({ cls := "RainWalkModel", name := "drips", desc := "(II)J" } : Jvm.MethodName)) ∈ lw_all := lw_g (lw_at lw_m9 45 rfl) rfl
theorem q2077 : (Jvm.Cond.privateMethod ({ cls := "RainWalkModel", name := "drips", desc := "(II)J" } : Jvm.MethodName)) ∈ lw_tbl := lw_at lw_m9 46 rfl
theorem q2078 : (Jvm.Cond.instanceMethod ({ cls := "RainWalkModel", name := "drips", desc := "(II)J" } : Jvm.MethodName)) ∈ lw_all := lw_g (lw_at lw_m9 47 rfl) rfl
theorem q2079 : (Jvm.Cond.code ({ cls := "RainWalkModel", name := "drips", desc := "(II)J" } : Jvm.MethodName) prog_19_method_72_code (3 : Nat) (Option.some Jvm.ClassFile.FieldType.long)) ∈ lw_all := lw_g (lw_at lw_m9 48 rfl) rfl
theorem q2081 : (Jvm.Cond.instanceMethod ({ cls := "RainWalkModel", name := "there", desc := "(IIIII)I" } : Jvm.MethodName)) ∈ lw_all := lw_g (lw_at lw_m9 50 rfl) rfl
theorem q2082 : (Jvm.Cond.selects "RainWalkModel" ({ cls := "RainWalkModel", name := "there", desc := "(IIIII)I" } : Jvm.MethodName) ({ cls := "RainWalkModel", name := "there", desc := "(IIIII)I" } : Jvm.MethodName)) ∈ lw_all := lw_g (lw_at lw_m9 51 rfl) rfl
theorem q2083 : (Jvm.Cond.code ({ cls := "RainWalkModel", name := "there", desc := "(IIIII)I" } : Jvm.MethodName) prog_19_method_80_code (7 : Nat) (Option.some Jvm.ClassFile.FieldType.int)) ∈ lw_all := lw_g (lw_at lw_m9 52 rfl) rfl
theorem q2085 : (Jvm.Cond.instanceMethod ({ cls := "RainWalkModel", name := "steps", desc := "(IIIII)I" } : Jvm.MethodName)) ∈ lw_all := lw_g (lw_at lw_m9 54 rfl) rfl
theorem q2086 : (Jvm.Cond.selects "RainWalkModel" ({ cls := "RainWalkModel", name := "steps", desc := "(IIIII)I" } : Jvm.MethodName) ({ cls := "RainWalkModel", name := "steps", desc := "(IIIII)I" } : Jvm.MethodName)) ∈ lw_all := lw_g (lw_at lw_m9 55 rfl) rfl
theorem q2087 : (Jvm.Cond.code ({ cls := "RainWalkModel", name := "steps", desc := "(IIIII)I" } : Jvm.MethodName) prog_19_method_82_code (7 : Nat) (Option.some Jvm.ClassFile.FieldType.int)) ∈ lw_all := lw_g (lw_at lw_m9 56 rfl) rfl
theorem q2088 : (Jvm.Cond.methodLink "RainWalkModel" (465 : Nat) ({ cls := "RainWalkModel", name := "stepOf", desc := "(IIII)I" } : Jvm.MethodName)) ∈ lw_all := lw_g (lw_at lw_m9 57 rfl) rfl
theorem q2089 : (Jvm.Cond.privateMethod ({ cls := "RainWalkModel", name := "stepOf", desc := "(IIII)I" } : Jvm.MethodName)) ∈ lw_tbl := lw_at lw_m9 58 rfl
theorem q2090 : (Jvm.Cond.instanceMethod ({ cls := "RainWalkModel", name := "stepOf", desc := "(IIII)I" } : Jvm.MethodName)) ∈ lw_all := lw_g (lw_at lw_m9 59 rfl) rfl
theorem q2091 : (Jvm.Cond.code ({ cls := "RainWalkModel", name := "stepOf", desc := "(IIII)I" } : Jvm.MethodName) prog_19_method_81_code (9 : Nat) (Option.some Jvm.ClassFile.FieldType.int)) ∈ lw_all := lw_g (lw_at lw_m9 60 rfl) rfl
theorem q2093 : (Jvm.Cond.instanceMethod ({ cls := "RainWalkModel", name := "step", desc := "(IIIIII)I" } : Jvm.MethodName)) ∈ lw_all := lw_g (lw_at lw_m9 62 rfl) rfl
theorem q2094 : (Jvm.Cond.selects "RainWalkModel" ({ cls := "RainWalkModel", name := "step", desc := "(IIIIII)I" } : Jvm.MethodName) ({ cls := "RainWalkModel", name := "step", desc := "(IIIIII)I" } : Jvm.MethodName)) ∈ lw_all := lw_g (lw_at lw_m9 63 rfl) rfl
theorem q2095 : (Jvm.Cond.code ({ cls := "RainWalkModel", name := "step", desc := "(IIIIII)I" } : Jvm.MethodName) prog_19_method_83_code (9 : Nat) (Option.some Jvm.ClassFile.FieldType.int)) ∈ lw_all := lw_g (lw_at lw_m9 64 rfl) rfl
theorem q2097 : (Jvm.Cond.instanceMethod ({ cls := "RainWalkModel", name := "off", desc := "(IIII)I" } : Jvm.MethodName)) ∈ lw_all := lw_g (lw_at lw_m9 66 rfl) rfl
theorem q2098 : (Jvm.Cond.selects "RainWalkModel" ({ cls := "RainWalkModel", name := "off", desc := "(IIII)I" } : Jvm.MethodName) ({ cls := "RainWalkModel", name := "off", desc := "(IIII)I" } : Jvm.MethodName)) ∈ lw_all := lw_g (lw_at lw_m9 67 rfl) rfl
theorem q2099 : (Jvm.Cond.code ({ cls := "RainWalkModel", name := "off", desc := "(IIII)I" } : Jvm.MethodName) prog_19_method_84_code (7 : Nat) (Option.some Jvm.ClassFile.FieldType.int)) ∈ lw_all := lw_g (lw_at lw_m9 68 rfl) rfl
theorem q2101 : (Jvm.Cond.instanceMethod ({ cls := "RainWalkModel", name := "fits", desc := "(I)I" } : Jvm.MethodName)) ∈ lw_all := lw_g (lw_at lw_m9 70 rfl) rfl
theorem q2102 : (Jvm.Cond.selects "RainWalkModel" ({ cls := "RainWalkModel", name := "fits", desc := "(I)I" } : Jvm.MethodName) ({ cls := "RainWalkModel", name := "fits", desc := "(I)I" } : Jvm.MethodName)) ∈ lw_all := lw_g (lw_at lw_m9 71 rfl) rfl
theorem q2103 : (Jvm.Cond.code ({ cls := "RainWalkModel", name := "fits", desc := "(I)I" } : Jvm.MethodName) prog_19_method_87_code (2 : Nat) (Option.some Jvm.ClassFile.FieldType.int)) ∈ lw_all := lw_g (lw_at lw_m9 72 rfl) rfl
theorem q2104 : (Jvm.Cond.methodLink "RainWalkModel" (468 : Nat) ({ cls := "RainWalkModel", name := "isSeen", desc := "(I)Z" } : Jvm.MethodName)) ∈ lw_all := lw_g (lw_at lw_m9 73 rfl) rfl
theorem q2105 : (Jvm.Cond.privateMethod ({ cls := "RainWalkModel", name := "isSeen", desc := "(I)Z" } : Jvm.MethodName)) ∈ lw_tbl := lw_at lw_m9 74 rfl
theorem q2106 : (Jvm.Cond.instanceMethod ({ cls := "RainWalkModel", name := "isSeen", desc := "(I)Z" } : Jvm.MethodName)) ∈ lw_all := lw_g (lw_at lw_m9 75 rfl) rfl
theorem q2107 : (Jvm.Cond.code ({ cls := "RainWalkModel", name := "isSeen", desc := "(I)Z" } : Jvm.MethodName) prog_19_method_85_code (2 : Nat) (Option.some Jvm.ClassFile.FieldType.boolean)) ∈ lw_all := lw_g (lw_at lw_m9 76 rfl) rfl
theorem q2108 : (Jvm.Cond.methodLink "RainWalkModel" (471 : Nat) ({ cls := "RainWalkModel", name := "fitOf", desc := "(II)I" } : Jvm.MethodName)) ∈ lw_all := lw_g (lw_at lw_m9 77 rfl) rfl
theorem q2109 : (Jvm.Cond.privateMethod ({ cls := "RainWalkModel", name := "fitOf", desc := "(II)I" } : Jvm.MethodName)) ∈ lw_tbl := lw_at lw_m9 78 rfl
theorem q2110 : (Jvm.Cond.instanceMethod ({ cls := "RainWalkModel", name := "fitOf", desc := "(II)I" } : Jvm.MethodName)) ∈ lw_all := lw_g (lw_at lw_m9 79 rfl) rfl
theorem q2111 : (Jvm.Cond.code ({ cls := "RainWalkModel", name := "fitOf", desc := "(II)I" } : Jvm.MethodName) prog_19_method_86_code (11 : Nat) (Option.some Jvm.ClassFile.FieldType.int)) ∈ lw_all := lw_g (lw_at lw_m9 80 rfl) rfl
theorem q2113 : (Jvm.Cond.instanceMethod ({ cls := "RainWalkModel", name := "fit", desc := "(II)I" } : Jvm.MethodName)) ∈ lw_all := lw_g (lw_at lw_m9 82 rfl) rfl
theorem q2114 : (Jvm.Cond.selects "RainWalkModel" ({ cls := "RainWalkModel", name := "fit", desc := "(II)I" } : Jvm.MethodName) ({ cls := "RainWalkModel", name := "fit", desc := "(II)I" } : Jvm.MethodName)) ∈ lw_all := lw_g (lw_at lw_m9 83 rfl) rfl
theorem q2115 : (Jvm.Cond.code ({ cls := "RainWalkModel", name := "fit", desc := "(II)I" } : Jvm.MethodName) prog_19_method_88_code (4 : Nat) (Option.some Jvm.ClassFile.FieldType.int)) ∈ lw_all := lw_g (lw_at lw_m9 84 rfl) rfl
theorem q2117 : (Jvm.Cond.instanceMethod ({ cls := "RainWalkModel", name := "lies", desc := "()I" } : Jvm.MethodName)) ∈ lw_all := lw_g (lw_at lw_m9 86 rfl) rfl
theorem q2118 : (Jvm.Cond.selects "RainWalkModel" ({ cls := "RainWalkModel", name := "lies", desc := "()I" } : Jvm.MethodName) ({ cls := "RainWalkModel", name := "lies", desc := "()I" } : Jvm.MethodName)) ∈ lw_all := lw_g (lw_at lw_m9 87 rfl) rfl
theorem q2119 : (Jvm.Cond.code ({ cls := "RainWalkModel", name := "lies", desc := "()I" } : Jvm.MethodName) prog_19_method_89_code (3 : Nat) (Option.some Jvm.ClassFile.FieldType.int)) ∈ lw_all := lw_g (lw_at lw_m9 88 rfl) rfl
theorem q2121 : (Jvm.Cond.instanceMethod ({ cls := "RainWalkModel", name := "day", desc := "(IIII)I" } : Jvm.MethodName)) ∈ lw_all := lw_g (lw_at lw_m9 90 rfl) rfl
theorem q2122 : (Jvm.Cond.selects "RainWalkModel" ({ cls := "RainWalkModel", name := "day", desc := "(IIII)I" } : Jvm.MethodName) ({ cls := "RainWalkModel", name := "day", desc := "(IIII)I" } : Jvm.MethodName)) ∈ lw_all := lw_g (lw_at lw_m9 91 rfl) rfl
theorem q2123 : (Jvm.Cond.code ({ cls := "RainWalkModel", name := "day", desc := "(IIII)I" } : Jvm.MethodName) prog_19_method_91_code (7 : Nat) (Option.some Jvm.ClassFile.FieldType.int)) ∈ lw_all := lw_g (lw_at lw_m9 92 rfl) rfl
theorem q2124 : (Jvm.Cond.constant "RainWalkModel" (474 : Nat) (65536 : Int32)) ∈ lw_all := lw_g (lw_at lw_m9 93 rfl) rfl
theorem q2125 : (Jvm.Cond.constantLong "RainWalkModel" (478 : Nat) (75 : Int64)) ∈ lw_all := lw_g (lw_at lw_m9 94 rfl) rfl
theorem q2126 : (Jvm.Cond.constantLong "RainWalkModel" (480 : Nat) (74 : Int64)) ∈ lw_all := lw_g (lw_at lw_m9 95 rfl) rfl
theorem q2127 : (Jvm.Cond.constantLong "RainWalkModel" (482 : Nat) (65537 : Int64)) ∈ lw_all := lw_g (lw_at lw_m9 96 rfl) rfl
theorem q2129 : (Jvm.Cond.instanceMethod ({ cls := "RainWalkModel", name := "go", desc := "(III)I" } : Jvm.MethodName)) ∈ lw_all := lw_g (lw_at lw_m9 98 rfl) rfl
theorem q2130 : (Jvm.Cond.selects "RainWalkModel" ({ cls := "RainWalkModel", name := "go", desc := "(III)I" } : Jvm.MethodName) ({ cls := "RainWalkModel", name := "go", desc := "(III)I" } : Jvm.MethodName)) ∈ lw_all := lw_g (lw_at lw_m9 99 rfl) rfl
theorem q2131 : (Jvm.Cond.code ({ cls := "RainWalkModel", name := "go", desc := "(III)I" } : Jvm.MethodName) prog_19_method_94_code (6 : Nat) (Option.some Jvm.ClassFile.FieldType.int)) ∈ lw_all := lw_g (lw_at lw_m9 100 rfl) rfl
theorem q2132 : (Jvm.Cond.methodLink "RainWalkModel" (484 : Nat) ({ cls := "RainWalkModel", name := "isDay", desc := "()Z" } : Jvm.MethodName)) ∈ lw_all := lw_g (lw_at lw_m9 101 rfl) rfl
theorem q2133 : (Jvm.Cond.privateMethod ({ cls := "RainWalkModel", name := "isDay", desc := "()Z" } : Jvm.MethodName)) ∈ lw_tbl := lw_at lw_m9 102 rfl
theorem q2134 : (Jvm.Cond.instanceMethod ({ cls := "RainWalkModel", name := "isDay", desc := "()Z" } : Jvm.MethodName)) ∈ lw_all := lw_g (lw_at lw_m9 103 rfl) rfl
theorem q2135 : (Jvm.Cond.code ({ cls := "RainWalkModel", name := "isDay", desc := "()Z" } : Jvm.MethodName) prog_19_method_90_code (1 : Nat) (Option.some Jvm.ClassFile.FieldType.boolean)) ∈ lw_all := lw_g (lw_at lw_m9 104 rfl) rfl
theorem q2136 : (Jvm.Cond.methodLink "RainWalkModel" (487 : Nat) ({ cls := "RainWalkModel", name := "keeps", desc := "()V" } : Jvm.MethodName)) ∈ lw_all := lw_g (lw_at lw_m9 105 rfl) rfl
theorem q2137 : (Jvm.Cond.privateMethod ({ cls := "RainWalkModel", name := "keeps", desc := "()V" } : Jvm.MethodName)) ∈ lw_tbl := lw_at lw_m9 106 rfl
theorem q2138 : (Jvm.Cond.instanceMethod ({ cls := "RainWalkModel", name := "keeps", desc := "()V" } : Jvm.MethodName)) ∈ lw_all := lw_g (lw_at lw_m9 107 rfl) rfl
theorem q2139 : (Jvm.Cond.code ({ cls := "RainWalkModel", name := "keeps", desc := "()V" } : Jvm.MethodName) prog_19_method_92_code (2 : Nat) (Option.none : Option Jvm.ClassFile.FieldType)) ∈ lw_all := lw_g (lw_at lw_m9 108 rfl) rfl
theorem q2140 : (Jvm.Cond.methodLink "RainWalkModel" (490 : Nat) ({ cls := "RainWalkModel", name := "rainsIn", desc := "(I)Z" } : Jvm.MethodName)) ∈ lw_all := lw_g (lw_at lw_m9 109 rfl) rfl
theorem q2141 : (Jvm.Cond.privateMethod ({ cls := "RainWalkModel", name := "rainsIn", desc := "(I)Z" } : Jvm.MethodName)) ∈ lw_tbl := lw_at lw_m9 110 rfl
theorem q2142 : (Jvm.Cond.instanceMethod ({ cls := "RainWalkModel", name := "rainsIn", desc := "(I)Z" } : Jvm.MethodName)) ∈ lw_all := lw_g (lw_at lw_m9 111 rfl) rfl
theorem q2143 : (Jvm.Cond.code ({ cls := "RainWalkModel", name := "rainsIn", desc := "(I)Z" } : Jvm.MethodName) prog_19_method_93_code (3 : Nat) (Option.some Jvm.ClassFile.FieldType.boolean)) ∈ lw_all := lw_g (lw_at lw_m9 112 rfl) rfl
theorem q2145 : (Jvm.Cond.instanceMethod ({ cls := "RainWalkModel", name := "stay", desc := "(I)Z" } : Jvm.MethodName)) ∈ lw_all := lw_g (lw_at lw_m9 114 rfl) rfl
theorem q2146 : (Jvm.Cond.selects "RainWalkModel" ({ cls := "RainWalkModel", name := "stay", desc := "(I)Z" } : Jvm.MethodName) ({ cls := "RainWalkModel", name := "stay", desc := "(I)Z" } : Jvm.MethodName)) ∈ lw_all := lw_g (lw_at lw_m9 115 rfl) rfl
theorem q2147 : (Jvm.Cond.code ({ cls := "RainWalkModel", name := "stay", desc := "(I)Z" } : Jvm.MethodName) prog_19_method_95_code (4 : Nat) (Option.some Jvm.ClassFile.FieldType.boolean)) ∈ lw_all := lw_g (lw_at lw_m9 116 rfl) rfl
theorem q2148 : (Jvm.Cond.methodLink "RainWalkModel" (493 : Nat) ({ cls := "RainWalkModel", name := "denied", desc := "(I)Z" } : Jvm.MethodName)) ∈ lw_all := lw_g (lw_at lw_m9 117 rfl) rfl
theorem q2149 : (Jvm.Cond.privateMethod ({ cls := "RainWalkModel", name := "denied", desc := "(I)Z" } : Jvm.MethodName)) ∈ lw_tbl := lw_at lw_m9 118 rfl
theorem q2150 : (Jvm.Cond.instanceMethod ({ cls := "RainWalkModel", name := "denied", desc := "(I)Z" } : Jvm.MethodName)) ∈ lw_all := lw_g (lw_at lw_m9 119 rfl) rfl
theorem q2151 : (Jvm.Cond.code ({ cls := "RainWalkModel", name := "denied", desc := "(I)Z" } : Jvm.MethodName) prog_19_method_5_code (2 : Nat) (Option.some Jvm.ClassFile.FieldType.boolean)) ∈ lw_all := lw_g (lw_at lw_m9 120 rfl) rfl
theorem q2152 : (Jvm.Cond.constantLong "RainWalkModel" (496 : Nat) (999 : Int64)) ∈ lw_all := lw_g (lw_at lw_m9 121 rfl) rfl
theorem q2153 : (Jvm.Cond.methodLink "RainWalkModel" (498 : Nat) ({ cls := "RainWalkModel", name := "granted", desc := "()Z" } : Jvm.MethodName)) ∈ lw_all := lw_g (lw_at lw_m9 122 rfl) rfl
theorem q2154 : (Jvm.Cond.privateMethod ({ cls := "RainWalkModel", name := "granted", desc := "()Z" } : Jvm.MethodName)) ∈ lw_tbl := lw_at lw_m9 123 rfl
theorem q2155 : (Jvm.Cond.instanceMethod ({ cls := "RainWalkModel", name := "granted", desc := "()Z" } : Jvm.MethodName)) ∈ lw_all := lw_g (lw_at lw_m9 124 rfl) rfl
theorem q2156 : (Jvm.Cond.code ({ cls := "RainWalkModel", name := "granted", desc := "()Z" } : Jvm.MethodName) prog_19_method_7_code (1 : Nat) (Option.some Jvm.ClassFile.FieldType.boolean)) ∈ lw_all := lw_g (lw_at lw_m9 125 rfl) rfl
theorem q2158 : (Jvm.Cond.instanceMethod ({ cls := "RainWalkModel", name := "got", desc := "(IZ)J" } : Jvm.MethodName)) ∈ lw_all := lw_g (lw_at lw_m9 127 rfl) rfl
theorem q2159 : (Jvm.Cond.selects "RainWalkModel" ({ cls := "RainWalkModel", name := "got", desc := "(IZ)J" } : Jvm.MethodName) ({ cls := "RainWalkModel", name := "got", desc := "(IZ)J" } : Jvm.MethodName)) ∈ lw_all := lw_g (lw_at lw_m9 128 rfl) rfl
theorem q2160 : (Jvm.Cond.code ({ cls := "RainWalkModel", name := "got", desc := "(IZ)J" } : Jvm.MethodName) prog_19_method_96_code (3 : Nat) (Option.some Jvm.ClassFile.FieldType.long)) ∈ lw_all := lw_g (lw_at lw_m9 129 rfl) rfl
theorem q2162 : (Jvm.Cond.instanceMethod ({ cls := "RainWalkModel", name := "wetness", desc := "(Z)J" } : Jvm.MethodName)) ∈ lw_all := lw_g (lw_at lw_m9 131 rfl) rfl
theorem q2163 : (Jvm.Cond.selects "RainWalkModel" ({ cls := "RainWalkModel", name := "wetness", desc := "(Z)J" } : Jvm.MethodName) ({ cls := "RainWalkModel", name := "wetness", desc := "(Z)J" } : Jvm.MethodName)) ∈ lw_all := lw_g (lw_at lw_m9 132 rfl) rfl
theorem q2164 : (Jvm.Cond.code ({ cls := "RainWalkModel", name := "wetness", desc := "(Z)J" } : Jvm.MethodName) prog_19_method_99_code (4 : Nat) (Option.some Jvm.ClassFile.FieldType.long)) ∈ lw_all := lw_g (lw_at lw_m9 133 rfl) rfl
theorem q2165 : (Jvm.Cond.methodLink "RainWalkModel" (501 : Nat) ({ cls := "RainWalkModel", name := "gotInAll", desc := "()J" } : Jvm.MethodName)) ∈ lw_all := lw_g (lw_at lw_m9 134 rfl) rfl
theorem q2166 : (Jvm.Cond.privateMethod ({ cls := "RainWalkModel", name := "gotInAll", desc := "()J" } : Jvm.MethodName)) ∈ lw_tbl := lw_at lw_m9 135 rfl
theorem q2167 : (Jvm.Cond.instanceMethod ({ cls := "RainWalkModel", name := "gotInAll", desc := "()J" } : Jvm.MethodName)) ∈ lw_all := lw_g (lw_at lw_m9 136 rfl) rfl
theorem q2168 : (Jvm.Cond.code ({ cls := "RainWalkModel", name := "gotInAll", desc := "()J" } : Jvm.MethodName) prog_19_method_97_code (4 : Nat) (Option.some Jvm.ClassFile.FieldType.long)) ∈ lw_all := lw_g (lw_at lw_m9 137 rfl) rfl
theorem q2169 : (Jvm.Cond.methodLink "RainWalkModel" (504 : Nat) ({ cls := "RainWalkModel", name := "holds", desc := "()J" } : Jvm.MethodName)) ∈ lw_all := lw_g (lw_at lw_m9 138 rfl) rfl
theorem q2170 : (Jvm.Cond.privateMethod ({ cls := "RainWalkModel", name := "holds", desc := "()J" } : Jvm.MethodName)) ∈ lw_tbl := lw_at lw_m9 139 rfl
theorem q2171 : (Jvm.Cond.instanceMethod ({ cls := "RainWalkModel", name := "holds", desc := "()J" } : Jvm.MethodName)) ∈ lw_all := lw_g (lw_at lw_m9 140 rfl) rfl
theorem q2172 : (Jvm.Cond.code ({ cls := "RainWalkModel", name := "holds", desc := "()J" } : Jvm.MethodName) prog_19_method_98_code (1 : Nat) (Option.some Jvm.ClassFile.FieldType.long)) ∈ lw_all := lw_g (lw_at lw_m9 141 rfl) rfl
theorem q2174 : (Jvm.Cond.instanceMethod ({ cls := "RainWalkModel", name := "soaked", desc := "()I" } : Jvm.MethodName)) ∈ lw_all := lw_g (lw_at lw_m9 143 rfl) rfl
theorem q2175 : (Jvm.Cond.selects "RainWalkModel" ({ cls := "RainWalkModel", name := "soaked", desc := "()I" } : Jvm.MethodName) ({ cls := "RainWalkModel", name := "soaked", desc := "()I" } : Jvm.MethodName)) ∈ lw_all := lw_g (lw_at lw_m9 144 rfl) rfl
theorem q2176 : (Jvm.Cond.code ({ cls := "RainWalkModel", name := "soaked", desc := "()I" } : Jvm.MethodName) prog_19_method_100_code (1 : Nat) (Option.some Jvm.ClassFile.FieldType.int)) ∈ lw_all := lw_g (lw_at lw_m9 145 rfl) rfl
theorem q2178 : (Jvm.Cond.instanceMethod ({ cls := "RainWalkModel", name := "undo", desc := "()Z" } : Jvm.MethodName)) ∈ lw_all := lw_g (lw_at lw_m9 147 rfl) rfl
theorem q2179 : (Jvm.Cond.selects "RainWalkModel" ({ cls := "RainWalkModel", name := "undo", desc := "()Z" } : Jvm.MethodName) ({ cls := "RainWalkModel", name := "undo", desc := "()Z" } : Jvm.MethodName)) ∈ lw_all := lw_g (lw_at lw_m9 148 rfl) rfl
theorem q2180 : (Jvm.Cond.code ({ cls := "RainWalkModel", name := "undo", desc := "()Z" } : Jvm.MethodName) prog_19_method_101_code (2 : Nat) (Option.some Jvm.ClassFile.FieldType.boolean)) ∈ lw_all := lw_g (lw_at lw_m9 149 rfl) rfl
theorem q2182 : (Jvm.Cond.instanceMethod ({ cls := "RainWalkModel", name := "mark", desc := "()I" } : Jvm.MethodName)) ∈ lw_all := lw_g (lw_at lw_m9 151 rfl) rfl
theorem q2183 : (Jvm.Cond.selects "RainWalkModel" ({ cls := "RainWalkModel", name := "mark", desc := "()I" } : Jvm.MethodName) ({ cls := "RainWalkModel", name := "mark", desc := "()I" } : Jvm.MethodName)) ∈ lw_all := lw_g (lw_at lw_m9 152 rfl) rfl
theorem q2184 : (Jvm.Cond.code ({ cls := "RainWalkModel", name := "mark", desc := "()I" } : Jvm.MethodName) prog_19_method_102_code (2 : Nat) (Option.some Jvm.ClassFile.FieldType.int)) ∈ lw_all := lw_g (lw_at lw_m9 153 rfl) rfl
theorem q2186 : (Jvm.Cond.instanceMethod ({ cls := "RainWalkModel", name := "back", desc := "(I)Z" } : Jvm.MethodName)) ∈ lw_all := lw_g (lw_at lw_m9 155 rfl) rfl
theorem q2187 : (Jvm.Cond.selects "RainWalkModel" ({ cls := "RainWalkModel", name := "back", desc := "(I)Z" } : Jvm.MethodName) ({ cls := "RainWalkModel", name := "back", desc := "(I)Z" } : Jvm.MethodName)) ∈ lw_all := lw_g (lw_at lw_m9 156 rfl) rfl
theorem q2188 : (Jvm.Cond.code ({ cls := "RainWalkModel", name := "back", desc := "(I)Z" } : Jvm.MethodName) prog_19_method_103_code (3 : Nat) (Option.some Jvm.ClassFile.FieldType.boolean)) ∈ lw_all := lw_g (lw_at lw_m9 157 rfl) rfl
theorem q2190 : (Jvm.Cond.instanceMethod ({ cls := "RainWalkModel", name := "walker", desc := "(II)I" } : Jvm.MethodName)) ∈ lw_all := lw_g (lw_at lw_m9 159 rfl) rfl
theorem q2191 : (Jvm.Cond.selects "RainWalkModel" ({ cls := "RainWalkModel", name := "walker", desc := "(II)I" } : Jvm.MethodName) ({ cls := "RainWalkModel", name := "walker", desc := "(II)I" } : Jvm.MethodName)) ∈ lw_all := lw_g (lw_at lw_m9 160 rfl) rfl
theorem q2192 : (Jvm.Cond.code ({ cls := "RainWalkModel", name := "walker", desc := "(II)I" } : Jvm.MethodName) prog_19_method_104_code (3 : Nat) (Option.some Jvm.ClassFile.FieldType.int)) ∈ lw_all := lw_g (lw_at lw_m9 161 rfl) rfl
theorem q2194 : (Jvm.Cond.instanceMethod ({ cls := "RainWalkModel", name := "road", desc := "(II)I" } : Jvm.MethodName)) ∈ lw_all := lw_g (lw_at lw_m9 163 rfl) rfl
theorem q2195 : (Jvm.Cond.selects "RainWalkModel" ({ cls := "RainWalkModel", name := "road", desc := "(II)I" } : Jvm.MethodName) ({ cls := "RainWalkModel", name := "road", desc := "(II)I" } : Jvm.MethodName)) ∈ lw_all := lw_g (lw_at lw_m9 164 rfl) rfl
theorem q2196 : (Jvm.Cond.code ({ cls := "RainWalkModel", name := "road", desc := "(II)I" } : Jvm.MethodName) prog_19_method_105_code (3 : Nat) (Option.some Jvm.ClassFile.FieldType.int)) ∈ lw_all := lw_g (lw_at lw_m9 165 rfl) rfl
theorem q2198 : (Jvm.Cond.instanceMethod ({ cls := "RainWalkModel", name := "led", desc := "(I)I" } : Jvm.MethodName)) ∈ lw_all := lw_g (lw_at lw_m9 167 rfl) rfl
theorem q2199 : (Jvm.Cond.selects "RainWalkModel" ({ cls := "RainWalkModel", name := "led", desc := "(I)I" } : Jvm.MethodName) ({ cls := "RainWalkModel", name := "led", desc := "(I)I" } : Jvm.MethodName)) ∈ lw_all := lw_g (lw_at lw_m9 168 rfl) rfl
theorem q2200 : (Jvm.Cond.code ({ cls := "RainWalkModel", name := "led", desc := "(I)I" } : Jvm.MethodName) prog_19_method_106_code (4 : Nat) (Option.some Jvm.ClassFile.FieldType.int)) ∈ lw_all := lw_g (lw_at lw_m9 169 rfl) rfl
theorem q2202 : (Jvm.Cond.instanceMethod ({ cls := "RainWalkModel", name := "size", desc := "(I)I" } : Jvm.MethodName)) ∈ lw_all := lw_g (lw_at lw_m9 171 rfl) rfl
theorem q2203 : (Jvm.Cond.selects "RainWalkModel" ({ cls := "RainWalkModel", name := "size", desc := "(I)I" } : Jvm.MethodName) ({ cls := "RainWalkModel", name := "size", desc := "(I)I" } : Jvm.MethodName)) ∈ lw_all := lw_g (lw_at lw_m9 172 rfl) rfl
theorem q2204 : (Jvm.Cond.code ({ cls := "RainWalkModel", name := "size", desc := "(I)I" } : Jvm.MethodName) prog_19_method_107_code (2 : Nat) (Option.some Jvm.ClassFile.FieldType.int)) ∈ lw_all := lw_g (lw_at lw_m9 173 rfl) rfl
theorem q2206 : (Jvm.Cond.instanceMethod ({ cls := "RainWalkModel", name := "trouble", desc := "()I" } : Jvm.MethodName)) ∈ lw_all := lw_g (lw_at lw_m9 175 rfl) rfl
theorem q2207 : (Jvm.Cond.selects "RainWalkModel" ({ cls := "RainWalkModel", name := "trouble", desc := "()I" } : Jvm.MethodName) ({ cls := "RainWalkModel", name := "trouble", desc := "()I" } : Jvm.MethodName)) ∈ lw_all := lw_g (lw_at lw_m9 176 rfl) rfl
theorem q2208 : (Jvm.Cond.code ({ cls := "RainWalkModel", name := "trouble", desc := "()I" } : Jvm.MethodName) prog_19_method_108_code (1 : Nat) (Option.some Jvm.ClassFile.FieldType.int)) ∈ lw_all := lw_g (lw_at lw_m9 177 rfl) rfl
theorem q2220 : (Jvm.Cond.castable "RainWalkModel" "java/lang/Object") ∈ lw_tbl := lw_at lw_m9 189 rfl
theorem in_X7 : ∀ w ∈ wsX70, w ∈ lw_all := lw_in wsX70 [1512, 1514, 1516, 1518, 1520, 1522, 1524, 1526, 1528, 1530, 1532, 1534, 1536, 1538, 1540, 1542, 1544, 1546, 1548, 1550, 1552, 1554, 1556, 1558, 1560, 1562] (by decide +kernel) (by decide +kernel)
