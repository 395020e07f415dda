/-! RainWalk -/
set_option maxRecDepth 100000
def RX1 : String := "RainWalk"
def TX1 : u_T := fun k => match k with
  | 0 => ("RainWalk", "tape", "[B", true)
  | 1 => ("RainWalk", "taped", "I", false)
  | 2 => ("RainWalk", "reader", "LRainWalk$Reader;", true)
  | 3 => ("RainWalk", "world", "LRainWalk$World;", false)
  | 4 => ("RainWalk", "trouble", "I", false)
  | 5 => ("RainWalk", "fault", "I", false)
  | 6 => ("RainWalk", "where", "I", false)
  | 7 => ("RainWalk", "who", "I", false)
  | 8 => ("RainWalk", "rains", "I", false)
  | 9 => ("RainWalk", "markMany", "I", false)
  | 10 => ("RainWalk", "undoMany", "I", false)
  | 11 => ("RainWalk", "leg", "LRainWalk$Leg;", true)
  | 12 => ("RainWalk", "otherLeg", "LRainWalk$Leg;", true)
  | 13 => ("RainWalk", "ways", "LRainWalk$Ways;", true)
  | 14 => ("RainWalk", "day", "LRainWalk$Day;", true)
  | 15 => ("RainWalk", "was", "LRainWalk$Day;", true)
  | 16 => ("RainWalk", "undone", "[LRainWalk$Day;", true)
  | _ => ("RainWalk", "marks", "[LRainWalk$Day;", true)
def tyX1 : Nat → FieldType := fun k => match k with
  | 0 => .array .byte
  | 1 => .int
  | 2 => .object "RainWalk$Reader"
  | 3 => .object "RainWalk$World"
  | 4 => .int
  | 5 => .int
  | 6 => .int
  | 7 => .int
  | 8 => .int
  | 9 => .int
  | 10 => .int
  | 11 => .object "RainWalk$Leg"
  | 12 => .object "RainWalk$Leg"
  | 13 => .object "RainWalk$Ways"
  | 14 => .object "RainWalk$Day"
  | 15 => .object "RainWalk$Day"
  | 16 => .array (.object "RainWalk$Day")
  | _ => .array (.object "RainWalk$Day")
abbrev wsX10 : List Cond := u_ws RX1 TX1 18
set_option maxRecDepth 100000 in
theorem nmX1 : ∀ a, a < 18 → ∀ b, b < 18 → a ≠ b → (TX1 a).2.1 ≠ (TX1 b).2.1 := by decide +kernel
set_option maxRecDepth 100000 in
theorem tyX1_ok : ∀ k, k < 18 → parseFieldDescriptor (TX1 k).2.2.1 = some (tyX1 k) := by decide +kernel
abbrev cX1_init : ByteArray := prog_1_method_5_code
def yX1_init : MethodName := ⟨RX1, "<init>", "()V"⟩
def dkwX1_init_7 : List UInt8 := [132, 1, 1, 167, 255, 235, 177]
abbrev dktX1_init_7 : List UInt8 := dkwX1_init_7 ++ []
def dkwX1_init_6 : List UInt8 := [167, 255, 234, 3, 60, 27, 6, 162, 0, 22, 42, 180, 0, 64, 27, 187, 0, 50, 89, 183, 0, 52, 83]
abbrev dktX1_init_6 : List UInt8 := dkwX1_init_6 ++ dktX1_init_7
def dkwX1_init_5 : List UInt8 := [60, 27, 16, 16, 162, 0, 22, 42, 180, 0, 60, 27, 187, 0, 50, 89, 183, 0, 52, 83, 132, 1, 1]
abbrev dktX1_init_5 : List UInt8 := dkwX1_init_5 ++ dktX1_init_6
def dkwX1_init_4 : List UInt8 := [183, 0, 52, 181, 0, 57, 42, 16, 16, 189, 0, 50, 181, 0, 60, 42, 6, 189, 0, 50, 181, 0, 64, 3]
abbrev dktX1_init_4 : List UInt8 := dkwX1_init_4 ++ dktX1_init_5
def dkwX1_init_3 : List UInt8 := [183, 0, 45, 181, 0, 46, 42, 187, 0, 50, 89, 183, 0, 52, 181, 0, 53, 42, 187, 0, 50, 89]
abbrev dktX1_init_3 : List UInt8 := dkwX1_init_3 ++ dktX1_init_4
def dkwX1_init_2 : List UInt8 := [183, 0, 35, 181, 0, 36, 42, 187, 0, 33, 89, 183, 0, 35, 181, 0, 40, 42, 187, 0, 43, 89]
abbrev dktX1_init_2 : List UInt8 := dkwX1_init_2 ++ dktX1_init_3
def dkwX1_init_1 : List UInt8 := [183, 0, 19, 181, 0, 22, 42, 2, 181, 0, 26, 42, 16, 254, 181, 0, 30, 42, 187, 0, 33, 89]
abbrev dktX1_init_1 : List UInt8 := dkwX1_init_1 ++ dktX1_init_2
def dkwX1_init_0 : List UInt8 := [42, 183, 0, 7, 42, 17, 3, 132, 188, 8, 181, 0, 13, 42, 187, 0, 17, 89, 42, 180, 0, 13]
abbrev dktX1_init_0 : List UInt8 := dkwX1_init_0 ++ dktX1_init_1
theorem dksX1_init_0 : cX1_init.data.toList.drop 0 = dktX1_init_0 := by decide +kernel
theorem dksX1_init_1 : cX1_init.data.toList.drop 22 = dktX1_init_1 := dk_seg dksX1_init_0 22 rfl rfl
theorem dksX1_init_2 : cX1_init.data.toList.drop 44 = dktX1_init_2 := dk_seg dksX1_init_1 22 rfl rfl
theorem dksX1_init_3 : cX1_init.data.toList.drop 66 = dktX1_init_3 := dk_seg dksX1_init_2 22 rfl rfl
theorem dksX1_init_4 : cX1_init.data.toList.drop 88 = dktX1_init_4 := dk_seg dksX1_init_3 22 rfl rfl
theorem dksX1_init_5 : cX1_init.data.toList.drop 112 = dktX1_init_5 := dk_seg dksX1_init_4 24 rfl rfl
theorem dksX1_init_6 : cX1_init.data.toList.drop 135 = dktX1_init_6 := dk_seg dksX1_init_5 23 rfl rfl
theorem dksX1_init_7 : cX1_init.data.toList.drop 158 = dktX1_init_7 := dk_seg dksX1_init_6 23 rfl rfl
theorem dX1_init_0 : decode cX1_init 0 = .ok (.aload_n 0, 1) := dk_42 (dk_at dksX1_init_0 0 rfl rfl)
theorem dX1_init_1 : decode cX1_init 1 = .ok (.invokespecial 7, 3) := dk_183 0 7 (dk_at dksX1_init_0 1 rfl rfl)
theorem dX1_init_4 : decode cX1_init 4 = .ok (.aload_n 0, 1) := dk_42 (dk_at dksX1_init_0 4 rfl rfl)
theorem dX1_init_5 : decode cX1_init 5 = .ok (.sipush 900, 3) := dk_17 3 132 (dk_at dksX1_init_0 5 rfl rfl)
theorem dX1_init_8 : decode cX1_init 8 = .ok (.newarray .byte, 2) := dk_188_8 (dk_at dksX1_init_0 8 rfl rfl)
theorem dX1_init_10 : decode cX1_init 10 = .ok (.putfield 13, 3) := dk_181 0 13 (dk_at dksX1_init_0 10 rfl rfl)
theorem dX1_init_13 : decode cX1_init 13 = .ok (.aload_n 0, 1) := dk_42 (dk_at dksX1_init_0 13 rfl rfl)
theorem dX1_init_14 : decode cX1_init 14 = .ok (.new 17, 3) := dk_187 0 17 (dk_at dksX1_init_0 14 rfl rfl)
theorem dX1_init_17 : decode cX1_init 17 = .ok (.dup, 1) := dk_89 (dk_at dksX1_init_0 17 rfl rfl)
theorem dX1_init_18 : decode cX1_init 18 = .ok (.aload_n 0, 1) := dk_42 (dk_at dksX1_init_0 18 rfl rfl)
theorem dX1_init_19 : decode cX1_init 19 = .ok (.getfield 13, 3) := dk_180 0 13 (dk_at dksX1_init_0 19 rfl rfl)
theorem dX1_init_22 : decode cX1_init 22 = .ok (.invokespecial 19, 3) := dk_183 0 19 (dk_at dksX1_init_1 0 rfl rfl)
theorem dX1_init_25 : decode cX1_init 25 = .ok (.putfield 22, 3) := dk_181 0 22 (dk_at dksX1_init_1 3 rfl rfl)
theorem dX1_init_28 : decode cX1_init 28 = .ok (.aload_n 0, 1) := dk_42 (dk_at dksX1_init_1 6 rfl rfl)
theorem dX1_init_29 : decode cX1_init 29 = .ok (.iconst (-1), 1) := dk_2 (dk_at dksX1_init_1 7 rfl rfl)
theorem dX1_init_30 : decode cX1_init 30 = .ok (.putfield 26, 3) := dk_181 0 26 (dk_at dksX1_init_1 8 rfl rfl)
theorem dX1_init_33 : decode cX1_init 33 = .ok (.aload_n 0, 1) := dk_42 (dk_at dksX1_init_1 11 rfl rfl)
theorem dX1_init_34 : decode cX1_init 34 = .ok (.bipush (-2), 2) := dk_16 254 (dk_at dksX1_init_1 12 rfl rfl)
theorem dX1_init_36 : decode cX1_init 36 = .ok (.putfield 30, 3) := dk_181 0 30 (dk_at dksX1_init_1 14 rfl rfl)
theorem dX1_init_39 : decode cX1_init 39 = .ok (.aload_n 0, 1) := dk_42 (dk_at dksX1_init_1 17 rfl rfl)
theorem dX1_init_40 : decode cX1_init 40 = .ok (.new 33, 3) := dk_187 0 33 (dk_at dksX1_init_1 18 rfl rfl)
theorem dX1_init_43 : decode cX1_init 43 = .ok (.dup, 1) := dk_89 (dk_at dksX1_init_1 21 rfl rfl)
theorem dX1_init_44 : decode cX1_init 44 = .ok (.invokespecial 35, 3) := dk_183 0 35 (dk_at dksX1_init_2 0 rfl rfl)
theorem dX1_init_47 : decode cX1_init 47 = .ok (.putfield 36, 3) := dk_181 0 36 (dk_at dksX1_init_2 3 rfl rfl)
theorem dX1_init_50 : decode cX1_init 50 = .ok (.aload_n 0, 1) := dk_42 (dk_at dksX1_init_2 6 rfl rfl)
theorem dX1_init_51 : decode cX1_init 51 = .ok (.new 33, 3) := dk_187 0 33 (dk_at dksX1_init_2 7 rfl rfl)
theorem dX1_init_54 : decode cX1_init 54 = .ok (.dup, 1) := dk_89 (dk_at dksX1_init_2 10 rfl rfl)
theorem dX1_init_55 : decode cX1_init 55 = .ok (.invokespecial 35, 3) := dk_183 0 35 (dk_at dksX1_init_2 11 rfl rfl)
theorem dX1_init_58 : decode cX1_init 58 = .ok (.putfield 40, 3) := dk_181 0 40 (dk_at dksX1_init_2 14 rfl rfl)
theorem dX1_init_61 : decode cX1_init 61 = .ok (.aload_n 0, 1) := dk_42 (dk_at dksX1_init_2 17 rfl rfl)
theorem dX1_init_62 : decode cX1_init 62 = .ok (.new 43, 3) := dk_187 0 43 (dk_at dksX1_init_2 18 rfl rfl)
theorem dX1_init_65 : decode cX1_init 65 = .ok (.dup, 1) := dk_89 (dk_at dksX1_init_2 21 rfl rfl)
theorem dX1_init_66 : decode cX1_init 66 = .ok (.invokespecial 45, 3) := dk_183 0 45 (dk_at dksX1_init_3 0 rfl rfl)
theorem dX1_init_69 : decode cX1_init 69 = .ok (.putfield 46, 3) := dk_181 0 46 (dk_at dksX1_init_3 3 rfl rfl)
theorem dX1_init_72 : decode cX1_init 72 = .ok (.aload_n 0, 1) := dk_42 (dk_at dksX1_init_3 6 rfl rfl)
theorem dX1_init_73 : decode cX1_init 73 = .ok (.new 50, 3) := dk_187 0 50 (dk_at dksX1_init_3 7 rfl rfl)
theorem dX1_init_76 : decode cX1_init 76 = .ok (.dup, 1) := dk_89 (dk_at dksX1_init_3 10 rfl rfl)
theorem dX1_init_77 : decode cX1_init 77 = .ok (.invokespecial 52, 3) := dk_183 0 52 (dk_at dksX1_init_3 11 rfl rfl)
theorem dX1_init_80 : decode cX1_init 80 = .ok (.putfield 53, 3) := dk_181 0 53 (dk_at dksX1_init_3 14 rfl rfl)
theorem dX1_init_83 : decode cX1_init 83 = .ok (.aload_n 0, 1) := dk_42 (dk_at dksX1_init_3 17 rfl rfl)
theorem dX1_init_84 : decode cX1_init 84 = .ok (.new 50, 3) := dk_187 0 50 (dk_at dksX1_init_3 18 rfl rfl)
theorem dX1_init_87 : decode cX1_init 87 = .ok (.dup, 1) := dk_89 (dk_at dksX1_init_3 21 rfl rfl)
theorem dX1_init_88 : decode cX1_init 88 = .ok (.invokespecial 52, 3) := dk_183 0 52 (dk_at dksX1_init_4 0 rfl rfl)
theorem dX1_init_91 : decode cX1_init 91 = .ok (.putfield 57, 3) := dk_181 0 57 (dk_at dksX1_init_4 3 rfl rfl)
theorem dX1_init_94 : decode cX1_init 94 = .ok (.aload_n 0, 1) := dk_42 (dk_at dksX1_init_4 6 rfl rfl)
theorem dX1_init_95 : decode cX1_init 95 = .ok (.bipush 16, 2) := dk_16 16 (dk_at dksX1_init_4 7 rfl rfl)
theorem dX1_init_97 : decode cX1_init 97 = .ok (.anewarray 50, 3) := dk_189 0 50 (dk_at dksX1_init_4 9 rfl rfl)
theorem dX1_init_100 : decode cX1_init 100 = .ok (.putfield 60, 3) := dk_181 0 60 (dk_at dksX1_init_4 12 rfl rfl)
theorem dX1_init_103 : decode cX1_init 103 = .ok (.aload_n 0, 1) := dk_42 (dk_at dksX1_init_4 15 rfl rfl)
theorem dX1_init_104 : decode cX1_init 104 = .ok (.iconst 3, 1) := dk_6 (dk_at dksX1_init_4 16 rfl rfl)
theorem dX1_init_105 : decode cX1_init 105 = .ok (.anewarray 50, 3) := dk_189 0 50 (dk_at dksX1_init_4 17 rfl rfl)
theorem dX1_init_108 : decode cX1_init 108 = .ok (.putfield 64, 3) := dk_181 0 64 (dk_at dksX1_init_4 20 rfl rfl)
theorem dX1_init_111 : decode cX1_init 111 = .ok (.iconst 0, 1) := dk_3 (dk_at dksX1_init_4 23 rfl rfl)
theorem dX1_init_112 : decode cX1_init 112 = .ok (.istore_n 1, 1) := dk_60 (dk_at dksX1_init_5 0 rfl rfl)
theorem dX1_init_113 : decode cX1_init 113 = .ok (.iload_n 1, 1) := dk_27 (dk_at dksX1_init_5 1 rfl rfl)
theorem dX1_init_114 : decode cX1_init 114 = .ok (.bipush 16, 2) := dk_16 16 (dk_at dksX1_init_5 2 rfl rfl)
theorem dX1_init_116 : decode cX1_init 116 = .ok (.if_icmp .ge 22, 3) := dk_162 0 22 (dk_at dksX1_init_5 4 rfl rfl)
theorem dX1_init_119 : decode cX1_init 119 = .ok (.aload_n 0, 1) := dk_42 (dk_at dksX1_init_5 7 rfl rfl)
theorem dX1_init_120 : decode cX1_init 120 = .ok (.getfield 60, 3) := dk_180 0 60 (dk_at dksX1_init_5 8 rfl rfl)
theorem dX1_init_123 : decode cX1_init 123 = .ok (.iload_n 1, 1) := dk_27 (dk_at dksX1_init_5 11 rfl rfl)
theorem dX1_init_124 : decode cX1_init 124 = .ok (.new 50, 3) := dk_187 0 50 (dk_at dksX1_init_5 12 rfl rfl)
theorem dX1_init_127 : decode cX1_init 127 = .ok (.dup, 1) := dk_89 (dk_at dksX1_init_5 15 rfl rfl)
theorem dX1_init_128 : decode cX1_init 128 = .ok (.invokespecial 52, 3) := dk_183 0 52 (dk_at dksX1_init_5 16 rfl rfl)
theorem dX1_init_131 : decode cX1_init 131 = .ok (.aastore, 1) := dk_83 (dk_at dksX1_init_5 19 rfl rfl)
theorem dX1_init_132 : decode cX1_init 132 = .ok (.iinc 1 1, 3) := dk_132 1 1 (dk_at dksX1_init_5 20 rfl rfl)
theorem dX1_init_135 : decode cX1_init 135 = .ok (.goto (-22), 3) := dk_167 255 234 (dk_at dksX1_init_6 0 rfl rfl)
theorem dX1_init_138 : decode cX1_init 138 = .ok (.iconst 0, 1) := dk_3 (dk_at dksX1_init_6 3 rfl rfl)
theorem dX1_init_139 : decode cX1_init 139 = .ok (.istore_n 1, 1) := dk_60 (dk_at dksX1_init_6 4 rfl rfl)
theorem dX1_init_140 : decode cX1_init 140 = .ok (.iload_n 1, 1) := dk_27 (dk_at dksX1_init_6 5 rfl rfl)
theorem dX1_init_141 : decode cX1_init 141 = .ok (.iconst 3, 1) := dk_6 (dk_at dksX1_init_6 6 rfl rfl)
theorem dX1_init_142 : decode cX1_init 142 = .ok (.if_icmp .ge 22, 3) := dk_162 0 22 (dk_at dksX1_init_6 7 rfl rfl)
theorem dX1_init_145 : decode cX1_init 145 = .ok (.aload_n 0, 1) := dk_42 (dk_at dksX1_init_6 10 rfl rfl)
theorem dX1_init_146 : decode cX1_init 146 = .ok (.getfield 64, 3) := dk_180 0 64 (dk_at dksX1_init_6 11 rfl rfl)
theorem dX1_init_149 : decode cX1_init 149 = .ok (.iload_n 1, 1) := dk_27 (dk_at dksX1_init_6 14 rfl rfl)
theorem dX1_init_150 : decode cX1_init 150 = .ok (.new 50, 3) := dk_187 0 50 (dk_at dksX1_init_6 15 rfl rfl)
theorem dX1_init_153 : decode cX1_init 153 = .ok (.dup, 1) := dk_89 (dk_at dksX1_init_6 18 rfl rfl)
theorem dX1_init_154 : decode cX1_init 154 = .ok (.invokespecial 52, 3) := dk_183 0 52 (dk_at dksX1_init_6 19 rfl rfl)
theorem dX1_init_157 : decode cX1_init 157 = .ok (.aastore, 1) := dk_83 (dk_at dksX1_init_6 22 rfl rfl)
theorem dX1_init_158 : decode cX1_init 158 = .ok (.iinc 1 1, 3) := dk_132 1 1 (dk_at dksX1_init_7 0 rfl rfl)
theorem dX1_init_161 : decode cX1_init 161 = .ok (.goto (-21), 3) := dk_167 255 235 (dk_at dksX1_init_7 3 rfl rfl)
theorem dX1_init_164 : decode cX1_init 164 = .ok (.return_, 1) := dk_177 (dk_at dksX1_init_7 6 rfl rfl)
abbrev cX1_feed : ByteArray := prog_1_method_9_code
def yX1_feed : MethodName := ⟨RX1, "feed", "(IIIII)I"⟩
def dkwX1_feed_2 : List UInt8 := [172]
abbrev dktX1_feed_2 : List UInt8 := dkwX1_feed_2 ++ []
def dkwX1_feed_1 : List UInt8 := [182, 0, 76, 42, 29, 182, 0, 76, 42, 21, 4, 182, 0, 76, 42, 21, 5, 182, 0, 76, 42, 180, 0, 73]
abbrev dktX1_feed_1 : List UInt8 := dkwX1_feed_1 ++ dktX1_feed_2
def dkwX1_feed_0 : List UInt8 := [42, 180, 0, 73, 16, 20, 96, 17, 3, 132, 164, 0, 5, 2, 172, 42, 27, 182, 0, 76, 42, 28]
abbrev dktX1_feed_0 : List UInt8 := dkwX1_feed_0 ++ dktX1_feed_1
theorem dksX1_feed_0 : cX1_feed.data.toList.drop 0 = dktX1_feed_0 := by decide +kernel
theorem dksX1_feed_1 : cX1_feed.data.toList.drop 22 = dktX1_feed_1 := dk_seg dksX1_feed_0 22 rfl rfl
theorem dksX1_feed_2 : cX1_feed.data.toList.drop 46 = dktX1_feed_2 := dk_seg dksX1_feed_1 24 rfl rfl
theorem dX1_feed_0 : decode cX1_feed 0 = .ok (.aload_n 0, 1) := dk_42 (dk_at dksX1_feed_0 0 rfl rfl)
theorem dX1_feed_1 : decode cX1_feed 1 = .ok (.getfield 73, 3) := dk_180 0 73 (dk_at dksX1_feed_0 1 rfl rfl)
theorem dX1_feed_4 : decode cX1_feed 4 = .ok (.bipush 20, 2) := dk_16 20 (dk_at dksX1_feed_0 4 rfl rfl)
theorem dX1_feed_6 : decode cX1_feed 6 = .ok (.iadd, 1) := dk_96 (dk_at dksX1_feed_0 6 rfl rfl)
theorem dX1_feed_7 : decode cX1_feed 7 = .ok (.sipush 900, 3) := dk_17 3 132 (dk_at dksX1_feed_0 7 rfl rfl)
theorem dX1_feed_10 : decode cX1_feed 10 = .ok (.if_icmp .le 5, 3) := dk_164 0 5 (dk_at dksX1_feed_0 10 rfl rfl)
theorem dX1_feed_13 : decode cX1_feed 13 = .ok (.iconst (-1), 1) := dk_2 (dk_at dksX1_feed_0 13 rfl rfl)
theorem dX1_feed_14 : decode cX1_feed 14 = .ok (.ireturn, 1) := dk_172 (dk_at dksX1_feed_0 14 rfl rfl)
theorem dX1_feed_15 : decode cX1_feed 15 = .ok (.aload_n 0, 1) := dk_42 (dk_at dksX1_feed_0 15 rfl rfl)
theorem dX1_feed_16 : decode cX1_feed 16 = .ok (.iload_n 1, 1) := dk_27 (dk_at dksX1_feed_0 16 rfl rfl)
theorem dX1_feed_17 : decode cX1_feed 17 = .ok (.invokevirtual 76, 3) := dk_182 0 76 (dk_at dksX1_feed_0 17 rfl rfl)
theorem dX1_feed_20 : decode cX1_feed 20 = .ok (.aload_n 0, 1) := dk_42 (dk_at dksX1_feed_0 20 rfl rfl)
theorem dX1_feed_21 : decode cX1_feed 21 = .ok (.iload_n 2, 1) := dk_28 (dk_at dksX1_feed_0 21 rfl rfl)
theorem dX1_feed_22 : decode cX1_feed 22 = .ok (.invokevirtual 76, 3) := dk_182 0 76 (dk_at dksX1_feed_1 0 rfl rfl)
theorem dX1_feed_25 : decode cX1_feed 25 = .ok (.aload_n 0, 1) := dk_42 (dk_at dksX1_feed_1 3 rfl rfl)
theorem dX1_feed_26 : decode cX1_feed 26 = .ok (.iload_n 3, 1) := dk_29 (dk_at dksX1_feed_1 4 rfl rfl)
theorem dX1_feed_27 : decode cX1_feed 27 = .ok (.invokevirtual 76, 3) := dk_182 0 76 (dk_at dksX1_feed_1 5 rfl rfl)
theorem dX1_feed_30 : decode cX1_feed 30 = .ok (.aload_n 0, 1) := dk_42 (dk_at dksX1_feed_1 8 rfl rfl)
theorem dX1_feed_31 : decode cX1_feed 31 = .ok (.iload 4, 2) := dk_21 4 (dk_at dksX1_feed_1 9 rfl rfl)
theorem dX1_feed_33 : decode cX1_feed 33 = .ok (.invokevirtual 76, 3) := dk_182 0 76 (dk_at dksX1_feed_1 11 rfl rfl)
theorem dX1_feed_36 : decode cX1_feed 36 = .ok (.aload_n 0, 1) := dk_42 (dk_at dksX1_feed_1 14 rfl rfl)
theorem dX1_feed_37 : decode cX1_feed 37 = .ok (.iload 5, 2) := dk_21 5 (dk_at dksX1_feed_1 15 rfl rfl)
theorem dX1_feed_39 : decode cX1_feed 39 = .ok (.invokevirtual 76, 3) := dk_182 0 76 (dk_at dksX1_feed_1 17 rfl rfl)
theorem dX1_feed_42 : decode cX1_feed 42 = .ok (.aload_n 0, 1) := dk_42 (dk_at dksX1_feed_1 20 rfl rfl)
theorem dX1_feed_43 : decode cX1_feed 43 = .ok (.getfield 73, 3) := dk_180 0 73 (dk_at dksX1_feed_1 21 rfl rfl)
theorem dX1_feed_46 : decode cX1_feed 46 = .ok (.ireturn, 1) := dk_172 (dk_at dksX1_feed_2 0 rfl rfl)
abbrev cX1_bytes : ByteArray := prog_1_method_10_code
def yX1_bytes : MethodName := ⟨RX1, "bytes", "(I)V"⟩
def dkwX1_bytes_1 : List UInt8 := [180, 0, 73, 4, 96, 181, 0, 73, 132, 2, 248, 167, 255, 226, 177]
abbrev dktX1_bytes_1 : List UInt8 := dkwX1_bytes_1 ++ []
def dkwX1_bytes_0 : List UInt8 := [16, 24, 61, 28, 155, 0, 32, 42, 180, 0, 13, 42, 180, 0, 73, 27, 28, 122, 145, 84, 42, 89]
abbrev dktX1_bytes_0 : List UInt8 := dkwX1_bytes_0 ++ dktX1_bytes_1
theorem dksX1_bytes_0 : cX1_bytes.data.toList.drop 0 = dktX1_bytes_0 := by decide +kernel
theorem dksX1_bytes_1 : cX1_bytes.data.toList.drop 22 = dktX1_bytes_1 := dk_seg dksX1_bytes_0 22 rfl rfl
theorem dX1_bytes_0 : decode cX1_bytes 0 = .ok (.bipush 24, 2) := dk_16 24 (dk_at dksX1_bytes_0 0 rfl rfl)
theorem dX1_bytes_2 : decode cX1_bytes 2 = .ok (.istore_n 2, 1) := dk_61 (dk_at dksX1_bytes_0 2 rfl rfl)
theorem dX1_bytes_3 : decode cX1_bytes 3 = .ok (.iload_n 2, 1) := dk_28 (dk_at dksX1_bytes_0 3 rfl rfl)
theorem dX1_bytes_4 : decode cX1_bytes 4 = .ok (.ifCond .lt 32, 3) := dk_155 0 32 (dk_at dksX1_bytes_0 4 rfl rfl)
theorem dX1_bytes_7 : decode cX1_bytes 7 = .ok (.aload_n 0, 1) := dk_42 (dk_at dksX1_bytes_0 7 rfl rfl)
theorem dX1_bytes_8 : decode cX1_bytes 8 = .ok (.getfield 13, 3) := dk_180 0 13 (dk_at dksX1_bytes_0 8 rfl rfl)
theorem dX1_bytes_11 : decode cX1_bytes 11 = .ok (.aload_n 0, 1) := dk_42 (dk_at dksX1_bytes_0 11 rfl rfl)
theorem dX1_bytes_12 : decode cX1_bytes 12 = .ok (.getfield 73, 3) := dk_180 0 73 (dk_at dksX1_bytes_0 12 rfl rfl)
theorem dX1_bytes_15 : decode cX1_bytes 15 = .ok (.iload_n 1, 1) := dk_27 (dk_at dksX1_bytes_0 15 rfl rfl)
theorem dX1_bytes_16 : decode cX1_bytes 16 = .ok (.iload_n 2, 1) := dk_28 (dk_at dksX1_bytes_0 16 rfl rfl)
theorem dX1_bytes_17 : decode cX1_bytes 17 = .ok (.ishr, 1) := dk_122 (dk_at dksX1_bytes_0 17 rfl rfl)
theorem dX1_bytes_18 : decode cX1_bytes 18 = .ok (.i2b, 1) := dk_145 (dk_at dksX1_bytes_0 18 rfl rfl)
theorem dX1_bytes_19 : decode cX1_bytes 19 = .ok (.bastore, 1) := dk_84 (dk_at dksX1_bytes_0 19 rfl rfl)
theorem dX1_bytes_20 : decode cX1_bytes 20 = .ok (.aload_n 0, 1) := dk_42 (dk_at dksX1_bytes_0 20 rfl rfl)
theorem dX1_bytes_21 : decode cX1_bytes 21 = .ok (.dup, 1) := dk_89 (dk_at dksX1_bytes_0 21 rfl rfl)
theorem dX1_bytes_22 : decode cX1_bytes 22 = .ok (.getfield 73, 3) := dk_180 0 73 (dk_at dksX1_bytes_1 0 rfl rfl)
theorem dX1_bytes_25 : decode cX1_bytes 25 = .ok (.iconst 1, 1) := dk_4 (dk_at dksX1_bytes_1 3 rfl rfl)
theorem dX1_bytes_26 : decode cX1_bytes 26 = .ok (.iadd, 1) := dk_96 (dk_at dksX1_bytes_1 4 rfl rfl)
theorem dX1_bytes_27 : decode cX1_bytes 27 = .ok (.putfield 73, 3) := dk_181 0 73 (dk_at dksX1_bytes_1 5 rfl rfl)
theorem dX1_bytes_30 : decode cX1_bytes 30 = .ok (.iinc 2 (-8), 3) := dk_132 2 248 (dk_at dksX1_bytes_1 8 rfl rfl)
theorem dX1_bytes_33 : decode cX1_bytes 33 = .ok (.goto (-30), 3) := dk_167 255 226 (dk_at dksX1_bytes_1 11 rfl rfl)
theorem dX1_bytes_36 : decode cX1_bytes 36 = .ok (.return_, 1) := dk_177 (dk_at dksX1_bytes_1 14 rfl rfl)
abbrev cX1_world : ByteArray := prog_1_method_11_code
def yX1_world : MethodName := ⟨RX1, "world", "(I)I"⟩
def dkwX1_world_3 : List UInt8 := [16, 254, 181, 0, 30, 42, 3, 181, 0, 105, 42, 3, 181, 0, 108, 42, 180, 0, 95, 180, 0, 111, 172]
abbrev dktX1_world_3 : List UInt8 := dkwX1_world_3 ++ []
def dkwX1_world_2 : List UInt8 := [42, 44, 180, 0, 101, 181, 0, 88, 42, 44, 180, 0, 102, 181, 0, 26, 42, 7, 182, 0, 84, 172, 42]
abbrev dktX1_world_2 : List UInt8 := dkwX1_world_2 ++ dktX1_world_3
def dkwX1_world_1 : List UInt8 := [181, 0, 73, 42, 3, 181, 0, 88, 42, 42, 180, 0, 22, 27, 182, 0, 91, 181, 0, 95, 167, 0, 26, 77]
abbrev dktX1_world_1 : List UInt8 := dkwX1_world_1 ++ dktX1_world_2
def dkwX1_world_0 : List UInt8 := [42, 182, 0, 70, 27, 3, 42, 180, 0, 73, 184, 0, 80, 154, 0, 9, 42, 5, 182, 0, 84, 172, 42, 3]
abbrev dktX1_world_0 : List UInt8 := dkwX1_world_0 ++ dktX1_world_1
theorem dksX1_world_0 : cX1_world.data.toList.drop 0 = dktX1_world_0 := by decide +kernel
theorem dksX1_world_1 : cX1_world.data.toList.drop 24 = dktX1_world_1 := dk_seg dksX1_world_0 24 rfl rfl
theorem dksX1_world_2 : cX1_world.data.toList.drop 48 = dktX1_world_2 := dk_seg dksX1_world_1 24 rfl rfl
theorem dksX1_world_3 : cX1_world.data.toList.drop 71 = dktX1_world_3 := dk_seg dksX1_world_2 23 rfl rfl
theorem dX1_world_0 : decode cX1_world 0 = .ok (.aload_n 0, 1) := dk_42 (dk_at dksX1_world_0 0 rfl rfl)
theorem dX1_world_1 : decode cX1_world 1 = .ok (.invokevirtual 70, 3) := dk_182 0 70 (dk_at dksX1_world_0 1 rfl rfl)
theorem dX1_world_4 : decode cX1_world 4 = .ok (.iload_n 1, 1) := dk_27 (dk_at dksX1_world_0 4 rfl rfl)
theorem dX1_world_5 : decode cX1_world 5 = .ok (.iconst 0, 1) := dk_3 (dk_at dksX1_world_0 5 rfl rfl)
theorem dX1_world_6 : decode cX1_world 6 = .ok (.aload_n 0, 1) := dk_42 (dk_at dksX1_world_0 6 rfl rfl)
theorem dX1_world_7 : decode cX1_world 7 = .ok (.getfield 73, 3) := dk_180 0 73 (dk_at dksX1_world_0 7 rfl rfl)
theorem dX1_world_10 : decode cX1_world 10 = .ok (.invokestatic 80, 3) := dk_184 0 80 (dk_at dksX1_world_0 10 rfl rfl)
theorem dX1_world_13 : decode cX1_world 13 = .ok (.ifCond .ne 9, 3) := dk_154 0 9 (dk_at dksX1_world_0 13 rfl rfl)
theorem dX1_world_16 : decode cX1_world 16 = .ok (.aload_n 0, 1) := dk_42 (dk_at dksX1_world_0 16 rfl rfl)
theorem dX1_world_17 : decode cX1_world 17 = .ok (.iconst 2, 1) := dk_5 (dk_at dksX1_world_0 17 rfl rfl)
theorem dX1_world_18 : decode cX1_world 18 = .ok (.invokevirtual 84, 3) := dk_182 0 84 (dk_at dksX1_world_0 18 rfl rfl)
theorem dX1_world_21 : decode cX1_world 21 = .ok (.ireturn, 1) := dk_172 (dk_at dksX1_world_0 21 rfl rfl)
theorem dX1_world_22 : decode cX1_world 22 = .ok (.aload_n 0, 1) := dk_42 (dk_at dksX1_world_0 22 rfl rfl)
theorem dX1_world_23 : decode cX1_world 23 = .ok (.iconst 0, 1) := dk_3 (dk_at dksX1_world_0 23 rfl rfl)
theorem dX1_world_24 : decode cX1_world 24 = .ok (.putfield 73, 3) := dk_181 0 73 (dk_at dksX1_world_1 0 rfl rfl)
theorem dX1_world_27 : decode cX1_world 27 = .ok (.aload_n 0, 1) := dk_42 (dk_at dksX1_world_1 3 rfl rfl)
theorem dX1_world_28 : decode cX1_world 28 = .ok (.iconst 0, 1) := dk_3 (dk_at dksX1_world_1 4 rfl rfl)
theorem dX1_world_29 : decode cX1_world 29 = .ok (.putfield 88, 3) := dk_181 0 88 (dk_at dksX1_world_1 5 rfl rfl)
theorem dX1_world_32 : decode cX1_world 32 = .ok (.aload_n 0, 1) := dk_42 (dk_at dksX1_world_1 8 rfl rfl)
theorem dX1_world_33 : decode cX1_world 33 = .ok (.aload_n 0, 1) := dk_42 (dk_at dksX1_world_1 9 rfl rfl)
theorem dX1_world_34 : decode cX1_world 34 = .ok (.getfield 22, 3) := dk_180 0 22 (dk_at dksX1_world_1 10 rfl rfl)
theorem dX1_world_37 : decode cX1_world 37 = .ok (.iload_n 1, 1) := dk_27 (dk_at dksX1_world_1 13 rfl rfl)
theorem dX1_world_38 : decode cX1_world 38 = .ok (.invokevirtual 91, 3) := dk_182 0 91 (dk_at dksX1_world_1 14 rfl rfl)
theorem dX1_world_41 : decode cX1_world 41 = .ok (.putfield 95, 3) := dk_181 0 95 (dk_at dksX1_world_1 17 rfl rfl)
theorem dX1_world_44 : decode cX1_world 44 = .ok (.goto 26, 3) := dk_167 0 26 (dk_at dksX1_world_1 20 rfl rfl)
theorem dX1_world_47 : decode cX1_world 47 = .ok (.astore_n 2, 1) := dk_77 (dk_at dksX1_world_1 23 rfl rfl)
theorem dX1_world_48 : decode cX1_world 48 = .ok (.aload_n 0, 1) := dk_42 (dk_at dksX1_world_2 0 rfl rfl)
theorem dX1_world_49 : decode cX1_world 49 = .ok (.aload_n 2, 1) := dk_44 (dk_at dksX1_world_2 1 rfl rfl)
theorem dX1_world_50 : decode cX1_world 50 = .ok (.getfield 101, 3) := dk_180 0 101 (dk_at dksX1_world_2 2 rfl rfl)
theorem dX1_world_53 : decode cX1_world 53 = .ok (.putfield 88, 3) := dk_181 0 88 (dk_at dksX1_world_2 5 rfl rfl)
theorem dX1_world_56 : decode cX1_world 56 = .ok (.aload_n 0, 1) := dk_42 (dk_at dksX1_world_2 8 rfl rfl)
theorem dX1_world_57 : decode cX1_world 57 = .ok (.aload_n 2, 1) := dk_44 (dk_at dksX1_world_2 9 rfl rfl)
theorem dX1_world_58 : decode cX1_world 58 = .ok (.getfield 102, 3) := dk_180 0 102 (dk_at dksX1_world_2 10 rfl rfl)
theorem dX1_world_61 : decode cX1_world 61 = .ok (.putfield 26, 3) := dk_181 0 26 (dk_at dksX1_world_2 13 rfl rfl)
theorem dX1_world_64 : decode cX1_world 64 = .ok (.aload_n 0, 1) := dk_42 (dk_at dksX1_world_2 16 rfl rfl)
theorem dX1_world_65 : decode cX1_world 65 = .ok (.iconst 4, 1) := dk_7 (dk_at dksX1_world_2 17 rfl rfl)
theorem dX1_world_66 : decode cX1_world 66 = .ok (.invokevirtual 84, 3) := dk_182 0 84 (dk_at dksX1_world_2 18 rfl rfl)
theorem dX1_world_69 : decode cX1_world 69 = .ok (.ireturn, 1) := dk_172 (dk_at dksX1_world_2 21 rfl rfl)
theorem dX1_world_70 : decode cX1_world 70 = .ok (.aload_n 0, 1) := dk_42 (dk_at dksX1_world_2 22 rfl rfl)
theorem dX1_world_71 : decode cX1_world 71 = .ok (.bipush (-2), 2) := dk_16 254 (dk_at dksX1_world_3 0 rfl rfl)
theorem dX1_world_73 : decode cX1_world 73 = .ok (.putfield 30, 3) := dk_181 0 30 (dk_at dksX1_world_3 2 rfl rfl)
theorem dX1_world_76 : decode cX1_world 76 = .ok (.aload_n 0, 1) := dk_42 (dk_at dksX1_world_3 5 rfl rfl)
theorem dX1_world_77 : decode cX1_world 77 = .ok (.iconst 0, 1) := dk_3 (dk_at dksX1_world_3 6 rfl rfl)
theorem dX1_world_78 : decode cX1_world 78 = .ok (.putfield 105, 3) := dk_181 0 105 (dk_at dksX1_world_3 7 rfl rfl)
theorem dX1_world_81 : decode cX1_world 81 = .ok (.aload_n 0, 1) := dk_42 (dk_at dksX1_world_3 10 rfl rfl)
theorem dX1_world_82 : decode cX1_world 82 = .ok (.iconst 0, 1) := dk_3 (dk_at dksX1_world_3 11 rfl rfl)
theorem dX1_world_83 : decode cX1_world 83 = .ok (.putfield 108, 3) := dk_181 0 108 (dk_at dksX1_world_3 12 rfl rfl)
theorem dX1_world_86 : decode cX1_world 86 = .ok (.aload_n 0, 1) := dk_42 (dk_at dksX1_world_3 15 rfl rfl)
theorem dX1_world_87 : decode cX1_world 87 = .ok (.getfield 95, 3) := dk_180 0 95 (dk_at dksX1_world_3 16 rfl rfl)
theorem dX1_world_90 : decode cX1_world 90 = .ok (.getfield 111, 3) := dk_180 0 111 (dk_at dksX1_world_3 19 rfl rfl)
theorem dX1_world_93 : decode cX1_world 93 = .ok (.ireturn, 1) := dk_172 (dk_at dksX1_world_3 22 rfl rfl)
abbrev cX1_anew : ByteArray := prog_1_method_6_code
def yX1_anew : MethodName := ⟨RX1, "anew", "()V"⟩
def dkwX1_anew_0 : List UInt8 := [42, 3, 181, 0, 67, 42, 2, 181, 0, 26, 177]
abbrev dktX1_anew_0 : List UInt8 := dkwX1_anew_0 ++ []
theorem dksX1_anew_0 : cX1_anew.data.toList.drop 0 = dktX1_anew_0 := by decide +kernel
theorem dX1_anew_0 : decode cX1_anew 0 = .ok (.aload_n 0, 1) := dk_42 (dk_at dksX1_anew_0 0 rfl rfl)
theorem dX1_anew_1 : decode cX1_anew 1 = .ok (.iconst 0, 1) := dk_3 (dk_at dksX1_anew_0 1 rfl rfl)
theorem dX1_anew_2 : decode cX1_anew 2 = .ok (.putfield 67, 3) := dk_181 0 67 (dk_at dksX1_anew_0 2 rfl rfl)
theorem dX1_anew_5 : decode cX1_anew 5 = .ok (.aload_n 0, 1) := dk_42 (dk_at dksX1_anew_0 5 rfl rfl)
theorem dX1_anew_6 : decode cX1_anew 6 = .ok (.iconst (-1), 1) := dk_2 (dk_at dksX1_anew_0 6 rfl rfl)
theorem dX1_anew_7 : decode cX1_anew 7 = .ok (.putfield 26, 3) := dk_181 0 26 (dk_at dksX1_anew_0 7 rfl rfl)
theorem dX1_anew_10 : decode cX1_anew 10 = .ok (.return_, 1) := dk_177 (dk_at dksX1_anew_0 10 rfl rfl)
abbrev cX1_in : ByteArray := prog_1_method_1_code
def yX1_in : MethodName := ⟨RX1, "in", "(III)Z"⟩
def dkwX1_in_0 : List UInt8 := [26, 27, 161, 0, 12, 26, 28, 163, 0, 7, 4, 167, 0, 4, 3, 172]
abbrev dktX1_in_0 : List UInt8 := dkwX1_in_0 ++ []
theorem dksX1_in_0 : cX1_in.data.toList.drop 0 = dktX1_in_0 := by decide +kernel
theorem dX1_in_0 : decode cX1_in 0 = .ok (.iload_n 0, 1) := dk_26 (dk_at dksX1_in_0 0 rfl rfl)
theorem dX1_in_1 : decode cX1_in 1 = .ok (.iload_n 1, 1) := dk_27 (dk_at dksX1_in_0 1 rfl rfl)
theorem dX1_in_2 : decode cX1_in 2 = .ok (.if_icmp .lt 12, 3) := dk_161 0 12 (dk_at dksX1_in_0 2 rfl rfl)
theorem dX1_in_5 : decode cX1_in 5 = .ok (.iload_n 0, 1) := dk_26 (dk_at dksX1_in_0 5 rfl rfl)
theorem dX1_in_6 : decode cX1_in 6 = .ok (.iload_n 2, 1) := dk_28 (dk_at dksX1_in_0 6 rfl rfl)
theorem dX1_in_7 : decode cX1_in 7 = .ok (.if_icmp .gt 7, 3) := dk_163 0 7 (dk_at dksX1_in_0 7 rfl rfl)
theorem dX1_in_10 : decode cX1_in 10 = .ok (.iconst 1, 1) := dk_4 (dk_at dksX1_in_0 10 rfl rfl)
theorem dX1_in_11 : decode cX1_in 11 = .ok (.goto 4, 3) := dk_167 0 4 (dk_at dksX1_in_0 11 rfl rfl)
theorem dX1_in_14 : decode cX1_in 14 = .ok (.iconst 0, 1) := dk_3 (dk_at dksX1_in_0 14 rfl rfl)
theorem dX1_in_15 : decode cX1_in 15 = .ok (.ireturn, 1) := dk_172 (dk_at dksX1_in_0 15 rfl rfl)
abbrev cX1_no : ByteArray := prog_1_method_7_code
def yX1_no : MethodName := ⟨RX1, "no", "(I)I"⟩
def dkwX1_no_0 : List UInt8 := [42, 27, 181, 0, 67, 2, 172]
abbrev dktX1_no_0 : List UInt8 := dkwX1_no_0 ++ []
theorem dksX1_no_0 : cX1_no.data.toList.drop 0 = dktX1_no_0 := by decide +kernel
theorem dX1_no_0 : decode cX1_no 0 = .ok (.aload_n 0, 1) := dk_42 (dk_at dksX1_no_0 0 rfl rfl)
theorem dX1_no_1 : decode cX1_no 1 = .ok (.iload_n 1, 1) := dk_27 (dk_at dksX1_no_0 1 rfl rfl)
theorem dX1_no_2 : decode cX1_no 2 = .ok (.putfield 67, 3) := dk_181 0 67 (dk_at dksX1_no_0 2 rfl rfl)
theorem dX1_no_5 : decode cX1_no 5 = .ok (.iconst (-1), 1) := dk_2 (dk_at dksX1_no_0 5 rfl rfl)
theorem dX1_no_6 : decode cX1_no 6 = .ok (.ireturn, 1) := dk_172 (dk_at dksX1_no_0 6 rfl rfl)
abbrev cX1_fault : ByteArray := prog_1_method_12_code
def yX1_fault : MethodName := ⟨RX1, "fault", "()I"⟩
theorem dX1_fault_0 : decode cX1_fault 0 = .ok (.aload_n 0, 1) := by decide +kernel
theorem dX1_fault_1 : decode cX1_fault 1 = .ok (.getfield 88, 3) := by decide +kernel
theorem dX1_fault_4 : decode cX1_fault 4 = .ok (.ireturn, 1) := by decide +kernel
abbrev cX1_where : ByteArray := prog_1_method_13_code
def yX1_where : MethodName := ⟨RX1, "where", "()I"⟩
def dkwX1_where_0 : List UInt8 := [42, 180, 0, 67, 7, 160, 0, 10, 42, 180, 0, 26, 167, 0, 4, 2, 172]
abbrev dktX1_where_0 : List UInt8 := dkwX1_where_0 ++ []
theorem dksX1_where_0 : cX1_where.data.toList.drop 0 = dktX1_where_0 := by decide +kernel
theorem dX1_where_0 : decode cX1_where 0 = .ok (.aload_n 0, 1) := dk_42 (dk_at dksX1_where_0 0 rfl rfl)
theorem dX1_where_1 : decode cX1_where 1 = .ok (.getfield 67, 3) := dk_180 0 67 (dk_at dksX1_where_0 1 rfl rfl)
theorem dX1_where_4 : decode cX1_where 4 = .ok (.iconst 4, 1) := dk_7 (dk_at dksX1_where_0 4 rfl rfl)
theorem dX1_where_5 : decode cX1_where 5 = .ok (.if_icmp .ne 10, 3) := dk_160 0 10 (dk_at dksX1_where_0 5 rfl rfl)
theorem dX1_where_8 : decode cX1_where 8 = .ok (.aload_n 0, 1) := dk_42 (dk_at dksX1_where_0 8 rfl rfl)
theorem dX1_where_9 : decode cX1_where 9 = .ok (.getfield 26, 3) := dk_180 0 26 (dk_at dksX1_where_0 9 rfl rfl)
theorem dX1_where_12 : decode cX1_where 12 = .ok (.goto 4, 3) := dk_167 0 4 (dk_at dksX1_where_0 12 rfl rfl)
theorem dX1_where_15 : decode cX1_where 15 = .ok (.iconst (-1), 1) := dk_2 (dk_at dksX1_where_0 15 rfl rfl)
theorem dX1_where_16 : decode cX1_where 16 = .ok (.ireturn, 1) := dk_172 (dk_at dksX1_where_0 16 rfl rfl)
abbrev cX1_face : ByteArray := prog_1_method_19_code
def yX1_face : MethodName := ⟨RX1, "face", "(IIIIIIZ)J"⟩
def dkwX1_face_2 : List UInt8 := [167, 0, 21, 42, 180, 0, 36, 180, 0, 160, 21, 6, 47, 20, 0, 164, 21, 7, 184, 0, 166, 173]
abbrev dktX1_face_2 : List UInt8 := dkwX1_face_2 ++ []
def dkwX1_face_1 : List UInt8 := [29, 21, 4, 21, 5, 182, 0, 156, 54, 8, 21, 8, 153, 0, 13, 42, 21, 8, 182, 0, 84, 133]
abbrev dktX1_face_1 : List UInt8 := dkwX1_face_1 ++ dktX1_face_2
def dkwX1_face_0 : List UInt8 := [42, 182, 0, 70, 21, 6, 3, 7, 184, 0, 80, 154, 0, 10, 42, 4, 182, 0, 84, 133, 173, 42, 27, 28]
abbrev dktX1_face_0 : List UInt8 := dkwX1_face_0 ++ dktX1_face_1
theorem dksX1_face_0 : cX1_face.data.toList.drop 0 = dktX1_face_0 := by decide +kernel
theorem dksX1_face_1 : cX1_face.data.toList.drop 24 = dktX1_face_1 := dk_seg dksX1_face_0 24 rfl rfl
theorem dksX1_face_2 : cX1_face.data.toList.drop 46 = dktX1_face_2 := dk_seg dksX1_face_1 22 rfl rfl
theorem dX1_face_0 : decode cX1_face 0 = .ok (.aload_n 0, 1) := dk_42 (dk_at dksX1_face_0 0 rfl rfl)
theorem dX1_face_1 : decode cX1_face 1 = .ok (.invokevirtual 70, 3) := dk_182 0 70 (dk_at dksX1_face_0 1 rfl rfl)
theorem dX1_face_4 : decode cX1_face 4 = .ok (.iload 6, 2) := dk_21 6 (dk_at dksX1_face_0 4 rfl rfl)
theorem dX1_face_6 : decode cX1_face 6 = .ok (.iconst 0, 1) := dk_3 (dk_at dksX1_face_0 6 rfl rfl)
theorem dX1_face_7 : decode cX1_face 7 = .ok (.iconst 4, 1) := dk_7 (dk_at dksX1_face_0 7 rfl rfl)
theorem dX1_face_8 : decode cX1_face 8 = .ok (.invokestatic 80, 3) := dk_184 0 80 (dk_at dksX1_face_0 8 rfl rfl)
theorem dX1_face_11 : decode cX1_face 11 = .ok (.ifCond .ne 10, 3) := dk_154 0 10 (dk_at dksX1_face_0 11 rfl rfl)
theorem dX1_face_14 : decode cX1_face 14 = .ok (.aload_n 0, 1) := dk_42 (dk_at dksX1_face_0 14 rfl rfl)
theorem dX1_face_15 : decode cX1_face 15 = .ok (.iconst 1, 1) := dk_4 (dk_at dksX1_face_0 15 rfl rfl)
theorem dX1_face_16 : decode cX1_face 16 = .ok (.invokevirtual 84, 3) := dk_182 0 84 (dk_at dksX1_face_0 16 rfl rfl)
theorem dX1_face_19 : decode cX1_face 19 = .ok (.i2l, 1) := dk_133 (dk_at dksX1_face_0 19 rfl rfl)
theorem dX1_face_20 : decode cX1_face 20 = .ok (.lreturn, 1) := dk_173 (dk_at dksX1_face_0 20 rfl rfl)
theorem dX1_face_21 : decode cX1_face 21 = .ok (.aload_n 0, 1) := dk_42 (dk_at dksX1_face_0 21 rfl rfl)
theorem dX1_face_22 : decode cX1_face 22 = .ok (.iload_n 1, 1) := dk_27 (dk_at dksX1_face_0 22 rfl rfl)
theorem dX1_face_23 : decode cX1_face 23 = .ok (.iload_n 2, 1) := dk_28 (dk_at dksX1_face_0 23 rfl rfl)
theorem dX1_face_24 : decode cX1_face 24 = .ok (.iload_n 3, 1) := dk_29 (dk_at dksX1_face_1 0 rfl rfl)
theorem dX1_face_25 : decode cX1_face 25 = .ok (.iload 4, 2) := dk_21 4 (dk_at dksX1_face_1 1 rfl rfl)
theorem dX1_face_27 : decode cX1_face 27 = .ok (.iload 5, 2) := dk_21 5 (dk_at dksX1_face_1 3 rfl rfl)
theorem dX1_face_29 : decode cX1_face 29 = .ok (.invokevirtual 156, 3) := dk_182 0 156 (dk_at dksX1_face_1 5 rfl rfl)
theorem dX1_face_32 : decode cX1_face 32 = .ok (.istore 8, 2) := dk_54 8 (dk_at dksX1_face_1 8 rfl rfl)
theorem dX1_face_34 : decode cX1_face 34 = .ok (.iload 8, 2) := dk_21 8 (dk_at dksX1_face_1 10 rfl rfl)
theorem dX1_face_36 : decode cX1_face 36 = .ok (.ifCond .eq 13, 3) := dk_153 0 13 (dk_at dksX1_face_1 12 rfl rfl)
theorem dX1_face_39 : decode cX1_face 39 = .ok (.aload_n 0, 1) := dk_42 (dk_at dksX1_face_1 15 rfl rfl)
theorem dX1_face_40 : decode cX1_face 40 = .ok (.iload 8, 2) := dk_21 8 (dk_at dksX1_face_1 16 rfl rfl)
theorem dX1_face_42 : decode cX1_face 42 = .ok (.invokevirtual 84, 3) := dk_182 0 84 (dk_at dksX1_face_1 18 rfl rfl)
theorem dX1_face_45 : decode cX1_face 45 = .ok (.i2l, 1) := dk_133 (dk_at dksX1_face_1 21 rfl rfl)
theorem dX1_face_46 : decode cX1_face 46 = .ok (.goto 21, 3) := dk_167 0 21 (dk_at dksX1_face_2 0 rfl rfl)
theorem dX1_face_49 : decode cX1_face 49 = .ok (.aload_n 0, 1) := dk_42 (dk_at dksX1_face_2 3 rfl rfl)
theorem dX1_face_50 : decode cX1_face 50 = .ok (.getfield 36, 3) := dk_180 0 36 (dk_at dksX1_face_2 4 rfl rfl)
theorem dX1_face_53 : decode cX1_face 53 = .ok (.getfield 160, 3) := dk_180 0 160 (dk_at dksX1_face_2 7 rfl rfl)
theorem dX1_face_56 : decode cX1_face 56 = .ok (.iload 6, 2) := dk_21 6 (dk_at dksX1_face_2 10 rfl rfl)
theorem dX1_face_58 : decode cX1_face 58 = .ok (.laload, 1) := dk_47 (dk_at dksX1_face_2 12 rfl rfl)
theorem dX1_face_59 : decode cX1_face 59 = .ok (.ldc2_w 164, 3) := dk_20 0 164 (dk_at dksX1_face_2 13 rfl rfl)
theorem dX1_face_62 : decode cX1_face 62 = .ok (.iload 7, 2) := dk_21 7 (dk_at dksX1_face_2 16 rfl rfl)
theorem dX1_face_64 : decode cX1_face 64 = .ok (.invokestatic 166, 3) := dk_184 0 166 (dk_at dksX1_face_2 18 rfl rfl)
theorem dX1_face_67 : decode cX1_face 67 = .ok (.lreturn, 1) := dk_173 (dk_at dksX1_face_2 21 rfl rfl)
abbrev cX1_legWhy : ByteArray := prog_1_method_18_code
def yX1_legWhy : MethodName := ⟨RX1, "legWhy", "(IIIII)I"⟩
def dkwX1_legWhy_3 : List UInt8 := [180, 0, 148, 21, 4, 50, 21, 5, 182, 0, 152, 3, 172]
abbrev dktX1_legWhy_3 : List UInt8 := dkwX1_legWhy_3 ++ []
def dkwX1_legWhy_2 : List UInt8 := [180, 0, 95, 180, 0, 135, 27, 50, 42, 180, 0, 95, 180, 0, 144, 28, 50, 29, 42, 180, 0, 95]
abbrev dktX1_legWhy_2 : List UInt8 := dkwX1_legWhy_2 ++ dktX1_legWhy_3
def dkwX1_legWhy_1 : List UInt8 := [180, 0, 95, 180, 0, 135, 27, 50, 21, 5, 182, 0, 139, 154, 0, 5, 5, 172, 42, 180, 0, 36, 42]
abbrev dktX1_legWhy_1 : List UInt8 := dkwX1_legWhy_1 ++ dktX1_legWhy_2
def dkwX1_legWhy_0 : List UInt8 := [42, 27, 182, 0, 129, 153, 0, 14, 42, 28, 29, 21, 4, 182, 0, 132, 154, 0, 5, 4, 172, 42]
abbrev dktX1_legWhy_0 : List UInt8 := dkwX1_legWhy_0 ++ dktX1_legWhy_1
theorem dksX1_legWhy_0 : cX1_legWhy.data.toList.drop 0 = dktX1_legWhy_0 := by decide +kernel
theorem dksX1_legWhy_1 : cX1_legWhy.data.toList.drop 22 = dktX1_legWhy_1 := dk_seg dksX1_legWhy_0 22 rfl rfl
theorem dksX1_legWhy_2 : cX1_legWhy.data.toList.drop 45 = dktX1_legWhy_2 := dk_seg dksX1_legWhy_1 23 rfl rfl
theorem dksX1_legWhy_3 : cX1_legWhy.data.toList.drop 67 = dktX1_legWhy_3 := dk_seg dksX1_legWhy_2 22 rfl rfl
theorem dX1_legWhy_0 : decode cX1_legWhy 0 = .ok (.aload_n 0, 1) := dk_42 (dk_at dksX1_legWhy_0 0 rfl rfl)
theorem dX1_legWhy_1 : decode cX1_legWhy 1 = .ok (.iload_n 1, 1) := dk_27 (dk_at dksX1_legWhy_0 1 rfl rfl)
theorem dX1_legWhy_2 : decode cX1_legWhy 2 = .ok (.invokevirtual 129, 3) := dk_182 0 129 (dk_at dksX1_legWhy_0 2 rfl rfl)
theorem dX1_legWhy_5 : decode cX1_legWhy 5 = .ok (.ifCond .eq 14, 3) := dk_153 0 14 (dk_at dksX1_legWhy_0 5 rfl rfl)
theorem dX1_legWhy_8 : decode cX1_legWhy 8 = .ok (.aload_n 0, 1) := dk_42 (dk_at dksX1_legWhy_0 8 rfl rfl)
theorem dX1_legWhy_9 : decode cX1_legWhy 9 = .ok (.iload_n 2, 1) := dk_28 (dk_at dksX1_legWhy_0 9 rfl rfl)
theorem dX1_legWhy_10 : decode cX1_legWhy 10 = .ok (.iload_n 3, 1) := dk_29 (dk_at dksX1_legWhy_0 10 rfl rfl)
theorem dX1_legWhy_11 : decode cX1_legWhy 11 = .ok (.iload 4, 2) := dk_21 4 (dk_at dksX1_legWhy_0 11 rfl rfl)
theorem dX1_legWhy_13 : decode cX1_legWhy 13 = .ok (.invokevirtual 132, 3) := dk_182 0 132 (dk_at dksX1_legWhy_0 13 rfl rfl)
theorem dX1_legWhy_16 : decode cX1_legWhy 16 = .ok (.ifCond .ne 5, 3) := dk_154 0 5 (dk_at dksX1_legWhy_0 16 rfl rfl)
theorem dX1_legWhy_19 : decode cX1_legWhy 19 = .ok (.iconst 1, 1) := dk_4 (dk_at dksX1_legWhy_0 19 rfl rfl)
theorem dX1_legWhy_20 : decode cX1_legWhy 20 = .ok (.ireturn, 1) := dk_172 (dk_at dksX1_legWhy_0 20 rfl rfl)
theorem dX1_legWhy_21 : decode cX1_legWhy 21 = .ok (.aload_n 0, 1) := dk_42 (dk_at dksX1_legWhy_0 21 rfl rfl)
theorem dX1_legWhy_22 : decode cX1_legWhy 22 = .ok (.getfield 95, 3) := dk_180 0 95 (dk_at dksX1_legWhy_1 0 rfl rfl)
theorem dX1_legWhy_25 : decode cX1_legWhy 25 = .ok (.getfield 135, 3) := dk_180 0 135 (dk_at dksX1_legWhy_1 3 rfl rfl)
theorem dX1_legWhy_28 : decode cX1_legWhy 28 = .ok (.iload_n 1, 1) := dk_27 (dk_at dksX1_legWhy_1 6 rfl rfl)
theorem dX1_legWhy_29 : decode cX1_legWhy 29 = .ok (.aaload, 1) := dk_50 (dk_at dksX1_legWhy_1 7 rfl rfl)
theorem dX1_legWhy_30 : decode cX1_legWhy 30 = .ok (.iload 5, 2) := dk_21 5 (dk_at dksX1_legWhy_1 8 rfl rfl)
theorem dX1_legWhy_32 : decode cX1_legWhy 32 = .ok (.invokevirtual 139, 3) := dk_182 0 139 (dk_at dksX1_legWhy_1 10 rfl rfl)
theorem dX1_legWhy_35 : decode cX1_legWhy 35 = .ok (.ifCond .ne 5, 3) := dk_154 0 5 (dk_at dksX1_legWhy_1 13 rfl rfl)
theorem dX1_legWhy_38 : decode cX1_legWhy 38 = .ok (.iconst 2, 1) := dk_5 (dk_at dksX1_legWhy_1 16 rfl rfl)
theorem dX1_legWhy_39 : decode cX1_legWhy 39 = .ok (.ireturn, 1) := dk_172 (dk_at dksX1_legWhy_1 17 rfl rfl)
theorem dX1_legWhy_40 : decode cX1_legWhy 40 = .ok (.aload_n 0, 1) := dk_42 (dk_at dksX1_legWhy_1 18 rfl rfl)
theorem dX1_legWhy_41 : decode cX1_legWhy 41 = .ok (.getfield 36, 3) := dk_180 0 36 (dk_at dksX1_legWhy_1 19 rfl rfl)
theorem dX1_legWhy_44 : decode cX1_legWhy 44 = .ok (.aload_n 0, 1) := dk_42 (dk_at dksX1_legWhy_1 22 rfl rfl)
theorem dX1_legWhy_45 : decode cX1_legWhy 45 = .ok (.getfield 95, 3) := dk_180 0 95 (dk_at dksX1_legWhy_2 0 rfl rfl)
theorem dX1_legWhy_48 : decode cX1_legWhy 48 = .ok (.getfield 135, 3) := dk_180 0 135 (dk_at dksX1_legWhy_2 3 rfl rfl)
theorem dX1_legWhy_51 : decode cX1_legWhy 51 = .ok (.iload_n 1, 1) := dk_27 (dk_at dksX1_legWhy_2 6 rfl rfl)
theorem dX1_legWhy_52 : decode cX1_legWhy 52 = .ok (.aaload, 1) := dk_50 (dk_at dksX1_legWhy_2 7 rfl rfl)
theorem dX1_legWhy_53 : decode cX1_legWhy 53 = .ok (.aload_n 0, 1) := dk_42 (dk_at dksX1_legWhy_2 8 rfl rfl)
theorem dX1_legWhy_54 : decode cX1_legWhy 54 = .ok (.getfield 95, 3) := dk_180 0 95 (dk_at dksX1_legWhy_2 9 rfl rfl)
theorem dX1_legWhy_57 : decode cX1_legWhy 57 = .ok (.getfield 144, 3) := dk_180 0 144 (dk_at dksX1_legWhy_2 12 rfl rfl)
theorem dX1_legWhy_60 : decode cX1_legWhy 60 = .ok (.iload_n 2, 1) := dk_28 (dk_at dksX1_legWhy_2 15 rfl rfl)
theorem dX1_legWhy_61 : decode cX1_legWhy 61 = .ok (.aaload, 1) := dk_50 (dk_at dksX1_legWhy_2 16 rfl rfl)
theorem dX1_legWhy_62 : decode cX1_legWhy 62 = .ok (.iload_n 3, 1) := dk_29 (dk_at dksX1_legWhy_2 17 rfl rfl)
theorem dX1_legWhy_63 : decode cX1_legWhy 63 = .ok (.aload_n 0, 1) := dk_42 (dk_at dksX1_legWhy_2 18 rfl rfl)
theorem dX1_legWhy_64 : decode cX1_legWhy 64 = .ok (.getfield 95, 3) := dk_180 0 95 (dk_at dksX1_legWhy_2 19 rfl rfl)
theorem dX1_legWhy_67 : decode cX1_legWhy 67 = .ok (.getfield 148, 3) := dk_180 0 148 (dk_at dksX1_legWhy_3 0 rfl rfl)
theorem dX1_legWhy_70 : decode cX1_legWhy 70 = .ok (.iload 4, 2) := dk_21 4 (dk_at dksX1_legWhy_3 3 rfl rfl)
theorem dX1_legWhy_72 : decode cX1_legWhy 72 = .ok (.aaload, 1) := dk_50 (dk_at dksX1_legWhy_3 5 rfl rfl)
theorem dX1_legWhy_73 : decode cX1_legWhy 73 = .ok (.iload 5, 2) := dk_21 5 (dk_at dksX1_legWhy_3 6 rfl rfl)
theorem dX1_legWhy_75 : decode cX1_legWhy 75 = .ok (.invokevirtual 152, 3) := dk_182 0 152 (dk_at dksX1_legWhy_3 8 rfl rfl)
theorem dX1_legWhy_78 : decode cX1_legWhy 78 = .ok (.iconst 0, 1) := dk_3 (dk_at dksX1_legWhy_3 11 rfl rfl)
theorem dX1_legWhy_79 : decode cX1_legWhy 79 = .ok (.ireturn, 1) := dk_172 (dk_at dksX1_legWhy_3 12 rfl rfl)
abbrev cX1_isWalker : ByteArray := prog_1_method_14_code
def yX1_isWalker : MethodName := ⟨RX1, "isWalker", "(I)Z"⟩
def dkwX1_isWalker_1 : List UInt8 := [4, 167, 0, 4, 3, 172]
abbrev dktX1_isWalker_1 : List UInt8 := dkwX1_isWalker_1 ++ []
def dkwX1_isWalker_0 : List UInt8 := [42, 180, 0, 95, 198, 0, 24, 27, 3, 42, 180, 0, 95, 180, 0, 111, 4, 100, 184, 0, 80, 153, 0, 7]
abbrev dktX1_isWalker_0 : List UInt8 := dkwX1_isWalker_0 ++ dktX1_isWalker_1
theorem dksX1_isWalker_0 : cX1_isWalker.data.toList.drop 0 = dktX1_isWalker_0 := by decide +kernel
theorem dksX1_isWalker_1 : cX1_isWalker.data.toList.drop 24 = dktX1_isWalker_1 := dk_seg dksX1_isWalker_0 24 rfl rfl
theorem dX1_isWalker_0 : decode cX1_isWalker 0 = .ok (.aload_n 0, 1) := dk_42 (dk_at dksX1_isWalker_0 0 rfl rfl)
theorem dX1_isWalker_1 : decode cX1_isWalker 1 = .ok (.getfield 95, 3) := dk_180 0 95 (dk_at dksX1_isWalker_0 1 rfl rfl)
theorem dX1_isWalker_4 : decode cX1_isWalker 4 = .ok (.ifnull 24, 3) := dk_198 0 24 (dk_at dksX1_isWalker_0 4 rfl rfl)
theorem dX1_isWalker_7 : decode cX1_isWalker 7 = .ok (.iload_n 1, 1) := dk_27 (dk_at dksX1_isWalker_0 7 rfl rfl)
theorem dX1_isWalker_8 : decode cX1_isWalker 8 = .ok (.iconst 0, 1) := dk_3 (dk_at dksX1_isWalker_0 8 rfl rfl)
theorem dX1_isWalker_9 : decode cX1_isWalker 9 = .ok (.aload_n 0, 1) := dk_42 (dk_at dksX1_isWalker_0 9 rfl rfl)
theorem dX1_isWalker_10 : decode cX1_isWalker 10 = .ok (.getfield 95, 3) := dk_180 0 95 (dk_at dksX1_isWalker_0 10 rfl rfl)
theorem dX1_isWalker_13 : decode cX1_isWalker 13 = .ok (.getfield 111, 3) := dk_180 0 111 (dk_at dksX1_isWalker_0 13 rfl rfl)
theorem dX1_isWalker_16 : decode cX1_isWalker 16 = .ok (.iconst 1, 1) := dk_4 (dk_at dksX1_isWalker_0 16 rfl rfl)
theorem dX1_isWalker_17 : decode cX1_isWalker 17 = .ok (.isub, 1) := dk_100 (dk_at dksX1_isWalker_0 17 rfl rfl)
theorem dX1_isWalker_18 : decode cX1_isWalker 18 = .ok (.invokestatic 80, 3) := dk_184 0 80 (dk_at dksX1_isWalker_0 18 rfl rfl)
theorem dX1_isWalker_21 : decode cX1_isWalker 21 = .ok (.ifCond .eq 7, 3) := dk_153 0 7 (dk_at dksX1_isWalker_0 21 rfl rfl)
theorem dX1_isWalker_24 : decode cX1_isWalker 24 = .ok (.iconst 1, 1) := dk_4 (dk_at dksX1_isWalker_1 0 rfl rfl)
theorem dX1_isWalker_25 : decode cX1_isWalker 25 = .ok (.goto 4, 3) := dk_167 0 4 (dk_at dksX1_isWalker_1 1 rfl rfl)
theorem dX1_isWalker_28 : decode cX1_isWalker 28 = .ok (.iconst 0, 1) := dk_3 (dk_at dksX1_isWalker_1 4 rfl rfl)
theorem dX1_isWalker_29 : decode cX1_isWalker 29 = .ok (.ireturn, 1) := dk_172 (dk_at dksX1_isWalker_1 5 rfl rfl)
abbrev cX1_isLeg : ByteArray := prog_1_method_17_code
def yX1_isLeg : MethodName := ⟨RX1, "isLeg", "(III)Z"⟩
def dkwX1_isLeg_1 : List UInt8 := [180, 0, 126, 4, 100, 184, 0, 80, 153, 0, 7, 4, 167, 0, 4, 3, 172]
abbrev dktX1_isLeg_1 : List UInt8 := dkwX1_isLeg_1 ++ []
def dkwX1_isLeg_0 : List UInt8 := [42, 27, 182, 0, 122, 153, 0, 33, 28, 3, 4, 184, 0, 80, 153, 0, 24, 29, 3, 42, 180, 0, 95]
abbrev dktX1_isLeg_0 : List UInt8 := dkwX1_isLeg_0 ++ dktX1_isLeg_1
theorem dksX1_isLeg_0 : cX1_isLeg.data.toList.drop 0 = dktX1_isLeg_0 := by decide +kernel
theorem dksX1_isLeg_1 : cX1_isLeg.data.toList.drop 23 = dktX1_isLeg_1 := dk_seg dksX1_isLeg_0 23 rfl rfl
theorem dX1_isLeg_0 : decode cX1_isLeg 0 = .ok (.aload_n 0, 1) := dk_42 (dk_at dksX1_isLeg_0 0 rfl rfl)
theorem dX1_isLeg_1 : decode cX1_isLeg 1 = .ok (.iload_n 1, 1) := dk_27 (dk_at dksX1_isLeg_0 1 rfl rfl)
theorem dX1_isLeg_2 : decode cX1_isLeg 2 = .ok (.invokevirtual 122, 3) := dk_182 0 122 (dk_at dksX1_isLeg_0 2 rfl rfl)
theorem dX1_isLeg_5 : decode cX1_isLeg 5 = .ok (.ifCond .eq 33, 3) := dk_153 0 33 (dk_at dksX1_isLeg_0 5 rfl rfl)
theorem dX1_isLeg_8 : decode cX1_isLeg 8 = .ok (.iload_n 2, 1) := dk_28 (dk_at dksX1_isLeg_0 8 rfl rfl)
theorem dX1_isLeg_9 : decode cX1_isLeg 9 = .ok (.iconst 0, 1) := dk_3 (dk_at dksX1_isLeg_0 9 rfl rfl)
theorem dX1_isLeg_10 : decode cX1_isLeg 10 = .ok (.iconst 1, 1) := dk_4 (dk_at dksX1_isLeg_0 10 rfl rfl)
theorem dX1_isLeg_11 : decode cX1_isLeg 11 = .ok (.invokestatic 80, 3) := dk_184 0 80 (dk_at dksX1_isLeg_0 11 rfl rfl)
theorem dX1_isLeg_14 : decode cX1_isLeg 14 = .ok (.ifCond .eq 24, 3) := dk_153 0 24 (dk_at dksX1_isLeg_0 14 rfl rfl)
theorem dX1_isLeg_17 : decode cX1_isLeg 17 = .ok (.iload_n 3, 1) := dk_29 (dk_at dksX1_isLeg_0 17 rfl rfl)
theorem dX1_isLeg_18 : decode cX1_isLeg 18 = .ok (.iconst 0, 1) := dk_3 (dk_at dksX1_isLeg_0 18 rfl rfl)
theorem dX1_isLeg_19 : decode cX1_isLeg 19 = .ok (.aload_n 0, 1) := dk_42 (dk_at dksX1_isLeg_0 19 rfl rfl)
theorem dX1_isLeg_20 : decode cX1_isLeg 20 = .ok (.getfield 95, 3) := dk_180 0 95 (dk_at dksX1_isLeg_0 20 rfl rfl)
theorem dX1_isLeg_23 : decode cX1_isLeg 23 = .ok (.getfield 126, 3) := dk_180 0 126 (dk_at dksX1_isLeg_1 0 rfl rfl)
theorem dX1_isLeg_26 : decode cX1_isLeg 26 = .ok (.iconst 1, 1) := dk_4 (dk_at dksX1_isLeg_1 3 rfl rfl)
theorem dX1_isLeg_27 : decode cX1_isLeg 27 = .ok (.isub, 1) := dk_100 (dk_at dksX1_isLeg_1 4 rfl rfl)
theorem dX1_isLeg_28 : decode cX1_isLeg 28 = .ok (.invokestatic 80, 3) := dk_184 0 80 (dk_at dksX1_isLeg_1 5 rfl rfl)
theorem dX1_isLeg_31 : decode cX1_isLeg 31 = .ok (.ifCond .eq 7, 3) := dk_153 0 7 (dk_at dksX1_isLeg_1 8 rfl rfl)
theorem dX1_isLeg_34 : decode cX1_isLeg 34 = .ok (.iconst 1, 1) := dk_4 (dk_at dksX1_isLeg_1 11 rfl rfl)
theorem dX1_isLeg_35 : decode cX1_isLeg 35 = .ok (.goto 4, 3) := dk_167 0 4 (dk_at dksX1_isLeg_1 12 rfl rfl)
theorem dX1_isLeg_38 : decode cX1_isLeg 38 = .ok (.iconst 0, 1) := dk_3 (dk_at dksX1_isLeg_1 15 rfl rfl)
theorem dX1_isLeg_39 : decode cX1_isLeg 39 = .ok (.ireturn, 1) := dk_172 (dk_at dksX1_isLeg_1 16 rfl rfl)
abbrev cX1_isRoad : ByteArray := prog_1_method_15_code
def yX1_isRoad : MethodName := ⟨RX1, "isRoad", "(I)Z"⟩
def dkwX1_isRoad_1 : List UInt8 := [4, 167, 0, 4, 3, 172]
abbrev dktX1_isRoad_1 : List UInt8 := dkwX1_isRoad_1 ++ []
def dkwX1_isRoad_0 : List UInt8 := [42, 180, 0, 95, 198, 0, 24, 27, 3, 42, 180, 0, 95, 180, 0, 116, 4, 100, 184, 0, 80, 153, 0, 7]
abbrev dktX1_isRoad_0 : List UInt8 := dkwX1_isRoad_0 ++ dktX1_isRoad_1
theorem dksX1_isRoad_0 : cX1_isRoad.data.toList.drop 0 = dktX1_isRoad_0 := by decide +kernel
theorem dksX1_isRoad_1 : cX1_isRoad.data.toList.drop 24 = dktX1_isRoad_1 := dk_seg dksX1_isRoad_0 24 rfl rfl
theorem dX1_isRoad_0 : decode cX1_isRoad 0 = .ok (.aload_n 0, 1) := dk_42 (dk_at dksX1_isRoad_0 0 rfl rfl)
theorem dX1_isRoad_1 : decode cX1_isRoad 1 = .ok (.getfield 95, 3) := dk_180 0 95 (dk_at dksX1_isRoad_0 1 rfl rfl)
theorem dX1_isRoad_4 : decode cX1_isRoad 4 = .ok (.ifnull 24, 3) := dk_198 0 24 (dk_at dksX1_isRoad_0 4 rfl rfl)
theorem dX1_isRoad_7 : decode cX1_isRoad 7 = .ok (.iload_n 1, 1) := dk_27 (dk_at dksX1_isRoad_0 7 rfl rfl)
theorem dX1_isRoad_8 : decode cX1_isRoad 8 = .ok (.iconst 0, 1) := dk_3 (dk_at dksX1_isRoad_0 8 rfl rfl)
theorem dX1_isRoad_9 : decode cX1_isRoad 9 = .ok (.aload_n 0, 1) := dk_42 (dk_at dksX1_isRoad_0 9 rfl rfl)
theorem dX1_isRoad_10 : decode cX1_isRoad 10 = .ok (.getfield 95, 3) := dk_180 0 95 (dk_at dksX1_isRoad_0 10 rfl rfl)
theorem dX1_isRoad_13 : decode cX1_isRoad 13 = .ok (.getfield 116, 3) := dk_180 0 116 (dk_at dksX1_isRoad_0 13 rfl rfl)
theorem dX1_isRoad_16 : decode cX1_isRoad 16 = .ok (.iconst 1, 1) := dk_4 (dk_at dksX1_isRoad_0 16 rfl rfl)
theorem dX1_isRoad_17 : decode cX1_isRoad 17 = .ok (.isub, 1) := dk_100 (dk_at dksX1_isRoad_0 17 rfl rfl)
theorem dX1_isRoad_18 : decode cX1_isRoad 18 = .ok (.invokestatic 80, 3) := dk_184 0 80 (dk_at dksX1_isRoad_0 18 rfl rfl)
theorem dX1_isRoad_21 : decode cX1_isRoad 21 = .ok (.ifCond .eq 7, 3) := dk_153 0 7 (dk_at dksX1_isRoad_0 21 rfl rfl)
theorem dX1_isRoad_24 : decode cX1_isRoad 24 = .ok (.iconst 1, 1) := dk_4 (dk_at dksX1_isRoad_1 0 rfl rfl)
theorem dX1_isRoad_25 : decode cX1_isRoad 25 = .ok (.goto 4, 3) := dk_167 0 4 (dk_at dksX1_isRoad_1 1 rfl rfl)
theorem dX1_isRoad_28 : decode cX1_isRoad 28 = .ok (.iconst 0, 1) := dk_3 (dk_at dksX1_isRoad_1 4 rfl rfl)
theorem dX1_isRoad_29 : decode cX1_isRoad 29 = .ok (.ireturn, 1) := dk_172 (dk_at dksX1_isRoad_1 5 rfl rfl)
abbrev cX1_part : ByteArray := prog_1_method_4_code
def yX1_part : MethodName := ⟨RX1, "part", "(JJZ)J"⟩
def dkwX1_part_0 : List UInt8 := [30, 32, 184, 0, 1, 55, 5, 21, 4, 153, 0, 7, 32, 167, 0, 4, 30, 22, 5, 109, 173]
abbrev dktX1_part_0 : List UInt8 := dkwX1_part_0 ++ []
theorem dksX1_part_0 : cX1_part.data.toList.drop 0 = dktX1_part_0 := by decide +kernel
theorem dX1_part_0 : decode cX1_part 0 = .ok (.lload_n 0, 1) := dk_30 (dk_at dksX1_part_0 0 rfl rfl)
theorem dX1_part_1 : decode cX1_part 1 = .ok (.lload_n 2, 1) := dk_32 (dk_at dksX1_part_0 1 rfl rfl)
theorem dX1_part_2 : decode cX1_part 2 = .ok (.invokestatic 1, 3) := dk_184 0 1 (dk_at dksX1_part_0 2 rfl rfl)
theorem dX1_part_5 : decode cX1_part 5 = .ok (.lstore 5, 2) := dk_55 5 (dk_at dksX1_part_0 5 rfl rfl)
theorem dX1_part_7 : decode cX1_part 7 = .ok (.iload 4, 2) := dk_21 4 (dk_at dksX1_part_0 7 rfl rfl)
theorem dX1_part_9 : decode cX1_part 9 = .ok (.ifCond .eq 7, 3) := dk_153 0 7 (dk_at dksX1_part_0 9 rfl rfl)
theorem dX1_part_12 : decode cX1_part 12 = .ok (.lload_n 2, 1) := dk_32 (dk_at dksX1_part_0 12 rfl rfl)
theorem dX1_part_13 : decode cX1_part 13 = .ok (.goto 4, 3) := dk_167 0 4 (dk_at dksX1_part_0 13 rfl rfl)
theorem dX1_part_16 : decode cX1_part 16 = .ok (.lload_n 0, 1) := dk_30 (dk_at dksX1_part_0 16 rfl rfl)
theorem dX1_part_17 : decode cX1_part 17 = .ok (.lload 5, 2) := dk_22 5 (dk_at dksX1_part_0 17 rfl rfl)
theorem dX1_part_19 : decode cX1_part 19 = .ok (.ldiv, 1) := dk_109 (dk_at dksX1_part_0 19 rfl rfl)
theorem dX1_part_20 : decode cX1_part 20 = .ok (.lreturn, 1) := dk_173 (dk_at dksX1_part_0 20 rfl rfl)
abbrev cX1_common : ByteArray := prog_1_method_3_code
def yX1_common : MethodName := ⟨RX1, "common", "(JJ)J"⟩
def dkwX1_common_1 : List UInt8 := [22, 8, 55, 6, 167, 255, 234, 22, 4, 173]
abbrev dktX1_common_1 : List UInt8 := dkwX1_common_1 ++ []
def dkwX1_common_0 : List UInt8 := [30, 55, 4, 32, 55, 6, 22, 6, 9, 148, 153, 0, 21, 22, 4, 22, 6, 113, 55, 8, 22, 6, 55, 4]
abbrev dktX1_common_0 : List UInt8 := dkwX1_common_0 ++ dktX1_common_1
theorem dksX1_common_0 : cX1_common.data.toList.drop 0 = dktX1_common_0 := by decide +kernel
theorem dksX1_common_1 : cX1_common.data.toList.drop 24 = dktX1_common_1 := dk_seg dksX1_common_0 24 rfl rfl
theorem dX1_common_0 : decode cX1_common 0 = .ok (.lload_n 0, 1) := dk_30 (dk_at dksX1_common_0 0 rfl rfl)
theorem dX1_common_1 : decode cX1_common 1 = .ok (.lstore 4, 2) := dk_55 4 (dk_at dksX1_common_0 1 rfl rfl)
theorem dX1_common_3 : decode cX1_common 3 = .ok (.lload_n 2, 1) := dk_32 (dk_at dksX1_common_0 3 rfl rfl)
theorem dX1_common_4 : decode cX1_common 4 = .ok (.lstore 6, 2) := dk_55 6 (dk_at dksX1_common_0 4 rfl rfl)
theorem dX1_common_6 : decode cX1_common 6 = .ok (.lload 6, 2) := dk_22 6 (dk_at dksX1_common_0 6 rfl rfl)
theorem dX1_common_8 : decode cX1_common 8 = .ok (.lconst 0, 1) := dk_9 (dk_at dksX1_common_0 8 rfl rfl)
theorem dX1_common_9 : decode cX1_common 9 = .ok (.lcmp, 1) := dk_148 (dk_at dksX1_common_0 9 rfl rfl)
theorem dX1_common_10 : decode cX1_common 10 = .ok (.ifCond .eq 21, 3) := dk_153 0 21 (dk_at dksX1_common_0 10 rfl rfl)
theorem dX1_common_13 : decode cX1_common 13 = .ok (.lload 4, 2) := dk_22 4 (dk_at dksX1_common_0 13 rfl rfl)
theorem dX1_common_15 : decode cX1_common 15 = .ok (.lload 6, 2) := dk_22 6 (dk_at dksX1_common_0 15 rfl rfl)
theorem dX1_common_17 : decode cX1_common 17 = .ok (.lrem, 1) := dk_113 (dk_at dksX1_common_0 17 rfl rfl)
theorem dX1_common_18 : decode cX1_common 18 = .ok (.lstore 8, 2) := dk_55 8 (dk_at dksX1_common_0 18 rfl rfl)
theorem dX1_common_20 : decode cX1_common 20 = .ok (.lload 6, 2) := dk_22 6 (dk_at dksX1_common_0 20 rfl rfl)
theorem dX1_common_22 : decode cX1_common 22 = .ok (.lstore 4, 2) := dk_55 4 (dk_at dksX1_common_0 22 rfl rfl)
theorem dX1_common_24 : decode cX1_common 24 = .ok (.lload 8, 2) := dk_22 8 (dk_at dksX1_common_1 0 rfl rfl)
theorem dX1_common_26 : decode cX1_common 26 = .ok (.lstore 6, 2) := dk_55 6 (dk_at dksX1_common_1 2 rfl rfl)
theorem dX1_common_28 : decode cX1_common 28 = .ok (.goto (-22), 3) := dk_167 255 234 (dk_at dksX1_common_1 4 rfl rfl)
theorem dX1_common_31 : decode cX1_common 31 = .ok (.lload 4, 2) := dk_22 4 (dk_at dksX1_common_1 7 rfl rfl)
theorem dX1_common_33 : decode cX1_common 33 = .ok (.lreturn, 1) := dk_173 (dk_at dksX1_common_1 9 rfl rfl)
abbrev cX1_wet : ByteArray := prog_1_method_20_code
def yX1_wet : MethodName := ⟨RX1, "wet", "(IIIIIZ)J"⟩
def dkwX1_wet_2 : List UInt8 := [173]
abbrev dktX1_wet_2 : List UInt8 := dkwX1_wet_2 ++ []
def dkwX1_wet_1 : List UInt8 := [21, 7, 182, 0, 84, 133, 167, 0, 18, 42, 180, 0, 36, 182, 0, 170, 20, 0, 164, 21, 6, 184, 0, 166]
abbrev dktX1_wet_1 : List UInt8 := dkwX1_wet_1 ++ dktX1_wet_2
def dkwX1_wet_0 : List UInt8 := [42, 182, 0, 70, 42, 27, 28, 29, 21, 4, 21, 5, 182, 0, 156, 54, 7, 21, 7, 153, 0, 13, 42]
abbrev dktX1_wet_0 : List UInt8 := dkwX1_wet_0 ++ dktX1_wet_1
theorem dksX1_wet_0 : cX1_wet.data.toList.drop 0 = dktX1_wet_0 := by decide +kernel
theorem dksX1_wet_1 : cX1_wet.data.toList.drop 23 = dktX1_wet_1 := dk_seg dksX1_wet_0 23 rfl rfl
theorem dksX1_wet_2 : cX1_wet.data.toList.drop 47 = dktX1_wet_2 := dk_seg dksX1_wet_1 24 rfl rfl
theorem dX1_wet_0 : decode cX1_wet 0 = .ok (.aload_n 0, 1) := dk_42 (dk_at dksX1_wet_0 0 rfl rfl)
theorem dX1_wet_1 : decode cX1_wet 1 = .ok (.invokevirtual 70, 3) := dk_182 0 70 (dk_at dksX1_wet_0 1 rfl rfl)
theorem dX1_wet_4 : decode cX1_wet 4 = .ok (.aload_n 0, 1) := dk_42 (dk_at dksX1_wet_0 4 rfl rfl)
theorem dX1_wet_5 : decode cX1_wet 5 = .ok (.iload_n 1, 1) := dk_27 (dk_at dksX1_wet_0 5 rfl rfl)
theorem dX1_wet_6 : decode cX1_wet 6 = .ok (.iload_n 2, 1) := dk_28 (dk_at dksX1_wet_0 6 rfl rfl)
theorem dX1_wet_7 : decode cX1_wet 7 = .ok (.iload_n 3, 1) := dk_29 (dk_at dksX1_wet_0 7 rfl rfl)
theorem dX1_wet_8 : decode cX1_wet 8 = .ok (.iload 4, 2) := dk_21 4 (dk_at dksX1_wet_0 8 rfl rfl)
theorem dX1_wet_10 : decode cX1_wet 10 = .ok (.iload 5, 2) := dk_21 5 (dk_at dksX1_wet_0 10 rfl rfl)
theorem dX1_wet_12 : decode cX1_wet 12 = .ok (.invokevirtual 156, 3) := dk_182 0 156 (dk_at dksX1_wet_0 12 rfl rfl)
theorem dX1_wet_15 : decode cX1_wet 15 = .ok (.istore 7, 2) := dk_54 7 (dk_at dksX1_wet_0 15 rfl rfl)
theorem dX1_wet_17 : decode cX1_wet 17 = .ok (.iload 7, 2) := dk_21 7 (dk_at dksX1_wet_0 17 rfl rfl)
theorem dX1_wet_19 : decode cX1_wet 19 = .ok (.ifCond .eq 13, 3) := dk_153 0 13 (dk_at dksX1_wet_0 19 rfl rfl)
theorem dX1_wet_22 : decode cX1_wet 22 = .ok (.aload_n 0, 1) := dk_42 (dk_at dksX1_wet_0 22 rfl rfl)
theorem dX1_wet_23 : decode cX1_wet 23 = .ok (.iload 7, 2) := dk_21 7 (dk_at dksX1_wet_1 0 rfl rfl)
theorem dX1_wet_25 : decode cX1_wet 25 = .ok (.invokevirtual 84, 3) := dk_182 0 84 (dk_at dksX1_wet_1 2 rfl rfl)
theorem dX1_wet_28 : decode cX1_wet 28 = .ok (.i2l, 1) := dk_133 (dk_at dksX1_wet_1 5 rfl rfl)
theorem dX1_wet_29 : decode cX1_wet 29 = .ok (.goto 18, 3) := dk_167 0 18 (dk_at dksX1_wet_1 6 rfl rfl)
theorem dX1_wet_32 : decode cX1_wet 32 = .ok (.aload_n 0, 1) := dk_42 (dk_at dksX1_wet_1 9 rfl rfl)
theorem dX1_wet_33 : decode cX1_wet 33 = .ok (.getfield 36, 3) := dk_180 0 36 (dk_at dksX1_wet_1 10 rfl rfl)
theorem dX1_wet_36 : decode cX1_wet 36 = .ok (.invokevirtual 170, 3) := dk_182 0 170 (dk_at dksX1_wet_1 13 rfl rfl)
theorem dX1_wet_39 : decode cX1_wet 39 = .ok (.ldc2_w 164, 3) := dk_20 0 164 (dk_at dksX1_wet_1 16 rfl rfl)
theorem dX1_wet_42 : decode cX1_wet 42 = .ok (.iload 6, 2) := dk_21 6 (dk_at dksX1_wet_1 19 rfl rfl)
theorem dX1_wet_44 : decode cX1_wet 44 = .ok (.invokestatic 166, 3) := dk_184 0 166 (dk_at dksX1_wet_1 21 rfl rfl)
theorem dX1_wet_47 : decode cX1_wet 47 = .ok (.lreturn, 1) := dk_173 (dk_at dksX1_wet_2 0 rfl rfl)
abbrev cX1_mean : ByteArray := prog_1_method_21_code
def yX1_mean : MethodName := ⟨RX1, "mean", "(IIIIIZ)J"⟩
def dkwX1_mean_2 : List UInt8 := [21, 4, 50, 180, 0, 174, 133, 105, 20, 0, 179, 21, 6, 184, 0, 166, 173]
abbrev dktX1_mean_2 : List UInt8 := dkwX1_mean_2 ++ []
def dkwX1_mean_1 : List UInt8 := [21, 7, 182, 0, 84, 133, 167, 0, 33, 42, 180, 0, 36, 182, 0, 170, 42, 180, 0, 95, 180, 0, 148]
abbrev dktX1_mean_1 : List UInt8 := dkwX1_mean_1 ++ dktX1_mean_2
def dkwX1_mean_0 : List UInt8 := [42, 182, 0, 70, 42, 27, 28, 29, 21, 4, 21, 5, 182, 0, 156, 54, 7, 21, 7, 153, 0, 13, 42]
abbrev dktX1_mean_0 : List UInt8 := dkwX1_mean_0 ++ dktX1_mean_1
theorem dksX1_mean_0 : cX1_mean.data.toList.drop 0 = dktX1_mean_0 := by decide +kernel
theorem dksX1_mean_1 : cX1_mean.data.toList.drop 23 = dktX1_mean_1 := dk_seg dksX1_mean_0 23 rfl rfl
theorem dksX1_mean_2 : cX1_mean.data.toList.drop 46 = dktX1_mean_2 := dk_seg dksX1_mean_1 23 rfl rfl
theorem dX1_mean_0 : decode cX1_mean 0 = .ok (.aload_n 0, 1) := dk_42 (dk_at dksX1_mean_0 0 rfl rfl)
theorem dX1_mean_1 : decode cX1_mean 1 = .ok (.invokevirtual 70, 3) := dk_182 0 70 (dk_at dksX1_mean_0 1 rfl rfl)
theorem dX1_mean_4 : decode cX1_mean 4 = .ok (.aload_n 0, 1) := dk_42 (dk_at dksX1_mean_0 4 rfl rfl)
theorem dX1_mean_5 : decode cX1_mean 5 = .ok (.iload_n 1, 1) := dk_27 (dk_at dksX1_mean_0 5 rfl rfl)
theorem dX1_mean_6 : decode cX1_mean 6 = .ok (.iload_n 2, 1) := dk_28 (dk_at dksX1_mean_0 6 rfl rfl)
theorem dX1_mean_7 : decode cX1_mean 7 = .ok (.iload_n 3, 1) := dk_29 (dk_at dksX1_mean_0 7 rfl rfl)
theorem dX1_mean_8 : decode cX1_mean 8 = .ok (.iload 4, 2) := dk_21 4 (dk_at dksX1_mean_0 8 rfl rfl)
theorem dX1_mean_10 : decode cX1_mean 10 = .ok (.iload 5, 2) := dk_21 5 (dk_at dksX1_mean_0 10 rfl rfl)
theorem dX1_mean_12 : decode cX1_mean 12 = .ok (.invokevirtual 156, 3) := dk_182 0 156 (dk_at dksX1_mean_0 12 rfl rfl)
theorem dX1_mean_15 : decode cX1_mean 15 = .ok (.istore 7, 2) := dk_54 7 (dk_at dksX1_mean_0 15 rfl rfl)
theorem dX1_mean_17 : decode cX1_mean 17 = .ok (.iload 7, 2) := dk_21 7 (dk_at dksX1_mean_0 17 rfl rfl)
theorem dX1_mean_19 : decode cX1_mean 19 = .ok (.ifCond .eq 13, 3) := dk_153 0 13 (dk_at dksX1_mean_0 19 rfl rfl)
theorem dX1_mean_22 : decode cX1_mean 22 = .ok (.aload_n 0, 1) := dk_42 (dk_at dksX1_mean_0 22 rfl rfl)
theorem dX1_mean_23 : decode cX1_mean 23 = .ok (.iload 7, 2) := dk_21 7 (dk_at dksX1_mean_1 0 rfl rfl)
theorem dX1_mean_25 : decode cX1_mean 25 = .ok (.invokevirtual 84, 3) := dk_182 0 84 (dk_at dksX1_mean_1 2 rfl rfl)
theorem dX1_mean_28 : decode cX1_mean 28 = .ok (.i2l, 1) := dk_133 (dk_at dksX1_mean_1 5 rfl rfl)
theorem dX1_mean_29 : decode cX1_mean 29 = .ok (.goto 33, 3) := dk_167 0 33 (dk_at dksX1_mean_1 6 rfl rfl)
theorem dX1_mean_32 : decode cX1_mean 32 = .ok (.aload_n 0, 1) := dk_42 (dk_at dksX1_mean_1 9 rfl rfl)
theorem dX1_mean_33 : decode cX1_mean 33 = .ok (.getfield 36, 3) := dk_180 0 36 (dk_at dksX1_mean_1 10 rfl rfl)
theorem dX1_mean_36 : decode cX1_mean 36 = .ok (.invokevirtual 170, 3) := dk_182 0 170 (dk_at dksX1_mean_1 13 rfl rfl)
theorem dX1_mean_39 : decode cX1_mean 39 = .ok (.aload_n 0, 1) := dk_42 (dk_at dksX1_mean_1 16 rfl rfl)
theorem dX1_mean_40 : decode cX1_mean 40 = .ok (.getfield 95, 3) := dk_180 0 95 (dk_at dksX1_mean_1 17 rfl rfl)
theorem dX1_mean_43 : decode cX1_mean 43 = .ok (.getfield 148, 3) := dk_180 0 148 (dk_at dksX1_mean_1 20 rfl rfl)
theorem dX1_mean_46 : decode cX1_mean 46 = .ok (.iload 4, 2) := dk_21 4 (dk_at dksX1_mean_2 0 rfl rfl)
theorem dX1_mean_48 : decode cX1_mean 48 = .ok (.aaload, 1) := dk_50 (dk_at dksX1_mean_2 2 rfl rfl)
theorem dX1_mean_49 : decode cX1_mean 49 = .ok (.getfield 174, 3) := dk_180 0 174 (dk_at dksX1_mean_2 3 rfl rfl)
theorem dX1_mean_52 : decode cX1_mean 52 = .ok (.i2l, 1) := dk_133 (dk_at dksX1_mean_2 6 rfl rfl)
theorem dX1_mean_53 : decode cX1_mean 53 = .ok (.lmul, 1) := dk_105 (dk_at dksX1_mean_2 7 rfl rfl)
theorem dX1_mean_54 : decode cX1_mean 54 = .ok (.ldc2_w 179, 3) := dk_20 0 179 (dk_at dksX1_mean_2 8 rfl rfl)
theorem dX1_mean_57 : decode cX1_mean 57 = .ok (.iload 6, 2) := dk_21 6 (dk_at dksX1_mean_2 11 rfl rfl)
theorem dX1_mean_59 : decode cX1_mean 59 = .ok (.invokestatic 166, 3) := dk_184 0 166 (dk_at dksX1_mean_2 13 rfl rfl)
theorem dX1_mean_62 : decode cX1_mean 62 = .ok (.lreturn, 1) := dk_173 (dk_at dksX1_mean_2 16 rfl rfl)
abbrev cX1_minutes : ByteArray := prog_1_method_22_code
def yX1_minutes : MethodName := ⟨RX1, "minutes", "(III)I"⟩
def dkwX1_minutes_2 : List UInt8 := [180, 0, 144, 28, 50, 29, 182, 0, 181, 167, 0, 8, 42, 5, 182, 0, 84, 172]
abbrev dktX1_minutes_2 : List UInt8 := dkwX1_minutes_2 ++ []
def dkwX1_minutes_1 : List UInt8 := [182, 0, 84, 172, 42, 180, 0, 95, 180, 0, 135, 27, 50, 29, 182, 0, 139, 153, 0, 19, 42, 180, 0, 95]
abbrev dktX1_minutes_1 : List UInt8 := dkwX1_minutes_1 ++ dktX1_minutes_2
def dkwX1_minutes_0 : List UInt8 := [42, 182, 0, 70, 42, 27, 182, 0, 129, 153, 0, 11, 42, 28, 182, 0, 122, 154, 0, 9, 42, 4]
abbrev dktX1_minutes_0 : List UInt8 := dkwX1_minutes_0 ++ dktX1_minutes_1
theorem dksX1_minutes_0 : cX1_minutes.data.toList.drop 0 = dktX1_minutes_0 := by decide +kernel
theorem dksX1_minutes_1 : cX1_minutes.data.toList.drop 22 = dktX1_minutes_1 := dk_seg dksX1_minutes_0 22 rfl rfl
theorem dksX1_minutes_2 : cX1_minutes.data.toList.drop 46 = dktX1_minutes_2 := dk_seg dksX1_minutes_1 24 rfl rfl
theorem dX1_minutes_0 : decode cX1_minutes 0 = .ok (.aload_n 0, 1) := dk_42 (dk_at dksX1_minutes_0 0 rfl rfl)
theorem dX1_minutes_1 : decode cX1_minutes 1 = .ok (.invokevirtual 70, 3) := dk_182 0 70 (dk_at dksX1_minutes_0 1 rfl rfl)
theorem dX1_minutes_4 : decode cX1_minutes 4 = .ok (.aload_n 0, 1) := dk_42 (dk_at dksX1_minutes_0 4 rfl rfl)
theorem dX1_minutes_5 : decode cX1_minutes 5 = .ok (.iload_n 1, 1) := dk_27 (dk_at dksX1_minutes_0 5 rfl rfl)
theorem dX1_minutes_6 : decode cX1_minutes 6 = .ok (.invokevirtual 129, 3) := dk_182 0 129 (dk_at dksX1_minutes_0 6 rfl rfl)
theorem dX1_minutes_9 : decode cX1_minutes 9 = .ok (.ifCond .eq 11, 3) := dk_153 0 11 (dk_at dksX1_minutes_0 9 rfl rfl)
theorem dX1_minutes_12 : decode cX1_minutes 12 = .ok (.aload_n 0, 1) := dk_42 (dk_at dksX1_minutes_0 12 rfl rfl)
theorem dX1_minutes_13 : decode cX1_minutes 13 = .ok (.iload_n 2, 1) := dk_28 (dk_at dksX1_minutes_0 13 rfl rfl)
theorem dX1_minutes_14 : decode cX1_minutes 14 = .ok (.invokevirtual 122, 3) := dk_182 0 122 (dk_at dksX1_minutes_0 14 rfl rfl)
theorem dX1_minutes_17 : decode cX1_minutes 17 = .ok (.ifCond .ne 9, 3) := dk_154 0 9 (dk_at dksX1_minutes_0 17 rfl rfl)
theorem dX1_minutes_20 : decode cX1_minutes 20 = .ok (.aload_n 0, 1) := dk_42 (dk_at dksX1_minutes_0 20 rfl rfl)
theorem dX1_minutes_21 : decode cX1_minutes 21 = .ok (.iconst 1, 1) := dk_4 (dk_at dksX1_minutes_0 21 rfl rfl)
theorem dX1_minutes_22 : decode cX1_minutes 22 = .ok (.invokevirtual 84, 3) := dk_182 0 84 (dk_at dksX1_minutes_1 0 rfl rfl)
theorem dX1_minutes_25 : decode cX1_minutes 25 = .ok (.ireturn, 1) := dk_172 (dk_at dksX1_minutes_1 3 rfl rfl)
theorem dX1_minutes_26 : decode cX1_minutes 26 = .ok (.aload_n 0, 1) := dk_42 (dk_at dksX1_minutes_1 4 rfl rfl)
theorem dX1_minutes_27 : decode cX1_minutes 27 = .ok (.getfield 95, 3) := dk_180 0 95 (dk_at dksX1_minutes_1 5 rfl rfl)
theorem dX1_minutes_30 : decode cX1_minutes 30 = .ok (.getfield 135, 3) := dk_180 0 135 (dk_at dksX1_minutes_1 8 rfl rfl)
theorem dX1_minutes_33 : decode cX1_minutes 33 = .ok (.iload_n 1, 1) := dk_27 (dk_at dksX1_minutes_1 11 rfl rfl)
theorem dX1_minutes_34 : decode cX1_minutes 34 = .ok (.aaload, 1) := dk_50 (dk_at dksX1_minutes_1 12 rfl rfl)
theorem dX1_minutes_35 : decode cX1_minutes 35 = .ok (.iload_n 3, 1) := dk_29 (dk_at dksX1_minutes_1 13 rfl rfl)
theorem dX1_minutes_36 : decode cX1_minutes 36 = .ok (.invokevirtual 139, 3) := dk_182 0 139 (dk_at dksX1_minutes_1 14 rfl rfl)
theorem dX1_minutes_39 : decode cX1_minutes 39 = .ok (.ifCond .eq 19, 3) := dk_153 0 19 (dk_at dksX1_minutes_1 17 rfl rfl)
theorem dX1_minutes_42 : decode cX1_minutes 42 = .ok (.aload_n 0, 1) := dk_42 (dk_at dksX1_minutes_1 20 rfl rfl)
theorem dX1_minutes_43 : decode cX1_minutes 43 = .ok (.getfield 95, 3) := dk_180 0 95 (dk_at dksX1_minutes_1 21 rfl rfl)
theorem dX1_minutes_46 : decode cX1_minutes 46 = .ok (.getfield 144, 3) := dk_180 0 144 (dk_at dksX1_minutes_2 0 rfl rfl)
theorem dX1_minutes_49 : decode cX1_minutes 49 = .ok (.iload_n 2, 1) := dk_28 (dk_at dksX1_minutes_2 3 rfl rfl)
theorem dX1_minutes_50 : decode cX1_minutes 50 = .ok (.aaload, 1) := dk_50 (dk_at dksX1_minutes_2 4 rfl rfl)
theorem dX1_minutes_51 : decode cX1_minutes 51 = .ok (.iload_n 3, 1) := dk_29 (dk_at dksX1_minutes_2 5 rfl rfl)
theorem dX1_minutes_52 : decode cX1_minutes 52 = .ok (.invokevirtual 181, 3) := dk_182 0 181 (dk_at dksX1_minutes_2 6 rfl rfl)
theorem dX1_minutes_55 : decode cX1_minutes 55 = .ok (.goto 8, 3) := dk_167 0 8 (dk_at dksX1_minutes_2 9 rfl rfl)
theorem dX1_minutes_58 : decode cX1_minutes 58 = .ok (.aload_n 0, 1) := dk_42 (dk_at dksX1_minutes_2 12 rfl rfl)
theorem dX1_minutes_59 : decode cX1_minutes 59 = .ok (.iconst 2, 1) := dk_5 (dk_at dksX1_minutes_2 13 rfl rfl)
theorem dX1_minutes_60 : decode cX1_minutes 60 = .ok (.invokevirtual 84, 3) := dk_182 0 84 (dk_at dksX1_minutes_2 14 rfl rfl)
theorem dX1_minutes_63 : decode cX1_minutes 63 = .ok (.ireturn, 1) := dk_172 (dk_at dksX1_minutes_2 17 rfl rfl)
abbrev cX1_air : ByteArray := prog_1_method_23_code
def yX1_air : MethodName := ⟨RX1, "air", "(III)I"⟩
def dkwX1_air_1 : List UInt8 := [180, 0, 95, 180, 0, 144, 27, 50, 28, 182, 0, 186, 182, 0, 189, 172, 42, 4, 181, 0, 67, 16, 156, 172]
abbrev dktX1_air_1 : List UInt8 := dkwX1_air_1 ++ []
def dkwX1_air_0 : List UInt8 := [42, 182, 0, 70, 42, 27, 28, 29, 182, 0, 132, 153, 0, 29, 42, 180, 0, 95, 180, 0, 148, 29, 50, 42]
abbrev dktX1_air_0 : List UInt8 := dkwX1_air_0 ++ dktX1_air_1
theorem dksX1_air_0 : cX1_air.data.toList.drop 0 = dktX1_air_0 := by decide +kernel
theorem dksX1_air_1 : cX1_air.data.toList.drop 24 = dktX1_air_1 := dk_seg dksX1_air_0 24 rfl rfl
theorem dX1_air_0 : decode cX1_air 0 = .ok (.aload_n 0, 1) := dk_42 (dk_at dksX1_air_0 0 rfl rfl)
theorem dX1_air_1 : decode cX1_air 1 = .ok (.invokevirtual 70, 3) := dk_182 0 70 (dk_at dksX1_air_0 1 rfl rfl)
theorem dX1_air_4 : decode cX1_air 4 = .ok (.aload_n 0, 1) := dk_42 (dk_at dksX1_air_0 4 rfl rfl)
theorem dX1_air_5 : decode cX1_air 5 = .ok (.iload_n 1, 1) := dk_27 (dk_at dksX1_air_0 5 rfl rfl)
theorem dX1_air_6 : decode cX1_air 6 = .ok (.iload_n 2, 1) := dk_28 (dk_at dksX1_air_0 6 rfl rfl)
theorem dX1_air_7 : decode cX1_air 7 = .ok (.iload_n 3, 1) := dk_29 (dk_at dksX1_air_0 7 rfl rfl)
theorem dX1_air_8 : decode cX1_air 8 = .ok (.invokevirtual 132, 3) := dk_182 0 132 (dk_at dksX1_air_0 8 rfl rfl)
theorem dX1_air_11 : decode cX1_air 11 = .ok (.ifCond .eq 29, 3) := dk_153 0 29 (dk_at dksX1_air_0 11 rfl rfl)
theorem dX1_air_14 : decode cX1_air 14 = .ok (.aload_n 0, 1) := dk_42 (dk_at dksX1_air_0 14 rfl rfl)
theorem dX1_air_15 : decode cX1_air 15 = .ok (.getfield 95, 3) := dk_180 0 95 (dk_at dksX1_air_0 15 rfl rfl)
theorem dX1_air_18 : decode cX1_air 18 = .ok (.getfield 148, 3) := dk_180 0 148 (dk_at dksX1_air_0 18 rfl rfl)
theorem dX1_air_21 : decode cX1_air 21 = .ok (.iload_n 3, 1) := dk_29 (dk_at dksX1_air_0 21 rfl rfl)
theorem dX1_air_22 : decode cX1_air 22 = .ok (.aaload, 1) := dk_50 (dk_at dksX1_air_0 22 rfl rfl)
theorem dX1_air_23 : decode cX1_air 23 = .ok (.aload_n 0, 1) := dk_42 (dk_at dksX1_air_0 23 rfl rfl)
theorem dX1_air_24 : decode cX1_air 24 = .ok (.getfield 95, 3) := dk_180 0 95 (dk_at dksX1_air_1 0 rfl rfl)
theorem dX1_air_27 : decode cX1_air 27 = .ok (.getfield 144, 3) := dk_180 0 144 (dk_at dksX1_air_1 3 rfl rfl)
theorem dX1_air_30 : decode cX1_air 30 = .ok (.iload_n 1, 1) := dk_27 (dk_at dksX1_air_1 6 rfl rfl)
theorem dX1_air_31 : decode cX1_air 31 = .ok (.aaload, 1) := dk_50 (dk_at dksX1_air_1 7 rfl rfl)
theorem dX1_air_32 : decode cX1_air 32 = .ok (.iload_n 2, 1) := dk_28 (dk_at dksX1_air_1 8 rfl rfl)
theorem dX1_air_33 : decode cX1_air 33 = .ok (.invokevirtual 186, 3) := dk_182 0 186 (dk_at dksX1_air_1 9 rfl rfl)
theorem dX1_air_36 : decode cX1_air 36 = .ok (.invokevirtual 189, 3) := dk_182 0 189 (dk_at dksX1_air_1 12 rfl rfl)
theorem dX1_air_39 : decode cX1_air 39 = .ok (.ireturn, 1) := dk_172 (dk_at dksX1_air_1 15 rfl rfl)
theorem dX1_air_40 : decode cX1_air 40 = .ok (.aload_n 0, 1) := dk_42 (dk_at dksX1_air_1 16 rfl rfl)
theorem dX1_air_41 : decode cX1_air 41 = .ok (.iconst 1, 1) := dk_4 (dk_at dksX1_air_1 17 rfl rfl)
theorem dX1_air_42 : decode cX1_air 42 = .ok (.putfield 67, 3) := dk_181 0 67 (dk_at dksX1_air_1 18 rfl rfl)
theorem dX1_air_45 : decode cX1_air 45 = .ok (.bipush (-100), 2) := dk_16 156 (dk_at dksX1_air_1 21 rfl rfl)
theorem dX1_air_47 : decode cX1_air 47 = .ok (.ireturn, 1) := dk_172 (dk_at dksX1_air_1 23 rfl rfl)
abbrev cX1_held : ByteArray := prog_1_method_24_code
def yX1_held : MethodName := ⟨RX1, "held", "(IIIII)I"⟩
def dkwX1_held_2 : List UInt8 := [167, 0, 18, 42, 180, 0, 36, 180, 0, 196, 153, 0, 7, 4, 167, 0, 4, 3, 172]
abbrev dktX1_held_2 : List UInt8 := dkwX1_held_2 ++ []
def dkwX1_held_1 : List UInt8 := [21, 6, 182, 0, 84, 172, 42, 180, 0, 95, 180, 0, 135, 27, 50, 182, 0, 192, 154, 0, 8, 16, 254]
abbrev dktX1_held_1 : List UInt8 := dkwX1_held_1 ++ dktX1_held_2
def dkwX1_held_0 : List UInt8 := [42, 182, 0, 70, 42, 27, 28, 29, 21, 4, 21, 5, 182, 0, 156, 54, 6, 21, 6, 153, 0, 10, 42]
abbrev dktX1_held_0 : List UInt8 := dkwX1_held_0 ++ dktX1_held_1
theorem dksX1_held_0 : cX1_held.data.toList.drop 0 = dktX1_held_0 := by decide +kernel
theorem dksX1_held_1 : cX1_held.data.toList.drop 23 = dktX1_held_1 := dk_seg dksX1_held_0 23 rfl rfl
theorem dksX1_held_2 : cX1_held.data.toList.drop 46 = dktX1_held_2 := dk_seg dksX1_held_1 23 rfl rfl
theorem dX1_held_0 : decode cX1_held 0 = .ok (.aload_n 0, 1) := dk_42 (dk_at dksX1_held_0 0 rfl rfl)
theorem dX1_held_1 : decode cX1_held 1 = .ok (.invokevirtual 70, 3) := dk_182 0 70 (dk_at dksX1_held_0 1 rfl rfl)
theorem dX1_held_4 : decode cX1_held 4 = .ok (.aload_n 0, 1) := dk_42 (dk_at dksX1_held_0 4 rfl rfl)
theorem dX1_held_5 : decode cX1_held 5 = .ok (.iload_n 1, 1) := dk_27 (dk_at dksX1_held_0 5 rfl rfl)
theorem dX1_held_6 : decode cX1_held 6 = .ok (.iload_n 2, 1) := dk_28 (dk_at dksX1_held_0 6 rfl rfl)
theorem dX1_held_7 : decode cX1_held 7 = .ok (.iload_n 3, 1) := dk_29 (dk_at dksX1_held_0 7 rfl rfl)
theorem dX1_held_8 : decode cX1_held 8 = .ok (.iload 4, 2) := dk_21 4 (dk_at dksX1_held_0 8 rfl rfl)
theorem dX1_held_10 : decode cX1_held 10 = .ok (.iload 5, 2) := dk_21 5 (dk_at dksX1_held_0 10 rfl rfl)
theorem dX1_held_12 : decode cX1_held 12 = .ok (.invokevirtual 156, 3) := dk_182 0 156 (dk_at dksX1_held_0 12 rfl rfl)
theorem dX1_held_15 : decode cX1_held 15 = .ok (.istore 6, 2) := dk_54 6 (dk_at dksX1_held_0 15 rfl rfl)
theorem dX1_held_17 : decode cX1_held 17 = .ok (.iload 6, 2) := dk_21 6 (dk_at dksX1_held_0 17 rfl rfl)
theorem dX1_held_19 : decode cX1_held 19 = .ok (.ifCond .eq 10, 3) := dk_153 0 10 (dk_at dksX1_held_0 19 rfl rfl)
theorem dX1_held_22 : decode cX1_held 22 = .ok (.aload_n 0, 1) := dk_42 (dk_at dksX1_held_0 22 rfl rfl)
theorem dX1_held_23 : decode cX1_held 23 = .ok (.iload 6, 2) := dk_21 6 (dk_at dksX1_held_1 0 rfl rfl)
theorem dX1_held_25 : decode cX1_held 25 = .ok (.invokevirtual 84, 3) := dk_182 0 84 (dk_at dksX1_held_1 2 rfl rfl)
theorem dX1_held_28 : decode cX1_held 28 = .ok (.ireturn, 1) := dk_172 (dk_at dksX1_held_1 5 rfl rfl)
theorem dX1_held_29 : decode cX1_held 29 = .ok (.aload_n 0, 1) := dk_42 (dk_at dksX1_held_1 6 rfl rfl)
theorem dX1_held_30 : decode cX1_held 30 = .ok (.getfield 95, 3) := dk_180 0 95 (dk_at dksX1_held_1 7 rfl rfl)
theorem dX1_held_33 : decode cX1_held 33 = .ok (.getfield 135, 3) := dk_180 0 135 (dk_at dksX1_held_1 10 rfl rfl)
theorem dX1_held_36 : decode cX1_held 36 = .ok (.iload_n 1, 1) := dk_27 (dk_at dksX1_held_1 13 rfl rfl)
theorem dX1_held_37 : decode cX1_held 37 = .ok (.aaload, 1) := dk_50 (dk_at dksX1_held_1 14 rfl rfl)
theorem dX1_held_38 : decode cX1_held 38 = .ok (.invokevirtual 192, 3) := dk_182 0 192 (dk_at dksX1_held_1 15 rfl rfl)
theorem dX1_held_41 : decode cX1_held 41 = .ok (.ifCond .ne 8, 3) := dk_154 0 8 (dk_at dksX1_held_1 18 rfl rfl)
theorem dX1_held_44 : decode cX1_held 44 = .ok (.bipush (-2), 2) := dk_16 254 (dk_at dksX1_held_1 21 rfl rfl)
theorem dX1_held_46 : decode cX1_held 46 = .ok (.goto 18, 3) := dk_167 0 18 (dk_at dksX1_held_2 0 rfl rfl)
theorem dX1_held_49 : decode cX1_held 49 = .ok (.aload_n 0, 1) := dk_42 (dk_at dksX1_held_2 3 rfl rfl)
theorem dX1_held_50 : decode cX1_held 50 = .ok (.getfield 36, 3) := dk_180 0 36 (dk_at dksX1_held_2 4 rfl rfl)
theorem dX1_held_53 : decode cX1_held 53 = .ok (.getfield 196, 3) := dk_180 0 196 (dk_at dksX1_held_2 7 rfl rfl)
theorem dX1_held_56 : decode cX1_held 56 = .ok (.ifCond .eq 7, 3) := dk_153 0 7 (dk_at dksX1_held_2 10 rfl rfl)
theorem dX1_held_59 : decode cX1_held 59 = .ok (.iconst 1, 1) := dk_4 (dk_at dksX1_held_2 13 rfl rfl)
theorem dX1_held_60 : decode cX1_held 60 = .ok (.goto 4, 3) := dk_167 0 4 (dk_at dksX1_held_2 14 rfl rfl)
theorem dX1_held_63 : decode cX1_held 63 = .ok (.iconst 0, 1) := dk_3 (dk_at dksX1_held_2 17 rfl rfl)
theorem dX1_held_64 : decode cX1_held 64 = .ok (.ireturn, 1) := dk_172 (dk_at dksX1_held_2 18 rfl rfl)
abbrev cX1_best : ByteArray := prog_1_method_26_code
def yX1_best : MethodName := ⟨RX1, "best", "(IIII)I"⟩
def dkwX1_best_1 : List UInt8 := [27, 28, 29, 21, 4, 182, 0, 206, 167, 0, 8, 42, 4, 182, 0, 84, 172]
abbrev dktX1_best_1 : List UInt8 := dkwX1_best_1 ++ []
def dkwX1_best_0 : List UInt8 := [42, 182, 0, 70, 42, 27, 182, 0, 129, 153, 0, 26, 42, 28, 29, 21, 4, 182, 0, 132, 153, 0, 15, 42]
abbrev dktX1_best_0 : List UInt8 := dkwX1_best_0 ++ dktX1_best_1
theorem dksX1_best_0 : cX1_best.data.toList.drop 0 = dktX1_best_0 := by decide +kernel
theorem dksX1_best_1 : cX1_best.data.toList.drop 24 = dktX1_best_1 := dk_seg dksX1_best_0 24 rfl rfl
theorem dX1_best_0 : decode cX1_best 0 = .ok (.aload_n 0, 1) := dk_42 (dk_at dksX1_best_0 0 rfl rfl)
theorem dX1_best_1 : decode cX1_best 1 = .ok (.invokevirtual 70, 3) := dk_182 0 70 (dk_at dksX1_best_0 1 rfl rfl)
theorem dX1_best_4 : decode cX1_best 4 = .ok (.aload_n 0, 1) := dk_42 (dk_at dksX1_best_0 4 rfl rfl)
theorem dX1_best_5 : decode cX1_best 5 = .ok (.iload_n 1, 1) := dk_27 (dk_at dksX1_best_0 5 rfl rfl)
theorem dX1_best_6 : decode cX1_best 6 = .ok (.invokevirtual 129, 3) := dk_182 0 129 (dk_at dksX1_best_0 6 rfl rfl)
theorem dX1_best_9 : decode cX1_best 9 = .ok (.ifCond .eq 26, 3) := dk_153 0 26 (dk_at dksX1_best_0 9 rfl rfl)
theorem dX1_best_12 : decode cX1_best 12 = .ok (.aload_n 0, 1) := dk_42 (dk_at dksX1_best_0 12 rfl rfl)
theorem dX1_best_13 : decode cX1_best 13 = .ok (.iload_n 2, 1) := dk_28 (dk_at dksX1_best_0 13 rfl rfl)
theorem dX1_best_14 : decode cX1_best 14 = .ok (.iload_n 3, 1) := dk_29 (dk_at dksX1_best_0 14 rfl rfl)
theorem dX1_best_15 : decode cX1_best 15 = .ok (.iload 4, 2) := dk_21 4 (dk_at dksX1_best_0 15 rfl rfl)
theorem dX1_best_17 : decode cX1_best 17 = .ok (.invokevirtual 132, 3) := dk_182 0 132 (dk_at dksX1_best_0 17 rfl rfl)
theorem dX1_best_20 : decode cX1_best 20 = .ok (.ifCond .eq 15, 3) := dk_153 0 15 (dk_at dksX1_best_0 20 rfl rfl)
theorem dX1_best_23 : decode cX1_best 23 = .ok (.aload_n 0, 1) := dk_42 (dk_at dksX1_best_0 23 rfl rfl)
theorem dX1_best_24 : decode cX1_best 24 = .ok (.iload_n 1, 1) := dk_27 (dk_at dksX1_best_1 0 rfl rfl)
theorem dX1_best_25 : decode cX1_best 25 = .ok (.iload_n 2, 1) := dk_28 (dk_at dksX1_best_1 1 rfl rfl)
theorem dX1_best_26 : decode cX1_best 26 = .ok (.iload_n 3, 1) := dk_29 (dk_at dksX1_best_1 2 rfl rfl)
theorem dX1_best_27 : decode cX1_best 27 = .ok (.iload 4, 2) := dk_21 4 (dk_at dksX1_best_1 3 rfl rfl)
theorem dX1_best_29 : decode cX1_best 29 = .ok (.invokevirtual 206, 3) := dk_182 0 206 (dk_at dksX1_best_1 5 rfl rfl)
theorem dX1_best_32 : decode cX1_best 32 = .ok (.goto 8, 3) := dk_167 0 8 (dk_at dksX1_best_1 8 rfl rfl)
theorem dX1_best_35 : decode cX1_best 35 = .ok (.aload_n 0, 1) := dk_42 (dk_at dksX1_best_1 11 rfl rfl)
theorem dX1_best_36 : decode cX1_best 36 = .ok (.iconst 1, 1) := dk_4 (dk_at dksX1_best_1 12 rfl rfl)
theorem dX1_best_37 : decode cX1_best 37 = .ok (.invokevirtual 84, 3) := dk_182 0 84 (dk_at dksX1_best_1 13 rfl rfl)
theorem dX1_best_40 : decode cX1_best 40 = .ok (.ireturn, 1) := dk_172 (dk_at dksX1_best_1 16 rfl rfl)
abbrev cX1_bestSpeed : ByteArray := prog_1_method_25_code
def yX1_bestSpeed : MethodName := ⟨RX1, "bestSpeed", "(IIII)I"⟩
def dkwX1_bestSpeed_4 : List UInt8 := [182, 0, 170, 55, 7, 132, 9, 1, 167, 255, 177, 21, 6, 172]
abbrev dktX1_bestSpeed_4 : List UInt8 := dkwX1_bestSpeed_4 ++ []
def dkwX1_bestSpeed_3 : List UInt8 := [180, 0, 36, 182, 0, 170, 22, 7, 148, 155, 0, 6, 167, 0, 16, 21, 9, 54, 6, 42, 180, 0, 36]
abbrev dktX1_bestSpeed_3 : List UInt8 := dkwX1_bestSpeed_3 ++ dktX1_bestSpeed_4
def dkwX1_bestSpeed_2 : List UInt8 := [50, 29, 42, 180, 0, 95, 180, 0, 148, 21, 4, 50, 21, 9, 182, 0, 152, 21, 6, 2, 159, 0, 19, 42]
abbrev dktX1_bestSpeed_2 : List UInt8 := dkwX1_bestSpeed_2 ++ dktX1_bestSpeed_3
def dkwX1_bestSpeed_1 : List UInt8 := [21, 9, 25, 5, 180, 0, 203, 163, 0, 75, 42, 180, 0, 36, 25, 5, 42, 180, 0, 95, 180, 0, 144, 28]
abbrev dktX1_bestSpeed_1 : List UInt8 := dkwX1_bestSpeed_1 ++ dktX1_bestSpeed_2
def dkwX1_bestSpeed_0 : List UInt8 := [42, 180, 0, 95, 180, 0, 135, 27, 50, 58, 5, 2, 54, 6, 9, 55, 7, 25, 5, 180, 0, 200, 54, 9]
abbrev dktX1_bestSpeed_0 : List UInt8 := dkwX1_bestSpeed_0 ++ dktX1_bestSpeed_1
theorem dksX1_bestSpeed_0 : cX1_bestSpeed.data.toList.drop 0 = dktX1_bestSpeed_0 := by decide +kernel
theorem dksX1_bestSpeed_1 : cX1_bestSpeed.data.toList.drop 24 = dktX1_bestSpeed_1 := dk_seg dksX1_bestSpeed_0 24 rfl rfl
theorem dksX1_bestSpeed_2 : cX1_bestSpeed.data.toList.drop 48 = dktX1_bestSpeed_2 := dk_seg dksX1_bestSpeed_1 24 rfl rfl
theorem dksX1_bestSpeed_3 : cX1_bestSpeed.data.toList.drop 72 = dktX1_bestSpeed_3 := dk_seg dksX1_bestSpeed_2 24 rfl rfl
theorem dksX1_bestSpeed_4 : cX1_bestSpeed.data.toList.drop 95 = dktX1_bestSpeed_4 := dk_seg dksX1_bestSpeed_3 23 rfl rfl
theorem dX1_bestSpeed_0 : decode cX1_bestSpeed 0 = .ok (.aload_n 0, 1) := dk_42 (dk_at dksX1_bestSpeed_0 0 rfl rfl)
theorem dX1_bestSpeed_1 : decode cX1_bestSpeed 1 = .ok (.getfield 95, 3) := dk_180 0 95 (dk_at dksX1_bestSpeed_0 1 rfl rfl)
theorem dX1_bestSpeed_4 : decode cX1_bestSpeed 4 = .ok (.getfield 135, 3) := dk_180 0 135 (dk_at dksX1_bestSpeed_0 4 rfl rfl)
theorem dX1_bestSpeed_7 : decode cX1_bestSpeed 7 = .ok (.iload_n 1, 1) := dk_27 (dk_at dksX1_bestSpeed_0 7 rfl rfl)
theorem dX1_bestSpeed_8 : decode cX1_bestSpeed 8 = .ok (.aaload, 1) := dk_50 (dk_at dksX1_bestSpeed_0 8 rfl rfl)
theorem dX1_bestSpeed_9 : decode cX1_bestSpeed 9 = .ok (.astore 5, 2) := dk_58 5 (dk_at dksX1_bestSpeed_0 9 rfl rfl)
theorem dX1_bestSpeed_11 : decode cX1_bestSpeed 11 = .ok (.iconst (-1), 1) := dk_2 (dk_at dksX1_bestSpeed_0 11 rfl rfl)
theorem dX1_bestSpeed_12 : decode cX1_bestSpeed 12 = .ok (.istore 6, 2) := dk_54 6 (dk_at dksX1_bestSpeed_0 12 rfl rfl)
theorem dX1_bestSpeed_14 : decode cX1_bestSpeed 14 = .ok (.lconst 0, 1) := dk_9 (dk_at dksX1_bestSpeed_0 14 rfl rfl)
theorem dX1_bestSpeed_15 : decode cX1_bestSpeed 15 = .ok (.lstore 7, 2) := dk_55 7 (dk_at dksX1_bestSpeed_0 15 rfl rfl)
theorem dX1_bestSpeed_17 : decode cX1_bestSpeed 17 = .ok (.aload 5, 2) := dk_25 5 (dk_at dksX1_bestSpeed_0 17 rfl rfl)
theorem dX1_bestSpeed_19 : decode cX1_bestSpeed 19 = .ok (.getfield 200, 3) := dk_180 0 200 (dk_at dksX1_bestSpeed_0 19 rfl rfl)
theorem dX1_bestSpeed_22 : decode cX1_bestSpeed 22 = .ok (.istore 9, 2) := dk_54 9 (dk_at dksX1_bestSpeed_0 22 rfl rfl)
theorem dX1_bestSpeed_24 : decode cX1_bestSpeed 24 = .ok (.iload 9, 2) := dk_21 9 (dk_at dksX1_bestSpeed_1 0 rfl rfl)
theorem dX1_bestSpeed_26 : decode cX1_bestSpeed 26 = .ok (.aload 5, 2) := dk_25 5 (dk_at dksX1_bestSpeed_1 2 rfl rfl)
theorem dX1_bestSpeed_28 : decode cX1_bestSpeed 28 = .ok (.getfield 203, 3) := dk_180 0 203 (dk_at dksX1_bestSpeed_1 4 rfl rfl)
theorem dX1_bestSpeed_31 : decode cX1_bestSpeed 31 = .ok (.if_icmp .gt 75, 3) := dk_163 0 75 (dk_at dksX1_bestSpeed_1 7 rfl rfl)
theorem dX1_bestSpeed_34 : decode cX1_bestSpeed 34 = .ok (.aload_n 0, 1) := dk_42 (dk_at dksX1_bestSpeed_1 10 rfl rfl)
theorem dX1_bestSpeed_35 : decode cX1_bestSpeed 35 = .ok (.getfield 36, 3) := dk_180 0 36 (dk_at dksX1_bestSpeed_1 11 rfl rfl)
theorem dX1_bestSpeed_38 : decode cX1_bestSpeed 38 = .ok (.aload 5, 2) := dk_25 5 (dk_at dksX1_bestSpeed_1 14 rfl rfl)
theorem dX1_bestSpeed_40 : decode cX1_bestSpeed 40 = .ok (.aload_n 0, 1) := dk_42 (dk_at dksX1_bestSpeed_1 16 rfl rfl)
theorem dX1_bestSpeed_41 : decode cX1_bestSpeed 41 = .ok (.getfield 95, 3) := dk_180 0 95 (dk_at dksX1_bestSpeed_1 17 rfl rfl)
theorem dX1_bestSpeed_44 : decode cX1_bestSpeed 44 = .ok (.getfield 144, 3) := dk_180 0 144 (dk_at dksX1_bestSpeed_1 20 rfl rfl)
theorem dX1_bestSpeed_47 : decode cX1_bestSpeed 47 = .ok (.iload_n 2, 1) := dk_28 (dk_at dksX1_bestSpeed_1 23 rfl rfl)
theorem dX1_bestSpeed_48 : decode cX1_bestSpeed 48 = .ok (.aaload, 1) := dk_50 (dk_at dksX1_bestSpeed_2 0 rfl rfl)
theorem dX1_bestSpeed_49 : decode cX1_bestSpeed 49 = .ok (.iload_n 3, 1) := dk_29 (dk_at dksX1_bestSpeed_2 1 rfl rfl)
theorem dX1_bestSpeed_50 : decode cX1_bestSpeed 50 = .ok (.aload_n 0, 1) := dk_42 (dk_at dksX1_bestSpeed_2 2 rfl rfl)
theorem dX1_bestSpeed_51 : decode cX1_bestSpeed 51 = .ok (.getfield 95, 3) := dk_180 0 95 (dk_at dksX1_bestSpeed_2 3 rfl rfl)
theorem dX1_bestSpeed_54 : decode cX1_bestSpeed 54 = .ok (.getfield 148, 3) := dk_180 0 148 (dk_at dksX1_bestSpeed_2 6 rfl rfl)
theorem dX1_bestSpeed_57 : decode cX1_bestSpeed 57 = .ok (.iload 4, 2) := dk_21 4 (dk_at dksX1_bestSpeed_2 9 rfl rfl)
theorem dX1_bestSpeed_59 : decode cX1_bestSpeed 59 = .ok (.aaload, 1) := dk_50 (dk_at dksX1_bestSpeed_2 11 rfl rfl)
theorem dX1_bestSpeed_60 : decode cX1_bestSpeed 60 = .ok (.iload 9, 2) := dk_21 9 (dk_at dksX1_bestSpeed_2 12 rfl rfl)
theorem dX1_bestSpeed_62 : decode cX1_bestSpeed 62 = .ok (.invokevirtual 152, 3) := dk_182 0 152 (dk_at dksX1_bestSpeed_2 14 rfl rfl)
theorem dX1_bestSpeed_65 : decode cX1_bestSpeed 65 = .ok (.iload 6, 2) := dk_21 6 (dk_at dksX1_bestSpeed_2 17 rfl rfl)
theorem dX1_bestSpeed_67 : decode cX1_bestSpeed 67 = .ok (.iconst (-1), 1) := dk_2 (dk_at dksX1_bestSpeed_2 19 rfl rfl)
theorem dX1_bestSpeed_68 : decode cX1_bestSpeed 68 = .ok (.if_icmp .eq 19, 3) := dk_159 0 19 (dk_at dksX1_bestSpeed_2 20 rfl rfl)
theorem dX1_bestSpeed_71 : decode cX1_bestSpeed 71 = .ok (.aload_n 0, 1) := dk_42 (dk_at dksX1_bestSpeed_2 23 rfl rfl)
theorem dX1_bestSpeed_72 : decode cX1_bestSpeed 72 = .ok (.getfield 36, 3) := dk_180 0 36 (dk_at dksX1_bestSpeed_3 0 rfl rfl)
theorem dX1_bestSpeed_75 : decode cX1_bestSpeed 75 = .ok (.invokevirtual 170, 3) := dk_182 0 170 (dk_at dksX1_bestSpeed_3 3 rfl rfl)
theorem dX1_bestSpeed_78 : decode cX1_bestSpeed 78 = .ok (.lload 7, 2) := dk_22 7 (dk_at dksX1_bestSpeed_3 6 rfl rfl)
theorem dX1_bestSpeed_80 : decode cX1_bestSpeed 80 = .ok (.lcmp, 1) := dk_148 (dk_at dksX1_bestSpeed_3 8 rfl rfl)
theorem dX1_bestSpeed_81 : decode cX1_bestSpeed 81 = .ok (.ifCond .lt 6, 3) := dk_155 0 6 (dk_at dksX1_bestSpeed_3 9 rfl rfl)
theorem dX1_bestSpeed_84 : decode cX1_bestSpeed 84 = .ok (.goto 16, 3) := dk_167 0 16 (dk_at dksX1_bestSpeed_3 12 rfl rfl)
theorem dX1_bestSpeed_87 : decode cX1_bestSpeed 87 = .ok (.iload 9, 2) := dk_21 9 (dk_at dksX1_bestSpeed_3 15 rfl rfl)
theorem dX1_bestSpeed_89 : decode cX1_bestSpeed 89 = .ok (.istore 6, 2) := dk_54 6 (dk_at dksX1_bestSpeed_3 17 rfl rfl)
theorem dX1_bestSpeed_91 : decode cX1_bestSpeed 91 = .ok (.aload_n 0, 1) := dk_42 (dk_at dksX1_bestSpeed_3 19 rfl rfl)
theorem dX1_bestSpeed_92 : decode cX1_bestSpeed 92 = .ok (.getfield 36, 3) := dk_180 0 36 (dk_at dksX1_bestSpeed_3 20 rfl rfl)
theorem dX1_bestSpeed_95 : decode cX1_bestSpeed 95 = .ok (.invokevirtual 170, 3) := dk_182 0 170 (dk_at dksX1_bestSpeed_4 0 rfl rfl)
theorem dX1_bestSpeed_98 : decode cX1_bestSpeed 98 = .ok (.lstore 7, 2) := dk_55 7 (dk_at dksX1_bestSpeed_4 3 rfl rfl)
theorem dX1_bestSpeed_100 : decode cX1_bestSpeed 100 = .ok (.iinc 9 1, 3) := dk_132 9 1 (dk_at dksX1_bestSpeed_4 5 rfl rfl)
theorem dX1_bestSpeed_103 : decode cX1_bestSpeed 103 = .ok (.goto (-79), 3) := dk_167 255 177 (dk_at dksX1_bestSpeed_4 8 rfl rfl)
theorem dX1_bestSpeed_106 : decode cX1_bestSpeed 106 = .ok (.iload 6, 2) := dk_21 6 (dk_at dksX1_bestSpeed_4 11 rfl rfl)
theorem dX1_bestSpeed_108 : decode cX1_bestSpeed 108 = .ok (.ireturn, 1) := dk_172 (dk_at dksX1_bestSpeed_4 13 rfl rfl)
abbrev cX1_saves : ByteArray := prog_1_method_27_code
def yX1_saves : MethodName := ⟨RX1, "saves", "(IIIIZ)J"⟩
def dkwX1_saves_4 : List UInt8 := [184, 0, 166, 173]
abbrev dktX1_saves_4 : List UInt8 := dkwX1_saves_4 ++ []
def dkwX1_saves_3 : List UInt8 := [50, 180, 0, 200, 182, 0, 156, 87, 42, 180, 0, 36, 182, 0, 170, 22, 6, 101, 20, 0, 164, 21, 5]
abbrev dktX1_saves_3 : List UInt8 := dkwX1_saves_3 ++ dktX1_saves_4
def dkwX1_saves_2 : List UInt8 := [87, 42, 180, 0, 36, 182, 0, 170, 55, 6, 42, 27, 28, 29, 21, 4, 42, 180, 0, 95, 180, 0, 135, 27]
abbrev dktX1_saves_2 : List UInt8 := dkwX1_saves_2 ++ dktX1_saves_3
def dkwX1_saves_1 : List UInt8 := [4, 182, 0, 84, 133, 173, 42, 27, 28, 29, 21, 4, 42, 27, 28, 29, 21, 4, 182, 0, 206, 182, 0, 156]
abbrev dktX1_saves_1 : List UInt8 := dkwX1_saves_1 ++ dktX1_saves_2
def dkwX1_saves_0 : List UInt8 := [42, 182, 0, 70, 42, 27, 182, 0, 129, 153, 0, 14, 42, 28, 29, 21, 4, 182, 0, 132, 154, 0, 10, 42]
abbrev dktX1_saves_0 : List UInt8 := dkwX1_saves_0 ++ dktX1_saves_1
theorem dksX1_saves_0 : cX1_saves.data.toList.drop 0 = dktX1_saves_0 := by decide +kernel
theorem dksX1_saves_1 : cX1_saves.data.toList.drop 24 = dktX1_saves_1 := dk_seg dksX1_saves_0 24 rfl rfl
theorem dksX1_saves_2 : cX1_saves.data.toList.drop 48 = dktX1_saves_2 := dk_seg dksX1_saves_1 24 rfl rfl
theorem dksX1_saves_3 : cX1_saves.data.toList.drop 72 = dktX1_saves_3 := dk_seg dksX1_saves_2 24 rfl rfl
theorem dksX1_saves_4 : cX1_saves.data.toList.drop 95 = dktX1_saves_4 := dk_seg dksX1_saves_3 23 rfl rfl
theorem dX1_saves_0 : decode cX1_saves 0 = .ok (.aload_n 0, 1) := dk_42 (dk_at dksX1_saves_0 0 rfl rfl)
theorem dX1_saves_1 : decode cX1_saves 1 = .ok (.invokevirtual 70, 3) := dk_182 0 70 (dk_at dksX1_saves_0 1 rfl rfl)
theorem dX1_saves_4 : decode cX1_saves 4 = .ok (.aload_n 0, 1) := dk_42 (dk_at dksX1_saves_0 4 rfl rfl)
theorem dX1_saves_5 : decode cX1_saves 5 = .ok (.iload_n 1, 1) := dk_27 (dk_at dksX1_saves_0 5 rfl rfl)
theorem dX1_saves_6 : decode cX1_saves 6 = .ok (.invokevirtual 129, 3) := dk_182 0 129 (dk_at dksX1_saves_0 6 rfl rfl)
theorem dX1_saves_9 : decode cX1_saves 9 = .ok (.ifCond .eq 14, 3) := dk_153 0 14 (dk_at dksX1_saves_0 9 rfl rfl)
theorem dX1_saves_12 : decode cX1_saves 12 = .ok (.aload_n 0, 1) := dk_42 (dk_at dksX1_saves_0 12 rfl rfl)
theorem dX1_saves_13 : decode cX1_saves 13 = .ok (.iload_n 2, 1) := dk_28 (dk_at dksX1_saves_0 13 rfl rfl)
theorem dX1_saves_14 : decode cX1_saves 14 = .ok (.iload_n 3, 1) := dk_29 (dk_at dksX1_saves_0 14 rfl rfl)
theorem dX1_saves_15 : decode cX1_saves 15 = .ok (.iload 4, 2) := dk_21 4 (dk_at dksX1_saves_0 15 rfl rfl)
theorem dX1_saves_17 : decode cX1_saves 17 = .ok (.invokevirtual 132, 3) := dk_182 0 132 (dk_at dksX1_saves_0 17 rfl rfl)
theorem dX1_saves_20 : decode cX1_saves 20 = .ok (.ifCond .ne 10, 3) := dk_154 0 10 (dk_at dksX1_saves_0 20 rfl rfl)
theorem dX1_saves_23 : decode cX1_saves 23 = .ok (.aload_n 0, 1) := dk_42 (dk_at dksX1_saves_0 23 rfl rfl)
theorem dX1_saves_24 : decode cX1_saves 24 = .ok (.iconst 1, 1) := dk_4 (dk_at dksX1_saves_1 0 rfl rfl)
theorem dX1_saves_25 : decode cX1_saves 25 = .ok (.invokevirtual 84, 3) := dk_182 0 84 (dk_at dksX1_saves_1 1 rfl rfl)
theorem dX1_saves_28 : decode cX1_saves 28 = .ok (.i2l, 1) := dk_133 (dk_at dksX1_saves_1 4 rfl rfl)
theorem dX1_saves_29 : decode cX1_saves 29 = .ok (.lreturn, 1) := dk_173 (dk_at dksX1_saves_1 5 rfl rfl)
theorem dX1_saves_30 : decode cX1_saves 30 = .ok (.aload_n 0, 1) := dk_42 (dk_at dksX1_saves_1 6 rfl rfl)
theorem dX1_saves_31 : decode cX1_saves 31 = .ok (.iload_n 1, 1) := dk_27 (dk_at dksX1_saves_1 7 rfl rfl)
theorem dX1_saves_32 : decode cX1_saves 32 = .ok (.iload_n 2, 1) := dk_28 (dk_at dksX1_saves_1 8 rfl rfl)
theorem dX1_saves_33 : decode cX1_saves 33 = .ok (.iload_n 3, 1) := dk_29 (dk_at dksX1_saves_1 9 rfl rfl)
theorem dX1_saves_34 : decode cX1_saves 34 = .ok (.iload 4, 2) := dk_21 4 (dk_at dksX1_saves_1 10 rfl rfl)
theorem dX1_saves_36 : decode cX1_saves 36 = .ok (.aload_n 0, 1) := dk_42 (dk_at dksX1_saves_1 12 rfl rfl)
theorem dX1_saves_37 : decode cX1_saves 37 = .ok (.iload_n 1, 1) := dk_27 (dk_at dksX1_saves_1 13 rfl rfl)
theorem dX1_saves_38 : decode cX1_saves 38 = .ok (.iload_n 2, 1) := dk_28 (dk_at dksX1_saves_1 14 rfl rfl)
theorem dX1_saves_39 : decode cX1_saves 39 = .ok (.iload_n 3, 1) := dk_29 (dk_at dksX1_saves_1 15 rfl rfl)
theorem dX1_saves_40 : decode cX1_saves 40 = .ok (.iload 4, 2) := dk_21 4 (dk_at dksX1_saves_1 16 rfl rfl)
theorem dX1_saves_42 : decode cX1_saves 42 = .ok (.invokevirtual 206, 3) := dk_182 0 206 (dk_at dksX1_saves_1 18 rfl rfl)
theorem dX1_saves_45 : decode cX1_saves 45 = .ok (.invokevirtual 156, 3) := dk_182 0 156 (dk_at dksX1_saves_1 21 rfl rfl)
theorem dX1_saves_48 : decode cX1_saves 48 = .ok (.pop, 1) := dk_87 (dk_at dksX1_saves_2 0 rfl rfl)
theorem dX1_saves_49 : decode cX1_saves 49 = .ok (.aload_n 0, 1) := dk_42 (dk_at dksX1_saves_2 1 rfl rfl)
theorem dX1_saves_50 : decode cX1_saves 50 = .ok (.getfield 36, 3) := dk_180 0 36 (dk_at dksX1_saves_2 2 rfl rfl)
theorem dX1_saves_53 : decode cX1_saves 53 = .ok (.invokevirtual 170, 3) := dk_182 0 170 (dk_at dksX1_saves_2 5 rfl rfl)
theorem dX1_saves_56 : decode cX1_saves 56 = .ok (.lstore 6, 2) := dk_55 6 (dk_at dksX1_saves_2 8 rfl rfl)
theorem dX1_saves_58 : decode cX1_saves 58 = .ok (.aload_n 0, 1) := dk_42 (dk_at dksX1_saves_2 10 rfl rfl)
theorem dX1_saves_59 : decode cX1_saves 59 = .ok (.iload_n 1, 1) := dk_27 (dk_at dksX1_saves_2 11 rfl rfl)
theorem dX1_saves_60 : decode cX1_saves 60 = .ok (.iload_n 2, 1) := dk_28 (dk_at dksX1_saves_2 12 rfl rfl)
theorem dX1_saves_61 : decode cX1_saves 61 = .ok (.iload_n 3, 1) := dk_29 (dk_at dksX1_saves_2 13 rfl rfl)
theorem dX1_saves_62 : decode cX1_saves 62 = .ok (.iload 4, 2) := dk_21 4 (dk_at dksX1_saves_2 14 rfl rfl)
theorem dX1_saves_64 : decode cX1_saves 64 = .ok (.aload_n 0, 1) := dk_42 (dk_at dksX1_saves_2 16 rfl rfl)
theorem dX1_saves_65 : decode cX1_saves 65 = .ok (.getfield 95, 3) := dk_180 0 95 (dk_at dksX1_saves_2 17 rfl rfl)
theorem dX1_saves_68 : decode cX1_saves 68 = .ok (.getfield 135, 3) := dk_180 0 135 (dk_at dksX1_saves_2 20 rfl rfl)
theorem dX1_saves_71 : decode cX1_saves 71 = .ok (.iload_n 1, 1) := dk_27 (dk_at dksX1_saves_2 23 rfl rfl)
theorem dX1_saves_72 : decode cX1_saves 72 = .ok (.aaload, 1) := dk_50 (dk_at dksX1_saves_3 0 rfl rfl)
theorem dX1_saves_73 : decode cX1_saves 73 = .ok (.getfield 200, 3) := dk_180 0 200 (dk_at dksX1_saves_3 1 rfl rfl)
theorem dX1_saves_76 : decode cX1_saves 76 = .ok (.invokevirtual 156, 3) := dk_182 0 156 (dk_at dksX1_saves_3 4 rfl rfl)
theorem dX1_saves_79 : decode cX1_saves 79 = .ok (.pop, 1) := dk_87 (dk_at dksX1_saves_3 7 rfl rfl)
theorem dX1_saves_80 : decode cX1_saves 80 = .ok (.aload_n 0, 1) := dk_42 (dk_at dksX1_saves_3 8 rfl rfl)
theorem dX1_saves_81 : decode cX1_saves 81 = .ok (.getfield 36, 3) := dk_180 0 36 (dk_at dksX1_saves_3 9 rfl rfl)
theorem dX1_saves_84 : decode cX1_saves 84 = .ok (.invokevirtual 170, 3) := dk_182 0 170 (dk_at dksX1_saves_3 12 rfl rfl)
theorem dX1_saves_87 : decode cX1_saves 87 = .ok (.lload 6, 2) := dk_22 6 (dk_at dksX1_saves_3 15 rfl rfl)
theorem dX1_saves_89 : decode cX1_saves 89 = .ok (.lsub, 1) := dk_101 (dk_at dksX1_saves_3 17 rfl rfl)
theorem dX1_saves_90 : decode cX1_saves 90 = .ok (.ldc2_w 164, 3) := dk_20 0 164 (dk_at dksX1_saves_3 18 rfl rfl)
theorem dX1_saves_93 : decode cX1_saves 93 = .ok (.iload 5, 2) := dk_21 5 (dk_at dksX1_saves_3 21 rfl rfl)
theorem dX1_saves_95 : decode cX1_saves 95 = .ok (.invokestatic 166, 3) := dk_184 0 166 (dk_at dksX1_saves_4 0 rfl rfl)
theorem dX1_saves_98 : decode cX1_saves 98 = .ok (.lreturn, 1) := dk_173 (dk_at dksX1_saves_4 3 rfl rfl)
abbrev cX1_worst : ByteArray := prog_1_method_29_code
def yX1_worst : MethodName := ⟨RX1, "worst", "(IIII)I"⟩
def dkwX1_worst_1 : List UInt8 := [27, 28, 29, 21, 4, 182, 0, 210, 167, 0, 8, 42, 4, 182, 0, 84, 172]
abbrev dktX1_worst_1 : List UInt8 := dkwX1_worst_1 ++ []
def dkwX1_worst_0 : List UInt8 := [42, 182, 0, 70, 42, 27, 182, 0, 129, 153, 0, 26, 42, 28, 29, 21, 4, 182, 0, 132, 153, 0, 15, 42]
abbrev dktX1_worst_0 : List UInt8 := dkwX1_worst_0 ++ dktX1_worst_1
theorem dksX1_worst_0 : cX1_worst.data.toList.drop 0 = dktX1_worst_0 := by decide +kernel
theorem dksX1_worst_1 : cX1_worst.data.toList.drop 24 = dktX1_worst_1 := dk_seg dksX1_worst_0 24 rfl rfl
theorem dX1_worst_0 : decode cX1_worst 0 = .ok (.aload_n 0, 1) := dk_42 (dk_at dksX1_worst_0 0 rfl rfl)
theorem dX1_worst_1 : decode cX1_worst 1 = .ok (.invokevirtual 70, 3) := dk_182 0 70 (dk_at dksX1_worst_0 1 rfl rfl)
theorem dX1_worst_4 : decode cX1_worst 4 = .ok (.aload_n 0, 1) := dk_42 (dk_at dksX1_worst_0 4 rfl rfl)
theorem dX1_worst_5 : decode cX1_worst 5 = .ok (.iload_n 1, 1) := dk_27 (dk_at dksX1_worst_0 5 rfl rfl)
theorem dX1_worst_6 : decode cX1_worst 6 = .ok (.invokevirtual 129, 3) := dk_182 0 129 (dk_at dksX1_worst_0 6 rfl rfl)
theorem dX1_worst_9 : decode cX1_worst 9 = .ok (.ifCond .eq 26, 3) := dk_153 0 26 (dk_at dksX1_worst_0 9 rfl rfl)
theorem dX1_worst_12 : decode cX1_worst 12 = .ok (.aload_n 0, 1) := dk_42 (dk_at dksX1_worst_0 12 rfl rfl)
theorem dX1_worst_13 : decode cX1_worst 13 = .ok (.iload_n 2, 1) := dk_28 (dk_at dksX1_worst_0 13 rfl rfl)
theorem dX1_worst_14 : decode cX1_worst 14 = .ok (.iload_n 3, 1) := dk_29 (dk_at dksX1_worst_0 14 rfl rfl)
theorem dX1_worst_15 : decode cX1_worst 15 = .ok (.iload 4, 2) := dk_21 4 (dk_at dksX1_worst_0 15 rfl rfl)
theorem dX1_worst_17 : decode cX1_worst 17 = .ok (.invokevirtual 132, 3) := dk_182 0 132 (dk_at dksX1_worst_0 17 rfl rfl)
theorem dX1_worst_20 : decode cX1_worst 20 = .ok (.ifCond .eq 15, 3) := dk_153 0 15 (dk_at dksX1_worst_0 20 rfl rfl)
theorem dX1_worst_23 : decode cX1_worst 23 = .ok (.aload_n 0, 1) := dk_42 (dk_at dksX1_worst_0 23 rfl rfl)
theorem dX1_worst_24 : decode cX1_worst 24 = .ok (.iload_n 1, 1) := dk_27 (dk_at dksX1_worst_1 0 rfl rfl)
theorem dX1_worst_25 : decode cX1_worst 25 = .ok (.iload_n 2, 1) := dk_28 (dk_at dksX1_worst_1 1 rfl rfl)
theorem dX1_worst_26 : decode cX1_worst 26 = .ok (.iload_n 3, 1) := dk_29 (dk_at dksX1_worst_1 2 rfl rfl)
theorem dX1_worst_27 : decode cX1_worst 27 = .ok (.iload 4, 2) := dk_21 4 (dk_at dksX1_worst_1 3 rfl rfl)
theorem dX1_worst_29 : decode cX1_worst 29 = .ok (.invokevirtual 210, 3) := dk_182 0 210 (dk_at dksX1_worst_1 5 rfl rfl)
theorem dX1_worst_32 : decode cX1_worst 32 = .ok (.goto 8, 3) := dk_167 0 8 (dk_at dksX1_worst_1 8 rfl rfl)
theorem dX1_worst_35 : decode cX1_worst 35 = .ok (.aload_n 0, 1) := dk_42 (dk_at dksX1_worst_1 11 rfl rfl)
theorem dX1_worst_36 : decode cX1_worst 36 = .ok (.iconst 1, 1) := dk_4 (dk_at dksX1_worst_1 12 rfl rfl)
theorem dX1_worst_37 : decode cX1_worst 37 = .ok (.invokevirtual 84, 3) := dk_182 0 84 (dk_at dksX1_worst_1 13 rfl rfl)
theorem dX1_worst_40 : decode cX1_worst 40 = .ok (.ireturn, 1) := dk_172 (dk_at dksX1_worst_1 16 rfl rfl)
abbrev cX1_worstSpeed : ByteArray := prog_1_method_28_code
def yX1_worstSpeed : MethodName := ⟨RX1, "worstSpeed", "(IIII)I"⟩
def dkwX1_worstSpeed_4 : List UInt8 := [182, 0, 170, 55, 7, 132, 9, 1, 167, 255, 177, 21, 6, 172]
abbrev dktX1_worstSpeed_4 : List UInt8 := dkwX1_worstSpeed_4 ++ []
def dkwX1_worstSpeed_3 : List UInt8 := [180, 0, 36, 182, 0, 170, 22, 7, 148, 157, 0, 6, 167, 0, 16, 21, 9, 54, 6, 42, 180, 0, 36]
abbrev dktX1_worstSpeed_3 : List UInt8 := dkwX1_worstSpeed_3 ++ dktX1_worstSpeed_4
def dkwX1_worstSpeed_2 : List UInt8 := [50, 29, 42, 180, 0, 95, 180, 0, 148, 21, 4, 50, 21, 9, 182, 0, 152, 21, 6, 2, 159, 0, 19, 42]
abbrev dktX1_worstSpeed_2 : List UInt8 := dkwX1_worstSpeed_2 ++ dktX1_worstSpeed_3
def dkwX1_worstSpeed_1 : List UInt8 := [21, 9, 25, 5, 180, 0, 203, 163, 0, 75, 42, 180, 0, 36, 25, 5, 42, 180, 0, 95, 180, 0, 144, 28]
abbrev dktX1_worstSpeed_1 : List UInt8 := dkwX1_worstSpeed_1 ++ dktX1_worstSpeed_2
def dkwX1_worstSpeed_0 : List UInt8 := [42, 180, 0, 95, 180, 0, 135, 27, 50, 58, 5, 2, 54, 6, 9, 55, 7, 25, 5, 180, 0, 200, 54, 9]
abbrev dktX1_worstSpeed_0 : List UInt8 := dkwX1_worstSpeed_0 ++ dktX1_worstSpeed_1
theorem dksX1_worstSpeed_0 : cX1_worstSpeed.data.toList.drop 0 = dktX1_worstSpeed_0 := by decide +kernel
theorem dksX1_worstSpeed_1 : cX1_worstSpeed.data.toList.drop 24 = dktX1_worstSpeed_1 := dk_seg dksX1_worstSpeed_0 24 rfl rfl
theorem dksX1_worstSpeed_2 : cX1_worstSpeed.data.toList.drop 48 = dktX1_worstSpeed_2 := dk_seg dksX1_worstSpeed_1 24 rfl rfl
theorem dksX1_worstSpeed_3 : cX1_worstSpeed.data.toList.drop 72 = dktX1_worstSpeed_3 := dk_seg dksX1_worstSpeed_2 24 rfl rfl
theorem dksX1_worstSpeed_4 : cX1_worstSpeed.data.toList.drop 95 = dktX1_worstSpeed_4 := dk_seg dksX1_worstSpeed_3 23 rfl rfl
theorem dX1_worstSpeed_0 : decode cX1_worstSpeed 0 = .ok (.aload_n 0, 1) := dk_42 (dk_at dksX1_worstSpeed_0 0 rfl rfl)
theorem dX1_worstSpeed_1 : decode cX1_worstSpeed 1 = .ok (.getfield 95, 3) := dk_180 0 95 (dk_at dksX1_worstSpeed_0 1 rfl rfl)
theorem dX1_worstSpeed_4 : decode cX1_worstSpeed 4 = .ok (.getfield 135, 3) := dk_180 0 135 (dk_at dksX1_worstSpeed_0 4 rfl rfl)
theorem dX1_worstSpeed_7 : decode cX1_worstSpeed 7 = .ok (.iload_n 1, 1) := dk_27 (dk_at dksX1_worstSpeed_0 7 rfl rfl)
theorem dX1_worstSpeed_8 : decode cX1_worstSpeed 8 = .ok (.aaload, 1) := dk_50 (dk_at dksX1_worstSpeed_0 8 rfl rfl)
theorem dX1_worstSpeed_9 : decode cX1_worstSpeed 9 = .ok (.astore 5, 2) := dk_58 5 (dk_at dksX1_worstSpeed_0 9 rfl rfl)
theorem dX1_worstSpeed_11 : decode cX1_worstSpeed 11 = .ok (.iconst (-1), 1) := dk_2 (dk_at dksX1_worstSpeed_0 11 rfl rfl)
theorem dX1_worstSpeed_12 : decode cX1_worstSpeed 12 = .ok (.istore 6, 2) := dk_54 6 (dk_at dksX1_worstSpeed_0 12 rfl rfl)
theorem dX1_worstSpeed_14 : decode cX1_worstSpeed 14 = .ok (.lconst 0, 1) := dk_9 (dk_at dksX1_worstSpeed_0 14 rfl rfl)
theorem dX1_worstSpeed_15 : decode cX1_worstSpeed 15 = .ok (.lstore 7, 2) := dk_55 7 (dk_at dksX1_worstSpeed_0 15 rfl rfl)
theorem dX1_worstSpeed_17 : decode cX1_worstSpeed 17 = .ok (.aload 5, 2) := dk_25 5 (dk_at dksX1_worstSpeed_0 17 rfl rfl)
theorem dX1_worstSpeed_19 : decode cX1_worstSpeed 19 = .ok (.getfield 200, 3) := dk_180 0 200 (dk_at dksX1_worstSpeed_0 19 rfl rfl)
theorem dX1_worstSpeed_22 : decode cX1_worstSpeed 22 = .ok (.istore 9, 2) := dk_54 9 (dk_at dksX1_worstSpeed_0 22 rfl rfl)
theorem dX1_worstSpeed_24 : decode cX1_worstSpeed 24 = .ok (.iload 9, 2) := dk_21 9 (dk_at dksX1_worstSpeed_1 0 rfl rfl)
theorem dX1_worstSpeed_26 : decode cX1_worstSpeed 26 = .ok (.aload 5, 2) := dk_25 5 (dk_at dksX1_worstSpeed_1 2 rfl rfl)
theorem dX1_worstSpeed_28 : decode cX1_worstSpeed 28 = .ok (.getfield 203, 3) := dk_180 0 203 (dk_at dksX1_worstSpeed_1 4 rfl rfl)
theorem dX1_worstSpeed_31 : decode cX1_worstSpeed 31 = .ok (.if_icmp .gt 75, 3) := dk_163 0 75 (dk_at dksX1_worstSpeed_1 7 rfl rfl)
theorem dX1_worstSpeed_34 : decode cX1_worstSpeed 34 = .ok (.aload_n 0, 1) := dk_42 (dk_at dksX1_worstSpeed_1 10 rfl rfl)
theorem dX1_worstSpeed_35 : decode cX1_worstSpeed 35 = .ok (.getfield 36, 3) := dk_180 0 36 (dk_at dksX1_worstSpeed_1 11 rfl rfl)
theorem dX1_worstSpeed_38 : decode cX1_worstSpeed 38 = .ok (.aload 5, 2) := dk_25 5 (dk_at dksX1_worstSpeed_1 14 rfl rfl)
theorem dX1_worstSpeed_40 : decode cX1_worstSpeed 40 = .ok (.aload_n 0, 1) := dk_42 (dk_at dksX1_worstSpeed_1 16 rfl rfl)
theorem dX1_worstSpeed_41 : decode cX1_worstSpeed 41 = .ok (.getfield 95, 3) := dk_180 0 95 (dk_at dksX1_worstSpeed_1 17 rfl rfl)
theorem dX1_worstSpeed_44 : decode cX1_worstSpeed 44 = .ok (.getfield 144, 3) := dk_180 0 144 (dk_at dksX1_worstSpeed_1 20 rfl rfl)
theorem dX1_worstSpeed_47 : decode cX1_worstSpeed 47 = .ok (.iload_n 2, 1) := dk_28 (dk_at dksX1_worstSpeed_1 23 rfl rfl)
theorem dX1_worstSpeed_48 : decode cX1_worstSpeed 48 = .ok (.aaload, 1) := dk_50 (dk_at dksX1_worstSpeed_2 0 rfl rfl)
theorem dX1_worstSpeed_49 : decode cX1_worstSpeed 49 = .ok (.iload_n 3, 1) := dk_29 (dk_at dksX1_worstSpeed_2 1 rfl rfl)
theorem dX1_worstSpeed_50 : decode cX1_worstSpeed 50 = .ok (.aload_n 0, 1) := dk_42 (dk_at dksX1_worstSpeed_2 2 rfl rfl)
theorem dX1_worstSpeed_51 : decode cX1_worstSpeed 51 = .ok (.getfield 95, 3) := dk_180 0 95 (dk_at dksX1_worstSpeed_2 3 rfl rfl)
theorem dX1_worstSpeed_54 : decode cX1_worstSpeed 54 = .ok (.getfield 148, 3) := dk_180 0 148 (dk_at dksX1_worstSpeed_2 6 rfl rfl)
theorem dX1_worstSpeed_57 : decode cX1_worstSpeed 57 = .ok (.iload 4, 2) := dk_21 4 (dk_at dksX1_worstSpeed_2 9 rfl rfl)
theorem dX1_worstSpeed_59 : decode cX1_worstSpeed 59 = .ok (.aaload, 1) := dk_50 (dk_at dksX1_worstSpeed_2 11 rfl rfl)
theorem dX1_worstSpeed_60 : decode cX1_worstSpeed 60 = .ok (.iload 9, 2) := dk_21 9 (dk_at dksX1_worstSpeed_2 12 rfl rfl)
theorem dX1_worstSpeed_62 : decode cX1_worstSpeed 62 = .ok (.invokevirtual 152, 3) := dk_182 0 152 (dk_at dksX1_worstSpeed_2 14 rfl rfl)
theorem dX1_worstSpeed_65 : decode cX1_worstSpeed 65 = .ok (.iload 6, 2) := dk_21 6 (dk_at dksX1_worstSpeed_2 17 rfl rfl)
theorem dX1_worstSpeed_67 : decode cX1_worstSpeed 67 = .ok (.iconst (-1), 1) := dk_2 (dk_at dksX1_worstSpeed_2 19 rfl rfl)
theorem dX1_worstSpeed_68 : decode cX1_worstSpeed 68 = .ok (.if_icmp .eq 19, 3) := dk_159 0 19 (dk_at dksX1_worstSpeed_2 20 rfl rfl)
theorem dX1_worstSpeed_71 : decode cX1_worstSpeed 71 = .ok (.aload_n 0, 1) := dk_42 (dk_at dksX1_worstSpeed_2 23 rfl rfl)
theorem dX1_worstSpeed_72 : decode cX1_worstSpeed 72 = .ok (.getfield 36, 3) := dk_180 0 36 (dk_at dksX1_worstSpeed_3 0 rfl rfl)
theorem dX1_worstSpeed_75 : decode cX1_worstSpeed 75 = .ok (.invokevirtual 170, 3) := dk_182 0 170 (dk_at dksX1_worstSpeed_3 3 rfl rfl)
theorem dX1_worstSpeed_78 : decode cX1_worstSpeed 78 = .ok (.lload 7, 2) := dk_22 7 (dk_at dksX1_worstSpeed_3 6 rfl rfl)
theorem dX1_worstSpeed_80 : decode cX1_worstSpeed 80 = .ok (.lcmp, 1) := dk_148 (dk_at dksX1_worstSpeed_3 8 rfl rfl)
theorem dX1_worstSpeed_81 : decode cX1_worstSpeed 81 = .ok (.ifCond .gt 6, 3) := dk_157 0 6 (dk_at dksX1_worstSpeed_3 9 rfl rfl)
theorem dX1_worstSpeed_84 : decode cX1_worstSpeed 84 = .ok (.goto 16, 3) := dk_167 0 16 (dk_at dksX1_worstSpeed_3 12 rfl rfl)
theorem dX1_worstSpeed_87 : decode cX1_worstSpeed 87 = .ok (.iload 9, 2) := dk_21 9 (dk_at dksX1_worstSpeed_3 15 rfl rfl)
theorem dX1_worstSpeed_89 : decode cX1_worstSpeed 89 = .ok (.istore 6, 2) := dk_54 6 (dk_at dksX1_worstSpeed_3 17 rfl rfl)
theorem dX1_worstSpeed_91 : decode cX1_worstSpeed 91 = .ok (.aload_n 0, 1) := dk_42 (dk_at dksX1_worstSpeed_3 19 rfl rfl)
theorem dX1_worstSpeed_92 : decode cX1_worstSpeed 92 = .ok (.getfield 36, 3) := dk_180 0 36 (dk_at dksX1_worstSpeed_3 20 rfl rfl)
theorem dX1_worstSpeed_95 : decode cX1_worstSpeed 95 = .ok (.invokevirtual 170, 3) := dk_182 0 170 (dk_at dksX1_worstSpeed_4 0 rfl rfl)
theorem dX1_worstSpeed_98 : decode cX1_worstSpeed 98 = .ok (.lstore 7, 2) := dk_55 7 (dk_at dksX1_worstSpeed_4 3 rfl rfl)
theorem dX1_worstSpeed_100 : decode cX1_worstSpeed 100 = .ok (.iinc 9 1, 3) := dk_132 9 1 (dk_at dksX1_worstSpeed_4 5 rfl rfl)
theorem dX1_worstSpeed_103 : decode cX1_worstSpeed 103 = .ok (.goto (-79), 3) := dk_167 255 177 (dk_at dksX1_worstSpeed_4 8 rfl rfl)
theorem dX1_worstSpeed_106 : decode cX1_worstSpeed 106 = .ok (.iload 6, 2) := dk_21 6 (dk_at dksX1_worstSpeed_4 11 rfl rfl)
theorem dX1_worstSpeed_108 : decode cX1_worstSpeed 108 = .ok (.ireturn, 1) := dk_172 (dk_at dksX1_worstSpeed_4 13 rfl rfl)
abbrev cX1_even : ByteArray := prog_1_method_31_code
def yX1_even : MethodName := ⟨RX1, "even", "(IIII)I"⟩
def dkwX1_even_3 : List UInt8 := [4, 167, 0, 4, 3, 172]
abbrev dktX1_even_3 : List UInt8 := dkwX1_even_3 ++ []
def dkwX1_even_2 : List UInt8 := [28, 29, 21, 4, 182, 0, 210, 182, 0, 156, 87, 42, 180, 0, 36, 182, 0, 170, 22, 5, 148, 154, 0, 7]
abbrev dktX1_even_2 : List UInt8 := dkwX1_even_2 ++ dktX1_even_3
def dkwX1_even_1 : List UInt8 := [4, 182, 0, 84, 172, 42, 27, 28, 29, 21, 4, 182, 0, 213, 55, 5, 42, 27, 28, 29, 21, 4, 42, 27]
abbrev dktX1_even_1 : List UInt8 := dkwX1_even_1 ++ dktX1_even_2
def dkwX1_even_0 : List UInt8 := [42, 182, 0, 70, 42, 27, 182, 0, 129, 153, 0, 14, 42, 28, 29, 21, 4, 182, 0, 132, 154, 0, 9, 42]
abbrev dktX1_even_0 : List UInt8 := dkwX1_even_0 ++ dktX1_even_1
theorem dksX1_even_0 : cX1_even.data.toList.drop 0 = dktX1_even_0 := by decide +kernel
theorem dksX1_even_1 : cX1_even.data.toList.drop 24 = dktX1_even_1 := dk_seg dksX1_even_0 24 rfl rfl
theorem dksX1_even_2 : cX1_even.data.toList.drop 48 = dktX1_even_2 := dk_seg dksX1_even_1 24 rfl rfl
theorem dksX1_even_3 : cX1_even.data.toList.drop 72 = dktX1_even_3 := dk_seg dksX1_even_2 24 rfl rfl
theorem dX1_even_0 : decode cX1_even 0 = .ok (.aload_n 0, 1) := dk_42 (dk_at dksX1_even_0 0 rfl rfl)
theorem dX1_even_1 : decode cX1_even 1 = .ok (.invokevirtual 70, 3) := dk_182 0 70 (dk_at dksX1_even_0 1 rfl rfl)
theorem dX1_even_4 : decode cX1_even 4 = .ok (.aload_n 0, 1) := dk_42 (dk_at dksX1_even_0 4 rfl rfl)
theorem dX1_even_5 : decode cX1_even 5 = .ok (.iload_n 1, 1) := dk_27 (dk_at dksX1_even_0 5 rfl rfl)
theorem dX1_even_6 : decode cX1_even 6 = .ok (.invokevirtual 129, 3) := dk_182 0 129 (dk_at dksX1_even_0 6 rfl rfl)
theorem dX1_even_9 : decode cX1_even 9 = .ok (.ifCond .eq 14, 3) := dk_153 0 14 (dk_at dksX1_even_0 9 rfl rfl)
theorem dX1_even_12 : decode cX1_even 12 = .ok (.aload_n 0, 1) := dk_42 (dk_at dksX1_even_0 12 rfl rfl)
theorem dX1_even_13 : decode cX1_even 13 = .ok (.iload_n 2, 1) := dk_28 (dk_at dksX1_even_0 13 rfl rfl)
theorem dX1_even_14 : decode cX1_even 14 = .ok (.iload_n 3, 1) := dk_29 (dk_at dksX1_even_0 14 rfl rfl)
theorem dX1_even_15 : decode cX1_even 15 = .ok (.iload 4, 2) := dk_21 4 (dk_at dksX1_even_0 15 rfl rfl)
theorem dX1_even_17 : decode cX1_even 17 = .ok (.invokevirtual 132, 3) := dk_182 0 132 (dk_at dksX1_even_0 17 rfl rfl)
theorem dX1_even_20 : decode cX1_even 20 = .ok (.ifCond .ne 9, 3) := dk_154 0 9 (dk_at dksX1_even_0 20 rfl rfl)
theorem dX1_even_23 : decode cX1_even 23 = .ok (.aload_n 0, 1) := dk_42 (dk_at dksX1_even_0 23 rfl rfl)
theorem dX1_even_24 : decode cX1_even 24 = .ok (.iconst 1, 1) := dk_4 (dk_at dksX1_even_1 0 rfl rfl)
theorem dX1_even_25 : decode cX1_even 25 = .ok (.invokevirtual 84, 3) := dk_182 0 84 (dk_at dksX1_even_1 1 rfl rfl)
theorem dX1_even_28 : decode cX1_even 28 = .ok (.ireturn, 1) := dk_172 (dk_at dksX1_even_1 4 rfl rfl)
theorem dX1_even_29 : decode cX1_even 29 = .ok (.aload_n 0, 1) := dk_42 (dk_at dksX1_even_1 5 rfl rfl)
theorem dX1_even_30 : decode cX1_even 30 = .ok (.iload_n 1, 1) := dk_27 (dk_at dksX1_even_1 6 rfl rfl)
theorem dX1_even_31 : decode cX1_even 31 = .ok (.iload_n 2, 1) := dk_28 (dk_at dksX1_even_1 7 rfl rfl)
theorem dX1_even_32 : decode cX1_even 32 = .ok (.iload_n 3, 1) := dk_29 (dk_at dksX1_even_1 8 rfl rfl)
theorem dX1_even_33 : decode cX1_even 33 = .ok (.iload 4, 2) := dk_21 4 (dk_at dksX1_even_1 9 rfl rfl)
theorem dX1_even_35 : decode cX1_even 35 = .ok (.invokevirtual 213, 3) := dk_182 0 213 (dk_at dksX1_even_1 11 rfl rfl)
theorem dX1_even_38 : decode cX1_even 38 = .ok (.lstore 5, 2) := dk_55 5 (dk_at dksX1_even_1 14 rfl rfl)
theorem dX1_even_40 : decode cX1_even 40 = .ok (.aload_n 0, 1) := dk_42 (dk_at dksX1_even_1 16 rfl rfl)
theorem dX1_even_41 : decode cX1_even 41 = .ok (.iload_n 1, 1) := dk_27 (dk_at dksX1_even_1 17 rfl rfl)
theorem dX1_even_42 : decode cX1_even 42 = .ok (.iload_n 2, 1) := dk_28 (dk_at dksX1_even_1 18 rfl rfl)
theorem dX1_even_43 : decode cX1_even 43 = .ok (.iload_n 3, 1) := dk_29 (dk_at dksX1_even_1 19 rfl rfl)
theorem dX1_even_44 : decode cX1_even 44 = .ok (.iload 4, 2) := dk_21 4 (dk_at dksX1_even_1 20 rfl rfl)
theorem dX1_even_46 : decode cX1_even 46 = .ok (.aload_n 0, 1) := dk_42 (dk_at dksX1_even_1 22 rfl rfl)
theorem dX1_even_47 : decode cX1_even 47 = .ok (.iload_n 1, 1) := dk_27 (dk_at dksX1_even_1 23 rfl rfl)
theorem dX1_even_48 : decode cX1_even 48 = .ok (.iload_n 2, 1) := dk_28 (dk_at dksX1_even_2 0 rfl rfl)
theorem dX1_even_49 : decode cX1_even 49 = .ok (.iload_n 3, 1) := dk_29 (dk_at dksX1_even_2 1 rfl rfl)
theorem dX1_even_50 : decode cX1_even 50 = .ok (.iload 4, 2) := dk_21 4 (dk_at dksX1_even_2 2 rfl rfl)
theorem dX1_even_52 : decode cX1_even 52 = .ok (.invokevirtual 210, 3) := dk_182 0 210 (dk_at dksX1_even_2 4 rfl rfl)
theorem dX1_even_55 : decode cX1_even 55 = .ok (.invokevirtual 156, 3) := dk_182 0 156 (dk_at dksX1_even_2 7 rfl rfl)
theorem dX1_even_58 : decode cX1_even 58 = .ok (.pop, 1) := dk_87 (dk_at dksX1_even_2 10 rfl rfl)
theorem dX1_even_59 : decode cX1_even 59 = .ok (.aload_n 0, 1) := dk_42 (dk_at dksX1_even_2 11 rfl rfl)
theorem dX1_even_60 : decode cX1_even 60 = .ok (.getfield 36, 3) := dk_180 0 36 (dk_at dksX1_even_2 12 rfl rfl)
theorem dX1_even_63 : decode cX1_even 63 = .ok (.invokevirtual 170, 3) := dk_182 0 170 (dk_at dksX1_even_2 15 rfl rfl)
theorem dX1_even_66 : decode cX1_even 66 = .ok (.lload 5, 2) := dk_22 5 (dk_at dksX1_even_2 18 rfl rfl)
theorem dX1_even_68 : decode cX1_even 68 = .ok (.lcmp, 1) := dk_148 (dk_at dksX1_even_2 20 rfl rfl)
theorem dX1_even_69 : decode cX1_even 69 = .ok (.ifCond .ne 7, 3) := dk_154 0 7 (dk_at dksX1_even_2 21 rfl rfl)
theorem dX1_even_72 : decode cX1_even 72 = .ok (.iconst 1, 1) := dk_4 (dk_at dksX1_even_3 0 rfl rfl)
theorem dX1_even_73 : decode cX1_even 73 = .ok (.goto 4, 3) := dk_167 0 4 (dk_at dksX1_even_3 1 rfl rfl)
theorem dX1_even_76 : decode cX1_even 76 = .ok (.iconst 0, 1) := dk_3 (dk_at dksX1_even_3 4 rfl rfl)
theorem dX1_even_77 : decode cX1_even 77 = .ok (.ireturn, 1) := dk_172 (dk_at dksX1_even_3 5 rfl rfl)
abbrev cX1_wetAtBest : ByteArray := prog_1_method_30_code
def yX1_wetAtBest : MethodName := ⟨RX1, "wetAtBest", "(IIII)J"⟩
def dkwX1_wetAtBest_1 : List UInt8 := [182, 0, 170, 173]
abbrev dktX1_wetAtBest_1 : List UInt8 := dkwX1_wetAtBest_1 ++ []
def dkwX1_wetAtBest_0 : List UInt8 := [42, 27, 28, 29, 21, 4, 42, 27, 28, 29, 21, 4, 182, 0, 206, 182, 0, 156, 87, 42, 180, 0, 36]
abbrev dktX1_wetAtBest_0 : List UInt8 := dkwX1_wetAtBest_0 ++ dktX1_wetAtBest_1
theorem dksX1_wetAtBest_0 : cX1_wetAtBest.data.toList.drop 0 = dktX1_wetAtBest_0 := by decide +kernel
theorem dksX1_wetAtBest_1 : cX1_wetAtBest.data.toList.drop 23 = dktX1_wetAtBest_1 := dk_seg dksX1_wetAtBest_0 23 rfl rfl
theorem dX1_wetAtBest_0 : decode cX1_wetAtBest 0 = .ok (.aload_n 0, 1) := dk_42 (dk_at dksX1_wetAtBest_0 0 rfl rfl)
theorem dX1_wetAtBest_1 : decode cX1_wetAtBest 1 = .ok (.iload_n 1, 1) := dk_27 (dk_at dksX1_wetAtBest_0 1 rfl rfl)
theorem dX1_wetAtBest_2 : decode cX1_wetAtBest 2 = .ok (.iload_n 2, 1) := dk_28 (dk_at dksX1_wetAtBest_0 2 rfl rfl)
theorem dX1_wetAtBest_3 : decode cX1_wetAtBest 3 = .ok (.iload_n 3, 1) := dk_29 (dk_at dksX1_wetAtBest_0 3 rfl rfl)
theorem dX1_wetAtBest_4 : decode cX1_wetAtBest 4 = .ok (.iload 4, 2) := dk_21 4 (dk_at dksX1_wetAtBest_0 4 rfl rfl)
theorem dX1_wetAtBest_6 : decode cX1_wetAtBest 6 = .ok (.aload_n 0, 1) := dk_42 (dk_at dksX1_wetAtBest_0 6 rfl rfl)
theorem dX1_wetAtBest_7 : decode cX1_wetAtBest 7 = .ok (.iload_n 1, 1) := dk_27 (dk_at dksX1_wetAtBest_0 7 rfl rfl)
theorem dX1_wetAtBest_8 : decode cX1_wetAtBest 8 = .ok (.iload_n 2, 1) := dk_28 (dk_at dksX1_wetAtBest_0 8 rfl rfl)
theorem dX1_wetAtBest_9 : decode cX1_wetAtBest 9 = .ok (.iload_n 3, 1) := dk_29 (dk_at dksX1_wetAtBest_0 9 rfl rfl)
theorem dX1_wetAtBest_10 : decode cX1_wetAtBest 10 = .ok (.iload 4, 2) := dk_21 4 (dk_at dksX1_wetAtBest_0 10 rfl rfl)
theorem dX1_wetAtBest_12 : decode cX1_wetAtBest 12 = .ok (.invokevirtual 206, 3) := dk_182 0 206 (dk_at dksX1_wetAtBest_0 12 rfl rfl)
theorem dX1_wetAtBest_15 : decode cX1_wetAtBest 15 = .ok (.invokevirtual 156, 3) := dk_182 0 156 (dk_at dksX1_wetAtBest_0 15 rfl rfl)
theorem dX1_wetAtBest_18 : decode cX1_wetAtBest 18 = .ok (.pop, 1) := dk_87 (dk_at dksX1_wetAtBest_0 18 rfl rfl)
theorem dX1_wetAtBest_19 : decode cX1_wetAtBest 19 = .ok (.aload_n 0, 1) := dk_42 (dk_at dksX1_wetAtBest_0 19 rfl rfl)
theorem dX1_wetAtBest_20 : decode cX1_wetAtBest 20 = .ok (.getfield 36, 3) := dk_180 0 36 (dk_at dksX1_wetAtBest_0 20 rfl rfl)
theorem dX1_wetAtBest_23 : decode cX1_wetAtBest 23 = .ok (.invokevirtual 170, 3) := dk_182 0 170 (dk_at dksX1_wetAtBest_1 0 rfl rfl)
theorem dX1_wetAtBest_26 : decode cX1_wetAtBest 26 = .ok (.lreturn, 1) := dk_173 (dk_at dksX1_wetAtBest_1 3 rfl rfl)
abbrev cX1_round : ByteArray := prog_1_method_32_code
def yX1_round : MethodName := ⟨RX1, "round", "(IIIZ)J"⟩
def dkwX1_round_2 : List UInt8 := [20, 0, 164, 21, 4, 184, 0, 166, 173]
abbrev dktX1_round_2 : List UInt8 := dkwX1_round_2 ++ []
def dkwX1_round_1 : List UInt8 := [182, 0, 84, 133, 173, 42, 27, 28, 3, 29, 182, 0, 213, 42, 27, 28, 4, 29, 182, 0, 213, 97]
abbrev dktX1_round_1 : List UInt8 := dkwX1_round_1 ++ dktX1_round_2
def dkwX1_round_0 : List UInt8 := [42, 182, 0, 70, 42, 27, 182, 0, 129, 153, 0, 13, 42, 28, 3, 29, 182, 0, 132, 154, 0, 10, 42, 4]
abbrev dktX1_round_0 : List UInt8 := dkwX1_round_0 ++ dktX1_round_1
theorem dksX1_round_0 : cX1_round.data.toList.drop 0 = dktX1_round_0 := by decide +kernel
theorem dksX1_round_1 : cX1_round.data.toList.drop 24 = dktX1_round_1 := dk_seg dksX1_round_0 24 rfl rfl
theorem dksX1_round_2 : cX1_round.data.toList.drop 46 = dktX1_round_2 := dk_seg dksX1_round_1 22 rfl rfl
theorem dX1_round_0 : decode cX1_round 0 = .ok (.aload_n 0, 1) := dk_42 (dk_at dksX1_round_0 0 rfl rfl)
theorem dX1_round_1 : decode cX1_round 1 = .ok (.invokevirtual 70, 3) := dk_182 0 70 (dk_at dksX1_round_0 1 rfl rfl)
theorem dX1_round_4 : decode cX1_round 4 = .ok (.aload_n 0, 1) := dk_42 (dk_at dksX1_round_0 4 rfl rfl)
theorem dX1_round_5 : decode cX1_round 5 = .ok (.iload_n 1, 1) := dk_27 (dk_at dksX1_round_0 5 rfl rfl)
theorem dX1_round_6 : decode cX1_round 6 = .ok (.invokevirtual 129, 3) := dk_182 0 129 (dk_at dksX1_round_0 6 rfl rfl)
theorem dX1_round_9 : decode cX1_round 9 = .ok (.ifCond .eq 13, 3) := dk_153 0 13 (dk_at dksX1_round_0 9 rfl rfl)
theorem dX1_round_12 : decode cX1_round 12 = .ok (.aload_n 0, 1) := dk_42 (dk_at dksX1_round_0 12 rfl rfl)
theorem dX1_round_13 : decode cX1_round 13 = .ok (.iload_n 2, 1) := dk_28 (dk_at dksX1_round_0 13 rfl rfl)
theorem dX1_round_14 : decode cX1_round 14 = .ok (.iconst 0, 1) := dk_3 (dk_at dksX1_round_0 14 rfl rfl)
theorem dX1_round_15 : decode cX1_round 15 = .ok (.iload_n 3, 1) := dk_29 (dk_at dksX1_round_0 15 rfl rfl)
theorem dX1_round_16 : decode cX1_round 16 = .ok (.invokevirtual 132, 3) := dk_182 0 132 (dk_at dksX1_round_0 16 rfl rfl)
theorem dX1_round_19 : decode cX1_round 19 = .ok (.ifCond .ne 10, 3) := dk_154 0 10 (dk_at dksX1_round_0 19 rfl rfl)
theorem dX1_round_22 : decode cX1_round 22 = .ok (.aload_n 0, 1) := dk_42 (dk_at dksX1_round_0 22 rfl rfl)
theorem dX1_round_23 : decode cX1_round 23 = .ok (.iconst 1, 1) := dk_4 (dk_at dksX1_round_0 23 rfl rfl)
theorem dX1_round_24 : decode cX1_round 24 = .ok (.invokevirtual 84, 3) := dk_182 0 84 (dk_at dksX1_round_1 0 rfl rfl)
theorem dX1_round_27 : decode cX1_round 27 = .ok (.i2l, 1) := dk_133 (dk_at dksX1_round_1 3 rfl rfl)
theorem dX1_round_28 : decode cX1_round 28 = .ok (.lreturn, 1) := dk_173 (dk_at dksX1_round_1 4 rfl rfl)
theorem dX1_round_29 : decode cX1_round 29 = .ok (.aload_n 0, 1) := dk_42 (dk_at dksX1_round_1 5 rfl rfl)
theorem dX1_round_30 : decode cX1_round 30 = .ok (.iload_n 1, 1) := dk_27 (dk_at dksX1_round_1 6 rfl rfl)
theorem dX1_round_31 : decode cX1_round 31 = .ok (.iload_n 2, 1) := dk_28 (dk_at dksX1_round_1 7 rfl rfl)
theorem dX1_round_32 : decode cX1_round 32 = .ok (.iconst 0, 1) := dk_3 (dk_at dksX1_round_1 8 rfl rfl)
theorem dX1_round_33 : decode cX1_round 33 = .ok (.iload_n 3, 1) := dk_29 (dk_at dksX1_round_1 9 rfl rfl)
theorem dX1_round_34 : decode cX1_round 34 = .ok (.invokevirtual 213, 3) := dk_182 0 213 (dk_at dksX1_round_1 10 rfl rfl)
theorem dX1_round_37 : decode cX1_round 37 = .ok (.aload_n 0, 1) := dk_42 (dk_at dksX1_round_1 13 rfl rfl)
theorem dX1_round_38 : decode cX1_round 38 = .ok (.iload_n 1, 1) := dk_27 (dk_at dksX1_round_1 14 rfl rfl)
theorem dX1_round_39 : decode cX1_round 39 = .ok (.iload_n 2, 1) := dk_28 (dk_at dksX1_round_1 15 rfl rfl)
theorem dX1_round_40 : decode cX1_round 40 = .ok (.iconst 1, 1) := dk_4 (dk_at dksX1_round_1 16 rfl rfl)
theorem dX1_round_41 : decode cX1_round 41 = .ok (.iload_n 3, 1) := dk_29 (dk_at dksX1_round_1 17 rfl rfl)
theorem dX1_round_42 : decode cX1_round 42 = .ok (.invokevirtual 213, 3) := dk_182 0 213 (dk_at dksX1_round_1 18 rfl rfl)
theorem dX1_round_45 : decode cX1_round 45 = .ok (.ladd, 1) := dk_97 (dk_at dksX1_round_1 21 rfl rfl)
theorem dX1_round_46 : decode cX1_round 46 = .ok (.ldc2_w 164, 3) := dk_20 0 164 (dk_at dksX1_round_2 0 rfl rfl)
theorem dX1_round_49 : decode cX1_round 49 = .ok (.iload 4, 2) := dk_21 4 (dk_at dksX1_round_2 3 rfl rfl)
theorem dX1_round_51 : decode cX1_round 51 = .ok (.invokestatic 166, 3) := dk_184 0 166 (dk_at dksX1_round_2 5 rfl rfl)
theorem dX1_round_54 : decode cX1_round 54 = .ok (.lreturn, 1) := dk_173 (dk_at dksX1_round_2 8 rfl rfl)
abbrev cX1_driest : ByteArray := prog_1_method_33_code
def yX1_driest : MethodName := ⟨RX1, "driest", "(III)I"⟩
def dkwX1_driest_5 : List UInt8 := [160, 0, 12, 42, 16, 6, 182, 0, 84, 167, 0, 5, 21, 4, 172]
abbrev dktX1_driest_5 : List UInt8 := dkwX1_driest_5 ++ []
def dkwX1_driest_4 : List UInt8 := [155, 0, 6, 167, 0, 11, 21, 7, 54, 4, 22, 8, 55, 5, 132, 7, 1, 167, 255, 190, 21, 4, 2]
abbrev dktX1_driest_4 : List UInt8 := dkwX1_driest_4 ++ dktX1_driest_5
def dkwX1_driest_3 : List UInt8 := [180, 0, 148, 21, 7, 50, 180, 0, 174, 133, 105, 55, 8, 21, 4, 2, 159, 0, 14, 22, 8, 22, 5, 148]
abbrev dktX1_driest_3 : List UInt8 := dkwX1_driest_3 ++ dktX1_driest_4
def dkwX1_driest_2 : List UInt8 := [180, 0, 95, 180, 0, 126, 162, 0, 60, 42, 27, 28, 29, 21, 7, 182, 0, 213, 42, 180, 0, 95]
abbrev dktX1_driest_2 : List UInt8 := dkwX1_driest_2 ++ dktX1_driest_3
def dkwX1_driest_1 : List UInt8 := [184, 0, 80, 154, 0, 9, 42, 4, 182, 0, 84, 172, 2, 54, 4, 9, 55, 5, 3, 54, 7, 21, 7, 42]
abbrev dktX1_driest_1 : List UInt8 := dkwX1_driest_1 ++ dktX1_driest_2
def dkwX1_driest_0 : List UInt8 := [42, 182, 0, 70, 42, 27, 182, 0, 129, 153, 0, 20, 42, 28, 182, 0, 122, 153, 0, 12, 29, 3, 4]
abbrev dktX1_driest_0 : List UInt8 := dkwX1_driest_0 ++ dktX1_driest_1
theorem dksX1_driest_0 : cX1_driest.data.toList.drop 0 = dktX1_driest_0 := by decide +kernel
theorem dksX1_driest_1 : cX1_driest.data.toList.drop 23 = dktX1_driest_1 := dk_seg dksX1_driest_0 23 rfl rfl
theorem dksX1_driest_2 : cX1_driest.data.toList.drop 47 = dktX1_driest_2 := dk_seg dksX1_driest_1 24 rfl rfl
theorem dksX1_driest_3 : cX1_driest.data.toList.drop 69 = dktX1_driest_3 := dk_seg dksX1_driest_2 22 rfl rfl
theorem dksX1_driest_4 : cX1_driest.data.toList.drop 93 = dktX1_driest_4 := dk_seg dksX1_driest_3 24 rfl rfl
theorem dksX1_driest_5 : cX1_driest.data.toList.drop 116 = dktX1_driest_5 := dk_seg dksX1_driest_4 23 rfl rfl
theorem dX1_driest_0 : decode cX1_driest 0 = .ok (.aload_n 0, 1) := dk_42 (dk_at dksX1_driest_0 0 rfl rfl)
theorem dX1_driest_1 : decode cX1_driest 1 = .ok (.invokevirtual 70, 3) := dk_182 0 70 (dk_at dksX1_driest_0 1 rfl rfl)
theorem dX1_driest_4 : decode cX1_driest 4 = .ok (.aload_n 0, 1) := dk_42 (dk_at dksX1_driest_0 4 rfl rfl)
theorem dX1_driest_5 : decode cX1_driest 5 = .ok (.iload_n 1, 1) := dk_27 (dk_at dksX1_driest_0 5 rfl rfl)
theorem dX1_driest_6 : decode cX1_driest 6 = .ok (.invokevirtual 129, 3) := dk_182 0 129 (dk_at dksX1_driest_0 6 rfl rfl)
theorem dX1_driest_9 : decode cX1_driest 9 = .ok (.ifCond .eq 20, 3) := dk_153 0 20 (dk_at dksX1_driest_0 9 rfl rfl)
theorem dX1_driest_12 : decode cX1_driest 12 = .ok (.aload_n 0, 1) := dk_42 (dk_at dksX1_driest_0 12 rfl rfl)
theorem dX1_driest_13 : decode cX1_driest 13 = .ok (.iload_n 2, 1) := dk_28 (dk_at dksX1_driest_0 13 rfl rfl)
theorem dX1_driest_14 : decode cX1_driest 14 = .ok (.invokevirtual 122, 3) := dk_182 0 122 (dk_at dksX1_driest_0 14 rfl rfl)
theorem dX1_driest_17 : decode cX1_driest 17 = .ok (.ifCond .eq 12, 3) := dk_153 0 12 (dk_at dksX1_driest_0 17 rfl rfl)
theorem dX1_driest_20 : decode cX1_driest 20 = .ok (.iload_n 3, 1) := dk_29 (dk_at dksX1_driest_0 20 rfl rfl)
theorem dX1_driest_21 : decode cX1_driest 21 = .ok (.iconst 0, 1) := dk_3 (dk_at dksX1_driest_0 21 rfl rfl)
theorem dX1_driest_22 : decode cX1_driest 22 = .ok (.iconst 1, 1) := dk_4 (dk_at dksX1_driest_0 22 rfl rfl)
theorem dX1_driest_23 : decode cX1_driest 23 = .ok (.invokestatic 80, 3) := dk_184 0 80 (dk_at dksX1_driest_1 0 rfl rfl)
theorem dX1_driest_26 : decode cX1_driest 26 = .ok (.ifCond .ne 9, 3) := dk_154 0 9 (dk_at dksX1_driest_1 3 rfl rfl)
theorem dX1_driest_29 : decode cX1_driest 29 = .ok (.aload_n 0, 1) := dk_42 (dk_at dksX1_driest_1 6 rfl rfl)
theorem dX1_driest_30 : decode cX1_driest 30 = .ok (.iconst 1, 1) := dk_4 (dk_at dksX1_driest_1 7 rfl rfl)
theorem dX1_driest_31 : decode cX1_driest 31 = .ok (.invokevirtual 84, 3) := dk_182 0 84 (dk_at dksX1_driest_1 8 rfl rfl)
theorem dX1_driest_34 : decode cX1_driest 34 = .ok (.ireturn, 1) := dk_172 (dk_at dksX1_driest_1 11 rfl rfl)
theorem dX1_driest_35 : decode cX1_driest 35 = .ok (.iconst (-1), 1) := dk_2 (dk_at dksX1_driest_1 12 rfl rfl)
theorem dX1_driest_36 : decode cX1_driest 36 = .ok (.istore 4, 2) := dk_54 4 (dk_at dksX1_driest_1 13 rfl rfl)
theorem dX1_driest_38 : decode cX1_driest 38 = .ok (.lconst 0, 1) := dk_9 (dk_at dksX1_driest_1 15 rfl rfl)
theorem dX1_driest_39 : decode cX1_driest 39 = .ok (.lstore 5, 2) := dk_55 5 (dk_at dksX1_driest_1 16 rfl rfl)
theorem dX1_driest_41 : decode cX1_driest 41 = .ok (.iconst 0, 1) := dk_3 (dk_at dksX1_driest_1 18 rfl rfl)
theorem dX1_driest_42 : decode cX1_driest 42 = .ok (.istore 7, 2) := dk_54 7 (dk_at dksX1_driest_1 19 rfl rfl)
theorem dX1_driest_44 : decode cX1_driest 44 = .ok (.iload 7, 2) := dk_21 7 (dk_at dksX1_driest_1 21 rfl rfl)
theorem dX1_driest_46 : decode cX1_driest 46 = .ok (.aload_n 0, 1) := dk_42 (dk_at dksX1_driest_1 23 rfl rfl)
theorem dX1_driest_47 : decode cX1_driest 47 = .ok (.getfield 95, 3) := dk_180 0 95 (dk_at dksX1_driest_2 0 rfl rfl)
theorem dX1_driest_50 : decode cX1_driest 50 = .ok (.getfield 126, 3) := dk_180 0 126 (dk_at dksX1_driest_2 3 rfl rfl)
theorem dX1_driest_53 : decode cX1_driest 53 = .ok (.if_icmp .ge 60, 3) := dk_162 0 60 (dk_at dksX1_driest_2 6 rfl rfl)
theorem dX1_driest_56 : decode cX1_driest 56 = .ok (.aload_n 0, 1) := dk_42 (dk_at dksX1_driest_2 9 rfl rfl)
theorem dX1_driest_57 : decode cX1_driest 57 = .ok (.iload_n 1, 1) := dk_27 (dk_at dksX1_driest_2 10 rfl rfl)
theorem dX1_driest_58 : decode cX1_driest 58 = .ok (.iload_n 2, 1) := dk_28 (dk_at dksX1_driest_2 11 rfl rfl)
theorem dX1_driest_59 : decode cX1_driest 59 = .ok (.iload_n 3, 1) := dk_29 (dk_at dksX1_driest_2 12 rfl rfl)
theorem dX1_driest_60 : decode cX1_driest 60 = .ok (.iload 7, 2) := dk_21 7 (dk_at dksX1_driest_2 13 rfl rfl)
theorem dX1_driest_62 : decode cX1_driest 62 = .ok (.invokevirtual 213, 3) := dk_182 0 213 (dk_at dksX1_driest_2 15 rfl rfl)
theorem dX1_driest_65 : decode cX1_driest 65 = .ok (.aload_n 0, 1) := dk_42 (dk_at dksX1_driest_2 18 rfl rfl)
theorem dX1_driest_66 : decode cX1_driest 66 = .ok (.getfield 95, 3) := dk_180 0 95 (dk_at dksX1_driest_2 19 rfl rfl)
theorem dX1_driest_69 : decode cX1_driest 69 = .ok (.getfield 148, 3) := dk_180 0 148 (dk_at dksX1_driest_3 0 rfl rfl)
theorem dX1_driest_72 : decode cX1_driest 72 = .ok (.iload 7, 2) := dk_21 7 (dk_at dksX1_driest_3 3 rfl rfl)
theorem dX1_driest_74 : decode cX1_driest 74 = .ok (.aaload, 1) := dk_50 (dk_at dksX1_driest_3 5 rfl rfl)
theorem dX1_driest_75 : decode cX1_driest 75 = .ok (.getfield 174, 3) := dk_180 0 174 (dk_at dksX1_driest_3 6 rfl rfl)
theorem dX1_driest_78 : decode cX1_driest 78 = .ok (.i2l, 1) := dk_133 (dk_at dksX1_driest_3 9 rfl rfl)
theorem dX1_driest_79 : decode cX1_driest 79 = .ok (.lmul, 1) := dk_105 (dk_at dksX1_driest_3 10 rfl rfl)
theorem dX1_driest_80 : decode cX1_driest 80 = .ok (.lstore 8, 2) := dk_55 8 (dk_at dksX1_driest_3 11 rfl rfl)
theorem dX1_driest_82 : decode cX1_driest 82 = .ok (.iload 4, 2) := dk_21 4 (dk_at dksX1_driest_3 13 rfl rfl)
theorem dX1_driest_84 : decode cX1_driest 84 = .ok (.iconst (-1), 1) := dk_2 (dk_at dksX1_driest_3 15 rfl rfl)
theorem dX1_driest_85 : decode cX1_driest 85 = .ok (.if_icmp .eq 14, 3) := dk_159 0 14 (dk_at dksX1_driest_3 16 rfl rfl)
theorem dX1_driest_88 : decode cX1_driest 88 = .ok (.lload 8, 2) := dk_22 8 (dk_at dksX1_driest_3 19 rfl rfl)
theorem dX1_driest_90 : decode cX1_driest 90 = .ok (.lload 5, 2) := dk_22 5 (dk_at dksX1_driest_3 21 rfl rfl)
theorem dX1_driest_92 : decode cX1_driest 92 = .ok (.lcmp, 1) := dk_148 (dk_at dksX1_driest_3 23 rfl rfl)
theorem dX1_driest_93 : decode cX1_driest 93 = .ok (.ifCond .lt 6, 3) := dk_155 0 6 (dk_at dksX1_driest_4 0 rfl rfl)
theorem dX1_driest_96 : decode cX1_driest 96 = .ok (.goto 11, 3) := dk_167 0 11 (dk_at dksX1_driest_4 3 rfl rfl)
theorem dX1_driest_99 : decode cX1_driest 99 = .ok (.iload 7, 2) := dk_21 7 (dk_at dksX1_driest_4 6 rfl rfl)
theorem dX1_driest_101 : decode cX1_driest 101 = .ok (.istore 4, 2) := dk_54 4 (dk_at dksX1_driest_4 8 rfl rfl)
theorem dX1_driest_103 : decode cX1_driest 103 = .ok (.lload 8, 2) := dk_22 8 (dk_at dksX1_driest_4 10 rfl rfl)
theorem dX1_driest_105 : decode cX1_driest 105 = .ok (.lstore 5, 2) := dk_55 5 (dk_at dksX1_driest_4 12 rfl rfl)
theorem dX1_driest_107 : decode cX1_driest 107 = .ok (.iinc 7 1, 3) := dk_132 7 1 (dk_at dksX1_driest_4 14 rfl rfl)
theorem dX1_driest_110 : decode cX1_driest 110 = .ok (.goto (-66), 3) := dk_167 255 190 (dk_at dksX1_driest_4 17 rfl rfl)
theorem dX1_driest_113 : decode cX1_driest 113 = .ok (.iload 4, 2) := dk_21 4 (dk_at dksX1_driest_4 20 rfl rfl)
theorem dX1_driest_115 : decode cX1_driest 115 = .ok (.iconst (-1), 1) := dk_2 (dk_at dksX1_driest_4 22 rfl rfl)
theorem dX1_driest_116 : decode cX1_driest 116 = .ok (.if_icmp .ne 12, 3) := dk_160 0 12 (dk_at dksX1_driest_5 0 rfl rfl)
theorem dX1_driest_119 : decode cX1_driest 119 = .ok (.aload_n 0, 1) := dk_42 (dk_at dksX1_driest_5 3 rfl rfl)
theorem dX1_driest_120 : decode cX1_driest 120 = .ok (.bipush 6, 2) := dk_16 6 (dk_at dksX1_driest_5 4 rfl rfl)
theorem dX1_driest_122 : decode cX1_driest 122 = .ok (.invokevirtual 84, 3) := dk_182 0 84 (dk_at dksX1_driest_5 6 rfl rfl)
theorem dX1_driest_125 : decode cX1_driest 125 = .ok (.goto 5, 3) := dk_167 0 5 (dk_at dksX1_driest_5 9 rfl rfl)
theorem dX1_driest_128 : decode cX1_driest 128 = .ok (.iload 4, 2) := dk_21 4 (dk_at dksX1_driest_5 12 rfl rfl)
theorem dX1_driest_130 : decode cX1_driest 130 = .ok (.ireturn, 1) := dk_172 (dk_at dksX1_driest_5 14 rfl rfl)
abbrev cX1_lee : ByteArray := prog_1_method_36_code
def yX1_lee : MethodName := ⟨RX1, "lee", "(IIIIIIZ)J"⟩
def dkwX1_lee_2 : List UInt8 := [20, 0, 164, 21, 7, 184, 0, 166, 173]
abbrev dktX1_lee_2 : List UInt8 := dkwX1_lee_2 ++ []
def dkwX1_lee_1 : List UInt8 := [42, 21, 8, 182, 0, 84, 133, 167, 0, 24, 42, 27, 28, 29, 21, 4, 21, 5, 21, 6, 182, 0, 225]
abbrev dktX1_lee_1 : List UInt8 := dkwX1_lee_1 ++ dktX1_lee_2
def dkwX1_lee_0 : List UInt8 := [42, 182, 0, 70, 42, 27, 28, 29, 21, 4, 21, 5, 21, 6, 182, 0, 221, 54, 8, 21, 8, 153, 0, 13]
abbrev dktX1_lee_0 : List UInt8 := dkwX1_lee_0 ++ dktX1_lee_1
theorem dksX1_lee_0 : cX1_lee.data.toList.drop 0 = dktX1_lee_0 := by decide +kernel
theorem dksX1_lee_1 : cX1_lee.data.toList.drop 24 = dktX1_lee_1 := dk_seg dksX1_lee_0 24 rfl rfl
theorem dksX1_lee_2 : cX1_lee.data.toList.drop 47 = dktX1_lee_2 := dk_seg dksX1_lee_1 23 rfl rfl
theorem dX1_lee_0 : decode cX1_lee 0 = .ok (.aload_n 0, 1) := dk_42 (dk_at dksX1_lee_0 0 rfl rfl)
theorem dX1_lee_1 : decode cX1_lee 1 = .ok (.invokevirtual 70, 3) := dk_182 0 70 (dk_at dksX1_lee_0 1 rfl rfl)
theorem dX1_lee_4 : decode cX1_lee 4 = .ok (.aload_n 0, 1) := dk_42 (dk_at dksX1_lee_0 4 rfl rfl)
theorem dX1_lee_5 : decode cX1_lee 5 = .ok (.iload_n 1, 1) := dk_27 (dk_at dksX1_lee_0 5 rfl rfl)
theorem dX1_lee_6 : decode cX1_lee 6 = .ok (.iload_n 2, 1) := dk_28 (dk_at dksX1_lee_0 6 rfl rfl)
theorem dX1_lee_7 : decode cX1_lee 7 = .ok (.iload_n 3, 1) := dk_29 (dk_at dksX1_lee_0 7 rfl rfl)
theorem dX1_lee_8 : decode cX1_lee 8 = .ok (.iload 4, 2) := dk_21 4 (dk_at dksX1_lee_0 8 rfl rfl)
theorem dX1_lee_10 : decode cX1_lee 10 = .ok (.iload 5, 2) := dk_21 5 (dk_at dksX1_lee_0 10 rfl rfl)
theorem dX1_lee_12 : decode cX1_lee 12 = .ok (.iload 6, 2) := dk_21 6 (dk_at dksX1_lee_0 12 rfl rfl)
theorem dX1_lee_14 : decode cX1_lee 14 = .ok (.invokevirtual 221, 3) := dk_182 0 221 (dk_at dksX1_lee_0 14 rfl rfl)
theorem dX1_lee_17 : decode cX1_lee 17 = .ok (.istore 8, 2) := dk_54 8 (dk_at dksX1_lee_0 17 rfl rfl)
theorem dX1_lee_19 : decode cX1_lee 19 = .ok (.iload 8, 2) := dk_21 8 (dk_at dksX1_lee_0 19 rfl rfl)
theorem dX1_lee_21 : decode cX1_lee 21 = .ok (.ifCond .eq 13, 3) := dk_153 0 13 (dk_at dksX1_lee_0 21 rfl rfl)
theorem dX1_lee_24 : decode cX1_lee 24 = .ok (.aload_n 0, 1) := dk_42 (dk_at dksX1_lee_1 0 rfl rfl)
theorem dX1_lee_25 : decode cX1_lee 25 = .ok (.iload 8, 2) := dk_21 8 (dk_at dksX1_lee_1 1 rfl rfl)
theorem dX1_lee_27 : decode cX1_lee 27 = .ok (.invokevirtual 84, 3) := dk_182 0 84 (dk_at dksX1_lee_1 3 rfl rfl)
theorem dX1_lee_30 : decode cX1_lee 30 = .ok (.i2l, 1) := dk_133 (dk_at dksX1_lee_1 6 rfl rfl)
theorem dX1_lee_31 : decode cX1_lee 31 = .ok (.goto 24, 3) := dk_167 0 24 (dk_at dksX1_lee_1 7 rfl rfl)
theorem dX1_lee_34 : decode cX1_lee 34 = .ok (.aload_n 0, 1) := dk_42 (dk_at dksX1_lee_1 10 rfl rfl)
theorem dX1_lee_35 : decode cX1_lee 35 = .ok (.iload_n 1, 1) := dk_27 (dk_at dksX1_lee_1 11 rfl rfl)
theorem dX1_lee_36 : decode cX1_lee 36 = .ok (.iload_n 2, 1) := dk_28 (dk_at dksX1_lee_1 12 rfl rfl)
theorem dX1_lee_37 : decode cX1_lee 37 = .ok (.iload_n 3, 1) := dk_29 (dk_at dksX1_lee_1 13 rfl rfl)
theorem dX1_lee_38 : decode cX1_lee 38 = .ok (.iload 4, 2) := dk_21 4 (dk_at dksX1_lee_1 14 rfl rfl)
theorem dX1_lee_40 : decode cX1_lee 40 = .ok (.iload 5, 2) := dk_21 5 (dk_at dksX1_lee_1 16 rfl rfl)
theorem dX1_lee_42 : decode cX1_lee 42 = .ok (.iload 6, 2) := dk_21 6 (dk_at dksX1_lee_1 18 rfl rfl)
theorem dX1_lee_44 : decode cX1_lee 44 = .ok (.invokevirtual 225, 3) := dk_182 0 225 (dk_at dksX1_lee_1 20 rfl rfl)
theorem dX1_lee_47 : decode cX1_lee 47 = .ok (.ldc2_w 164, 3) := dk_20 0 164 (dk_at dksX1_lee_2 0 rfl rfl)
theorem dX1_lee_50 : decode cX1_lee 50 = .ok (.iload 7, 2) := dk_21 7 (dk_at dksX1_lee_2 3 rfl rfl)
theorem dX1_lee_52 : decode cX1_lee 52 = .ok (.invokestatic 166, 3) := dk_184 0 166 (dk_at dksX1_lee_2 5 rfl rfl)
theorem dX1_lee_55 : decode cX1_lee 55 = .ok (.lreturn, 1) := dk_173 (dk_at dksX1_lee_2 8 rfl rfl)
abbrev cX1_pairWhy : ByteArray := prog_1_method_34_code
def yX1_pairWhy : MethodName := ⟨RX1, "pairWhy", "(IIIIII)I"⟩
def dkwX1_pairWhy_3 : List UInt8 := [167, 0, 4, 5, 172]
abbrev dktX1_pairWhy_3 : List UInt8 := dkwX1_pairWhy_3 ++ []
def dkwX1_pairWhy_2 : List UInt8 := [182, 0, 139, 153, 0, 24, 42, 180, 0, 95, 180, 0, 135, 28, 50, 21, 6, 182, 0, 139, 153, 0, 7, 3]
abbrev dktX1_pairWhy_2 : List UInt8 := dkwX1_pairWhy_2 ++ dktX1_pairWhy_3
def dkwX1_pairWhy_1 : List UInt8 := [21, 4, 21, 5, 182, 0, 132, 154, 0, 5, 4, 172, 42, 180, 0, 95, 180, 0, 135, 27, 50, 21, 6]
abbrev dktX1_pairWhy_1 : List UInt8 := dkwX1_pairWhy_1 ++ dktX1_pairWhy_2
def dkwX1_pairWhy_0 : List UInt8 := [42, 27, 182, 0, 129, 153, 0, 28, 42, 28, 182, 0, 129, 153, 0, 20, 27, 28, 159, 0, 15, 42, 29]
abbrev dktX1_pairWhy_0 : List UInt8 := dkwX1_pairWhy_0 ++ dktX1_pairWhy_1
theorem dksX1_pairWhy_0 : cX1_pairWhy.data.toList.drop 0 = dktX1_pairWhy_0 := by decide +kernel
theorem dksX1_pairWhy_1 : cX1_pairWhy.data.toList.drop 23 = dktX1_pairWhy_1 := dk_seg dksX1_pairWhy_0 23 rfl rfl
theorem dksX1_pairWhy_2 : cX1_pairWhy.data.toList.drop 46 = dktX1_pairWhy_2 := dk_seg dksX1_pairWhy_1 23 rfl rfl
theorem dksX1_pairWhy_3 : cX1_pairWhy.data.toList.drop 70 = dktX1_pairWhy_3 := dk_seg dksX1_pairWhy_2 24 rfl rfl
theorem dX1_pairWhy_0 : decode cX1_pairWhy 0 = .ok (.aload_n 0, 1) := dk_42 (dk_at dksX1_pairWhy_0 0 rfl rfl)
theorem dX1_pairWhy_1 : decode cX1_pairWhy 1 = .ok (.iload_n 1, 1) := dk_27 (dk_at dksX1_pairWhy_0 1 rfl rfl)
theorem dX1_pairWhy_2 : decode cX1_pairWhy 2 = .ok (.invokevirtual 129, 3) := dk_182 0 129 (dk_at dksX1_pairWhy_0 2 rfl rfl)
theorem dX1_pairWhy_5 : decode cX1_pairWhy 5 = .ok (.ifCond .eq 28, 3) := dk_153 0 28 (dk_at dksX1_pairWhy_0 5 rfl rfl)
theorem dX1_pairWhy_8 : decode cX1_pairWhy 8 = .ok (.aload_n 0, 1) := dk_42 (dk_at dksX1_pairWhy_0 8 rfl rfl)
theorem dX1_pairWhy_9 : decode cX1_pairWhy 9 = .ok (.iload_n 2, 1) := dk_28 (dk_at dksX1_pairWhy_0 9 rfl rfl)
theorem dX1_pairWhy_10 : decode cX1_pairWhy 10 = .ok (.invokevirtual 129, 3) := dk_182 0 129 (dk_at dksX1_pairWhy_0 10 rfl rfl)
theorem dX1_pairWhy_13 : decode cX1_pairWhy 13 = .ok (.ifCond .eq 20, 3) := dk_153 0 20 (dk_at dksX1_pairWhy_0 13 rfl rfl)
theorem dX1_pairWhy_16 : decode cX1_pairWhy 16 = .ok (.iload_n 1, 1) := dk_27 (dk_at dksX1_pairWhy_0 16 rfl rfl)
theorem dX1_pairWhy_17 : decode cX1_pairWhy 17 = .ok (.iload_n 2, 1) := dk_28 (dk_at dksX1_pairWhy_0 17 rfl rfl)
theorem dX1_pairWhy_18 : decode cX1_pairWhy 18 = .ok (.if_icmp .eq 15, 3) := dk_159 0 15 (dk_at dksX1_pairWhy_0 18 rfl rfl)
theorem dX1_pairWhy_21 : decode cX1_pairWhy 21 = .ok (.aload_n 0, 1) := dk_42 (dk_at dksX1_pairWhy_0 21 rfl rfl)
theorem dX1_pairWhy_22 : decode cX1_pairWhy 22 = .ok (.iload_n 3, 1) := dk_29 (dk_at dksX1_pairWhy_0 22 rfl rfl)
theorem dX1_pairWhy_23 : decode cX1_pairWhy 23 = .ok (.iload 4, 2) := dk_21 4 (dk_at dksX1_pairWhy_1 0 rfl rfl)
theorem dX1_pairWhy_25 : decode cX1_pairWhy 25 = .ok (.iload 5, 2) := dk_21 5 (dk_at dksX1_pairWhy_1 2 rfl rfl)
theorem dX1_pairWhy_27 : decode cX1_pairWhy 27 = .ok (.invokevirtual 132, 3) := dk_182 0 132 (dk_at dksX1_pairWhy_1 4 rfl rfl)
theorem dX1_pairWhy_30 : decode cX1_pairWhy 30 = .ok (.ifCond .ne 5, 3) := dk_154 0 5 (dk_at dksX1_pairWhy_1 7 rfl rfl)
theorem dX1_pairWhy_33 : decode cX1_pairWhy 33 = .ok (.iconst 1, 1) := dk_4 (dk_at dksX1_pairWhy_1 10 rfl rfl)
theorem dX1_pairWhy_34 : decode cX1_pairWhy 34 = .ok (.ireturn, 1) := dk_172 (dk_at dksX1_pairWhy_1 11 rfl rfl)
theorem dX1_pairWhy_35 : decode cX1_pairWhy 35 = .ok (.aload_n 0, 1) := dk_42 (dk_at dksX1_pairWhy_1 12 rfl rfl)
theorem dX1_pairWhy_36 : decode cX1_pairWhy 36 = .ok (.getfield 95, 3) := dk_180 0 95 (dk_at dksX1_pairWhy_1 13 rfl rfl)
theorem dX1_pairWhy_39 : decode cX1_pairWhy 39 = .ok (.getfield 135, 3) := dk_180 0 135 (dk_at dksX1_pairWhy_1 16 rfl rfl)
theorem dX1_pairWhy_42 : decode cX1_pairWhy 42 = .ok (.iload_n 1, 1) := dk_27 (dk_at dksX1_pairWhy_1 19 rfl rfl)
theorem dX1_pairWhy_43 : decode cX1_pairWhy 43 = .ok (.aaload, 1) := dk_50 (dk_at dksX1_pairWhy_1 20 rfl rfl)
theorem dX1_pairWhy_44 : decode cX1_pairWhy 44 = .ok (.iload 6, 2) := dk_21 6 (dk_at dksX1_pairWhy_1 21 rfl rfl)
theorem dX1_pairWhy_46 : decode cX1_pairWhy 46 = .ok (.invokevirtual 139, 3) := dk_182 0 139 (dk_at dksX1_pairWhy_2 0 rfl rfl)
theorem dX1_pairWhy_49 : decode cX1_pairWhy 49 = .ok (.ifCond .eq 24, 3) := dk_153 0 24 (dk_at dksX1_pairWhy_2 3 rfl rfl)
theorem dX1_pairWhy_52 : decode cX1_pairWhy 52 = .ok (.aload_n 0, 1) := dk_42 (dk_at dksX1_pairWhy_2 6 rfl rfl)
theorem dX1_pairWhy_53 : decode cX1_pairWhy 53 = .ok (.getfield 95, 3) := dk_180 0 95 (dk_at dksX1_pairWhy_2 7 rfl rfl)
theorem dX1_pairWhy_56 : decode cX1_pairWhy 56 = .ok (.getfield 135, 3) := dk_180 0 135 (dk_at dksX1_pairWhy_2 10 rfl rfl)
theorem dX1_pairWhy_59 : decode cX1_pairWhy 59 = .ok (.iload_n 2, 1) := dk_28 (dk_at dksX1_pairWhy_2 13 rfl rfl)
theorem dX1_pairWhy_60 : decode cX1_pairWhy 60 = .ok (.aaload, 1) := dk_50 (dk_at dksX1_pairWhy_2 14 rfl rfl)
theorem dX1_pairWhy_61 : decode cX1_pairWhy 61 = .ok (.iload 6, 2) := dk_21 6 (dk_at dksX1_pairWhy_2 15 rfl rfl)
theorem dX1_pairWhy_63 : decode cX1_pairWhy 63 = .ok (.invokevirtual 139, 3) := dk_182 0 139 (dk_at dksX1_pairWhy_2 17 rfl rfl)
theorem dX1_pairWhy_66 : decode cX1_pairWhy 66 = .ok (.ifCond .eq 7, 3) := dk_153 0 7 (dk_at dksX1_pairWhy_2 20 rfl rfl)
theorem dX1_pairWhy_69 : decode cX1_pairWhy 69 = .ok (.iconst 0, 1) := dk_3 (dk_at dksX1_pairWhy_2 23 rfl rfl)
theorem dX1_pairWhy_70 : decode cX1_pairWhy 70 = .ok (.goto 4, 3) := dk_167 0 4 (dk_at dksX1_pairWhy_3 0 rfl rfl)
theorem dX1_pairWhy_73 : decode cX1_pairWhy 73 = .ok (.iconst 2, 1) := dk_5 (dk_at dksX1_pairWhy_3 3 rfl rfl)
theorem dX1_pairWhy_74 : decode cX1_pairWhy 74 = .ok (.ireturn, 1) := dk_172 (dk_at dksX1_pairWhy_3 4 rfl rfl)
abbrev cX1_together : ByteArray := prog_1_method_35_code
def yX1_together : MethodName := ⟨RX1, "together", "(IIIIII)J"⟩
def dkwX1_together_5 : List UInt8 := [42, 180, 0, 40, 182, 0, 170, 97, 173]
abbrev dktX1_together_5 : List UInt8 := dkwX1_together_5 ++ []
def dkwX1_together_4 : List UInt8 := [21, 6, 182, 0, 152, 42, 180, 0, 40, 25, 8, 25, 7, 4, 182, 0, 217, 42, 180, 0, 36, 182, 0, 170]
abbrev dktX1_together_4 : List UInt8 := dkwX1_together_4 ++ dktX1_together_5
def dkwX1_together_3 : List UInt8 := [25, 8, 42, 180, 0, 95, 180, 0, 144, 29, 50, 21, 4, 42, 180, 0, 95, 180, 0, 148, 21, 5, 50]
abbrev dktX1_together_3 : List UInt8 := dkwX1_together_3 ++ dktX1_together_4
def dkwX1_together_2 : List UInt8 := [21, 5, 50, 21, 6, 182, 0, 152, 42, 180, 0, 36, 25, 7, 25, 8, 3, 182, 0, 217, 42, 180, 0, 40]
abbrev dktX1_together_2 : List UInt8 := dkwX1_together_2 ++ dktX1_together_3
def dkwX1_together_1 : List UInt8 := [180, 0, 36, 25, 7, 42, 180, 0, 95, 180, 0, 144, 29, 50, 21, 4, 42, 180, 0, 95, 180, 0, 148]
abbrev dktX1_together_1 : List UInt8 := dkwX1_together_1 ++ dktX1_together_2
def dkwX1_together_0 : List UInt8 := [42, 180, 0, 95, 180, 0, 135, 27, 50, 58, 7, 42, 180, 0, 95, 180, 0, 135, 28, 50, 58, 8, 42]
abbrev dktX1_together_0 : List UInt8 := dkwX1_together_0 ++ dktX1_together_1
theorem dksX1_together_0 : cX1_together.data.toList.drop 0 = dktX1_together_0 := by decide +kernel
theorem dksX1_together_1 : cX1_together.data.toList.drop 23 = dktX1_together_1 := dk_seg dksX1_together_0 23 rfl rfl
theorem dksX1_together_2 : cX1_together.data.toList.drop 46 = dktX1_together_2 := dk_seg dksX1_together_1 23 rfl rfl
theorem dksX1_together_3 : cX1_together.data.toList.drop 70 = dktX1_together_3 := dk_seg dksX1_together_2 24 rfl rfl
theorem dksX1_together_4 : cX1_together.data.toList.drop 93 = dktX1_together_4 := dk_seg dksX1_together_3 23 rfl rfl
theorem dksX1_together_5 : cX1_together.data.toList.drop 117 = dktX1_together_5 := dk_seg dksX1_together_4 24 rfl rfl
theorem dX1_together_0 : decode cX1_together 0 = .ok (.aload_n 0, 1) := dk_42 (dk_at dksX1_together_0 0 rfl rfl)
theorem dX1_together_1 : decode cX1_together 1 = .ok (.getfield 95, 3) := dk_180 0 95 (dk_at dksX1_together_0 1 rfl rfl)
theorem dX1_together_4 : decode cX1_together 4 = .ok (.getfield 135, 3) := dk_180 0 135 (dk_at dksX1_together_0 4 rfl rfl)
theorem dX1_together_7 : decode cX1_together 7 = .ok (.iload_n 1, 1) := dk_27 (dk_at dksX1_together_0 7 rfl rfl)
theorem dX1_together_8 : decode cX1_together 8 = .ok (.aaload, 1) := dk_50 (dk_at dksX1_together_0 8 rfl rfl)
theorem dX1_together_9 : decode cX1_together 9 = .ok (.astore 7, 2) := dk_58 7 (dk_at dksX1_together_0 9 rfl rfl)
theorem dX1_together_11 : decode cX1_together 11 = .ok (.aload_n 0, 1) := dk_42 (dk_at dksX1_together_0 11 rfl rfl)
theorem dX1_together_12 : decode cX1_together 12 = .ok (.getfield 95, 3) := dk_180 0 95 (dk_at dksX1_together_0 12 rfl rfl)
theorem dX1_together_15 : decode cX1_together 15 = .ok (.getfield 135, 3) := dk_180 0 135 (dk_at dksX1_together_0 15 rfl rfl)
theorem dX1_together_18 : decode cX1_together 18 = .ok (.iload_n 2, 1) := dk_28 (dk_at dksX1_together_0 18 rfl rfl)
theorem dX1_together_19 : decode cX1_together 19 = .ok (.aaload, 1) := dk_50 (dk_at dksX1_together_0 19 rfl rfl)
theorem dX1_together_20 : decode cX1_together 20 = .ok (.astore 8, 2) := dk_58 8 (dk_at dksX1_together_0 20 rfl rfl)
theorem dX1_together_22 : decode cX1_together 22 = .ok (.aload_n 0, 1) := dk_42 (dk_at dksX1_together_0 22 rfl rfl)
theorem dX1_together_23 : decode cX1_together 23 = .ok (.getfield 36, 3) := dk_180 0 36 (dk_at dksX1_together_1 0 rfl rfl)
theorem dX1_together_26 : decode cX1_together 26 = .ok (.aload 7, 2) := dk_25 7 (dk_at dksX1_together_1 3 rfl rfl)
theorem dX1_together_28 : decode cX1_together 28 = .ok (.aload_n 0, 1) := dk_42 (dk_at dksX1_together_1 5 rfl rfl)
theorem dX1_together_29 : decode cX1_together 29 = .ok (.getfield 95, 3) := dk_180 0 95 (dk_at dksX1_together_1 6 rfl rfl)
theorem dX1_together_32 : decode cX1_together 32 = .ok (.getfield 144, 3) := dk_180 0 144 (dk_at dksX1_together_1 9 rfl rfl)
theorem dX1_together_35 : decode cX1_together 35 = .ok (.iload_n 3, 1) := dk_29 (dk_at dksX1_together_1 12 rfl rfl)
theorem dX1_together_36 : decode cX1_together 36 = .ok (.aaload, 1) := dk_50 (dk_at dksX1_together_1 13 rfl rfl)
theorem dX1_together_37 : decode cX1_together 37 = .ok (.iload 4, 2) := dk_21 4 (dk_at dksX1_together_1 14 rfl rfl)
theorem dX1_together_39 : decode cX1_together 39 = .ok (.aload_n 0, 1) := dk_42 (dk_at dksX1_together_1 16 rfl rfl)
theorem dX1_together_40 : decode cX1_together 40 = .ok (.getfield 95, 3) := dk_180 0 95 (dk_at dksX1_together_1 17 rfl rfl)
theorem dX1_together_43 : decode cX1_together 43 = .ok (.getfield 148, 3) := dk_180 0 148 (dk_at dksX1_together_1 20 rfl rfl)
theorem dX1_together_46 : decode cX1_together 46 = .ok (.iload 5, 2) := dk_21 5 (dk_at dksX1_together_2 0 rfl rfl)
theorem dX1_together_48 : decode cX1_together 48 = .ok (.aaload, 1) := dk_50 (dk_at dksX1_together_2 2 rfl rfl)
theorem dX1_together_49 : decode cX1_together 49 = .ok (.iload 6, 2) := dk_21 6 (dk_at dksX1_together_2 3 rfl rfl)
theorem dX1_together_51 : decode cX1_together 51 = .ok (.invokevirtual 152, 3) := dk_182 0 152 (dk_at dksX1_together_2 5 rfl rfl)
theorem dX1_together_54 : decode cX1_together 54 = .ok (.aload_n 0, 1) := dk_42 (dk_at dksX1_together_2 8 rfl rfl)
theorem dX1_together_55 : decode cX1_together 55 = .ok (.getfield 36, 3) := dk_180 0 36 (dk_at dksX1_together_2 9 rfl rfl)
theorem dX1_together_58 : decode cX1_together 58 = .ok (.aload 7, 2) := dk_25 7 (dk_at dksX1_together_2 12 rfl rfl)
theorem dX1_together_60 : decode cX1_together 60 = .ok (.aload 8, 2) := dk_25 8 (dk_at dksX1_together_2 14 rfl rfl)
theorem dX1_together_62 : decode cX1_together 62 = .ok (.iconst 0, 1) := dk_3 (dk_at dksX1_together_2 16 rfl rfl)
theorem dX1_together_63 : decode cX1_together 63 = .ok (.invokevirtual 217, 3) := dk_182 0 217 (dk_at dksX1_together_2 17 rfl rfl)
theorem dX1_together_66 : decode cX1_together 66 = .ok (.aload_n 0, 1) := dk_42 (dk_at dksX1_together_2 20 rfl rfl)
theorem dX1_together_67 : decode cX1_together 67 = .ok (.getfield 40, 3) := dk_180 0 40 (dk_at dksX1_together_2 21 rfl rfl)
theorem dX1_together_70 : decode cX1_together 70 = .ok (.aload 8, 2) := dk_25 8 (dk_at dksX1_together_3 0 rfl rfl)
theorem dX1_together_72 : decode cX1_together 72 = .ok (.aload_n 0, 1) := dk_42 (dk_at dksX1_together_3 2 rfl rfl)
theorem dX1_together_73 : decode cX1_together 73 = .ok (.getfield 95, 3) := dk_180 0 95 (dk_at dksX1_together_3 3 rfl rfl)
theorem dX1_together_76 : decode cX1_together 76 = .ok (.getfield 144, 3) := dk_180 0 144 (dk_at dksX1_together_3 6 rfl rfl)
theorem dX1_together_79 : decode cX1_together 79 = .ok (.iload_n 3, 1) := dk_29 (dk_at dksX1_together_3 9 rfl rfl)
theorem dX1_together_80 : decode cX1_together 80 = .ok (.aaload, 1) := dk_50 (dk_at dksX1_together_3 10 rfl rfl)
theorem dX1_together_81 : decode cX1_together 81 = .ok (.iload 4, 2) := dk_21 4 (dk_at dksX1_together_3 11 rfl rfl)
theorem dX1_together_83 : decode cX1_together 83 = .ok (.aload_n 0, 1) := dk_42 (dk_at dksX1_together_3 13 rfl rfl)
theorem dX1_together_84 : decode cX1_together 84 = .ok (.getfield 95, 3) := dk_180 0 95 (dk_at dksX1_together_3 14 rfl rfl)
theorem dX1_together_87 : decode cX1_together 87 = .ok (.getfield 148, 3) := dk_180 0 148 (dk_at dksX1_together_3 17 rfl rfl)
theorem dX1_together_90 : decode cX1_together 90 = .ok (.iload 5, 2) := dk_21 5 (dk_at dksX1_together_3 20 rfl rfl)
theorem dX1_together_92 : decode cX1_together 92 = .ok (.aaload, 1) := dk_50 (dk_at dksX1_together_3 22 rfl rfl)
theorem dX1_together_93 : decode cX1_together 93 = .ok (.iload 6, 2) := dk_21 6 (dk_at dksX1_together_4 0 rfl rfl)
theorem dX1_together_95 : decode cX1_together 95 = .ok (.invokevirtual 152, 3) := dk_182 0 152 (dk_at dksX1_together_4 2 rfl rfl)
theorem dX1_together_98 : decode cX1_together 98 = .ok (.aload_n 0, 1) := dk_42 (dk_at dksX1_together_4 5 rfl rfl)
theorem dX1_together_99 : decode cX1_together 99 = .ok (.getfield 40, 3) := dk_180 0 40 (dk_at dksX1_together_4 6 rfl rfl)
theorem dX1_together_102 : decode cX1_together 102 = .ok (.aload 8, 2) := dk_25 8 (dk_at dksX1_together_4 9 rfl rfl)
theorem dX1_together_104 : decode cX1_together 104 = .ok (.aload 7, 2) := dk_25 7 (dk_at dksX1_together_4 11 rfl rfl)
theorem dX1_together_106 : decode cX1_together 106 = .ok (.iconst 1, 1) := dk_4 (dk_at dksX1_together_4 13 rfl rfl)
theorem dX1_together_107 : decode cX1_together 107 = .ok (.invokevirtual 217, 3) := dk_182 0 217 (dk_at dksX1_together_4 14 rfl rfl)
theorem dX1_together_110 : decode cX1_together 110 = .ok (.aload_n 0, 1) := dk_42 (dk_at dksX1_together_4 17 rfl rfl)
theorem dX1_together_111 : decode cX1_together 111 = .ok (.getfield 36, 3) := dk_180 0 36 (dk_at dksX1_together_4 18 rfl rfl)
theorem dX1_together_114 : decode cX1_together 114 = .ok (.invokevirtual 170, 3) := dk_182 0 170 (dk_at dksX1_together_4 21 rfl rfl)
theorem dX1_together_117 : decode cX1_together 117 = .ok (.aload_n 0, 1) := dk_42 (dk_at dksX1_together_5 0 rfl rfl)
theorem dX1_together_118 : decode cX1_together 118 = .ok (.getfield 40, 3) := dk_180 0 40 (dk_at dksX1_together_5 1 rfl rfl)
theorem dX1_together_121 : decode cX1_together 121 = .ok (.invokevirtual 170, 3) := dk_182 0 170 (dk_at dksX1_together_5 4 rfl rfl)
theorem dX1_together_124 : decode cX1_together 124 = .ok (.ladd, 1) := dk_97 (dk_at dksX1_together_5 7 rfl rfl)
theorem dX1_together_125 : decode cX1_together 125 = .ok (.lreturn, 1) := dk_173 (dk_at dksX1_together_5 8 rfl rfl)
abbrev cX1_first : ByteArray := prog_1_method_37_code
def yX1_first : MethodName := ⟨RX1, "first", "(IIIIII)I"⟩
def dkwX1_first_3 : List UInt8 := [167, 0, 17, 22, 10, 22, 8, 148, 156, 0, 7, 4, 167, 0, 5, 16, 254, 172]
abbrev dktX1_first_3 : List UInt8 := dkwX1_first_3 ++ []
def dkwX1_first_2 : List UInt8 := [27, 29, 21, 4, 21, 5, 21, 6, 182, 0, 225, 55, 10, 22, 8, 22, 10, 148, 156, 0, 7, 3]
abbrev dktX1_first_2 : List UInt8 := dkwX1_first_2 ++ dktX1_first_3
def dkwX1_first_1 : List UInt8 := [42, 21, 7, 182, 0, 84, 172, 42, 27, 28, 29, 21, 4, 21, 5, 21, 6, 182, 0, 225, 55, 8, 42, 28]
abbrev dktX1_first_1 : List UInt8 := dkwX1_first_1 ++ dktX1_first_2
def dkwX1_first_0 : List UInt8 := [42, 182, 0, 70, 42, 27, 28, 29, 21, 4, 21, 5, 21, 6, 182, 0, 221, 54, 7, 21, 7, 153, 0, 10]
abbrev dktX1_first_0 : List UInt8 := dkwX1_first_0 ++ dktX1_first_1
theorem dksX1_first_0 : cX1_first.data.toList.drop 0 = dktX1_first_0 := by decide +kernel
theorem dksX1_first_1 : cX1_first.data.toList.drop 24 = dktX1_first_1 := dk_seg dksX1_first_0 24 rfl rfl
theorem dksX1_first_2 : cX1_first.data.toList.drop 48 = dktX1_first_2 := dk_seg dksX1_first_1 24 rfl rfl
theorem dksX1_first_3 : cX1_first.data.toList.drop 70 = dktX1_first_3 := dk_seg dksX1_first_2 22 rfl rfl
theorem dX1_first_0 : decode cX1_first 0 = .ok (.aload_n 0, 1) := dk_42 (dk_at dksX1_first_0 0 rfl rfl)
theorem dX1_first_1 : decode cX1_first 1 = .ok (.invokevirtual 70, 3) := dk_182 0 70 (dk_at dksX1_first_0 1 rfl rfl)
theorem dX1_first_4 : decode cX1_first 4 = .ok (.aload_n 0, 1) := dk_42 (dk_at dksX1_first_0 4 rfl rfl)
theorem dX1_first_5 : decode cX1_first 5 = .ok (.iload_n 1, 1) := dk_27 (dk_at dksX1_first_0 5 rfl rfl)
theorem dX1_first_6 : decode cX1_first 6 = .ok (.iload_n 2, 1) := dk_28 (dk_at dksX1_first_0 6 rfl rfl)
theorem dX1_first_7 : decode cX1_first 7 = .ok (.iload_n 3, 1) := dk_29 (dk_at dksX1_first_0 7 rfl rfl)
theorem dX1_first_8 : decode cX1_first 8 = .ok (.iload 4, 2) := dk_21 4 (dk_at dksX1_first_0 8 rfl rfl)
theorem dX1_first_10 : decode cX1_first 10 = .ok (.iload 5, 2) := dk_21 5 (dk_at dksX1_first_0 10 rfl rfl)
theorem dX1_first_12 : decode cX1_first 12 = .ok (.iload 6, 2) := dk_21 6 (dk_at dksX1_first_0 12 rfl rfl)
theorem dX1_first_14 : decode cX1_first 14 = .ok (.invokevirtual 221, 3) := dk_182 0 221 (dk_at dksX1_first_0 14 rfl rfl)
theorem dX1_first_17 : decode cX1_first 17 = .ok (.istore 7, 2) := dk_54 7 (dk_at dksX1_first_0 17 rfl rfl)
theorem dX1_first_19 : decode cX1_first 19 = .ok (.iload 7, 2) := dk_21 7 (dk_at dksX1_first_0 19 rfl rfl)
theorem dX1_first_21 : decode cX1_first 21 = .ok (.ifCond .eq 10, 3) := dk_153 0 10 (dk_at dksX1_first_0 21 rfl rfl)
theorem dX1_first_24 : decode cX1_first 24 = .ok (.aload_n 0, 1) := dk_42 (dk_at dksX1_first_1 0 rfl rfl)
theorem dX1_first_25 : decode cX1_first 25 = .ok (.iload 7, 2) := dk_21 7 (dk_at dksX1_first_1 1 rfl rfl)
theorem dX1_first_27 : decode cX1_first 27 = .ok (.invokevirtual 84, 3) := dk_182 0 84 (dk_at dksX1_first_1 3 rfl rfl)
theorem dX1_first_30 : decode cX1_first 30 = .ok (.ireturn, 1) := dk_172 (dk_at dksX1_first_1 6 rfl rfl)
theorem dX1_first_31 : decode cX1_first 31 = .ok (.aload_n 0, 1) := dk_42 (dk_at dksX1_first_1 7 rfl rfl)
theorem dX1_first_32 : decode cX1_first 32 = .ok (.iload_n 1, 1) := dk_27 (dk_at dksX1_first_1 8 rfl rfl)
theorem dX1_first_33 : decode cX1_first 33 = .ok (.iload_n 2, 1) := dk_28 (dk_at dksX1_first_1 9 rfl rfl)
theorem dX1_first_34 : decode cX1_first 34 = .ok (.iload_n 3, 1) := dk_29 (dk_at dksX1_first_1 10 rfl rfl)
theorem dX1_first_35 : decode cX1_first 35 = .ok (.iload 4, 2) := dk_21 4 (dk_at dksX1_first_1 11 rfl rfl)
theorem dX1_first_37 : decode cX1_first 37 = .ok (.iload 5, 2) := dk_21 5 (dk_at dksX1_first_1 13 rfl rfl)
theorem dX1_first_39 : decode cX1_first 39 = .ok (.iload 6, 2) := dk_21 6 (dk_at dksX1_first_1 15 rfl rfl)
theorem dX1_first_41 : decode cX1_first 41 = .ok (.invokevirtual 225, 3) := dk_182 0 225 (dk_at dksX1_first_1 17 rfl rfl)
theorem dX1_first_44 : decode cX1_first 44 = .ok (.lstore 8, 2) := dk_55 8 (dk_at dksX1_first_1 20 rfl rfl)
theorem dX1_first_46 : decode cX1_first 46 = .ok (.aload_n 0, 1) := dk_42 (dk_at dksX1_first_1 22 rfl rfl)
theorem dX1_first_47 : decode cX1_first 47 = .ok (.iload_n 2, 1) := dk_28 (dk_at dksX1_first_1 23 rfl rfl)
theorem dX1_first_48 : decode cX1_first 48 = .ok (.iload_n 1, 1) := dk_27 (dk_at dksX1_first_2 0 rfl rfl)
theorem dX1_first_49 : decode cX1_first 49 = .ok (.iload_n 3, 1) := dk_29 (dk_at dksX1_first_2 1 rfl rfl)
theorem dX1_first_50 : decode cX1_first 50 = .ok (.iload 4, 2) := dk_21 4 (dk_at dksX1_first_2 2 rfl rfl)
theorem dX1_first_52 : decode cX1_first 52 = .ok (.iload 5, 2) := dk_21 5 (dk_at dksX1_first_2 4 rfl rfl)
theorem dX1_first_54 : decode cX1_first 54 = .ok (.iload 6, 2) := dk_21 6 (dk_at dksX1_first_2 6 rfl rfl)
theorem dX1_first_56 : decode cX1_first 56 = .ok (.invokevirtual 225, 3) := dk_182 0 225 (dk_at dksX1_first_2 8 rfl rfl)
theorem dX1_first_59 : decode cX1_first 59 = .ok (.lstore 10, 2) := dk_55 10 (dk_at dksX1_first_2 11 rfl rfl)
theorem dX1_first_61 : decode cX1_first 61 = .ok (.lload 8, 2) := dk_22 8 (dk_at dksX1_first_2 13 rfl rfl)
theorem dX1_first_63 : decode cX1_first 63 = .ok (.lload 10, 2) := dk_22 10 (dk_at dksX1_first_2 15 rfl rfl)
theorem dX1_first_65 : decode cX1_first 65 = .ok (.lcmp, 1) := dk_148 (dk_at dksX1_first_2 17 rfl rfl)
theorem dX1_first_66 : decode cX1_first 66 = .ok (.ifCond .ge 7, 3) := dk_156 0 7 (dk_at dksX1_first_2 18 rfl rfl)
theorem dX1_first_69 : decode cX1_first 69 = .ok (.iconst 0, 1) := dk_3 (dk_at dksX1_first_2 21 rfl rfl)
theorem dX1_first_70 : decode cX1_first 70 = .ok (.goto 17, 3) := dk_167 0 17 (dk_at dksX1_first_3 0 rfl rfl)
theorem dX1_first_73 : decode cX1_first 73 = .ok (.lload 10, 2) := dk_22 10 (dk_at dksX1_first_3 3 rfl rfl)
theorem dX1_first_75 : decode cX1_first 75 = .ok (.lload 8, 2) := dk_22 8 (dk_at dksX1_first_3 5 rfl rfl)
theorem dX1_first_77 : decode cX1_first 77 = .ok (.lcmp, 1) := dk_148 (dk_at dksX1_first_3 7 rfl rfl)
theorem dX1_first_78 : decode cX1_first 78 = .ok (.ifCond .ge 7, 3) := dk_156 0 7 (dk_at dksX1_first_3 8 rfl rfl)
theorem dX1_first_81 : decode cX1_first 81 = .ok (.iconst 1, 1) := dk_4 (dk_at dksX1_first_3 11 rfl rfl)
theorem dX1_first_82 : decode cX1_first 82 = .ok (.goto 5, 3) := dk_167 0 5 (dk_at dksX1_first_3 12 rfl rfl)
theorem dX1_first_85 : decode cX1_first 85 = .ok (.bipush (-2), 2) := dk_16 254 (dk_at dksX1_first_3 15 rfl rfl)
theorem dX1_first_87 : decode cX1_first 87 = .ok (.ireturn, 1) := dk_172 (dk_at dksX1_first_3 17 rfl rfl)
abbrev cX1_least : ByteArray := prog_1_method_39_code
def yX1_least : MethodName := ⟨RX1, "least", "(IIIIIZ)J"⟩
def dkwX1_least_2 : List UInt8 := [184, 0, 166, 173]
abbrev dktX1_least_2 : List UInt8 := dkwX1_least_2 ++ []
def dkwX1_least_1 : List UInt8 := [21, 7, 182, 0, 84, 133, 167, 0, 21, 42, 180, 0, 46, 28, 21, 4, 182, 0, 242, 20, 0, 179, 21, 6]
abbrev dktX1_least_1 : List UInt8 := dkwX1_least_1 ++ dktX1_least_2
def dkwX1_least_0 : List UInt8 := [42, 182, 0, 70, 42, 27, 28, 29, 21, 4, 21, 5, 182, 0, 239, 54, 7, 21, 7, 153, 0, 13, 42]
abbrev dktX1_least_0 : List UInt8 := dkwX1_least_0 ++ dktX1_least_1
theorem dksX1_least_0 : cX1_least.data.toList.drop 0 = dktX1_least_0 := by decide +kernel
theorem dksX1_least_1 : cX1_least.data.toList.drop 23 = dktX1_least_1 := dk_seg dksX1_least_0 23 rfl rfl
theorem dksX1_least_2 : cX1_least.data.toList.drop 47 = dktX1_least_2 := dk_seg dksX1_least_1 24 rfl rfl
theorem dX1_least_0 : decode cX1_least 0 = .ok (.aload_n 0, 1) := dk_42 (dk_at dksX1_least_0 0 rfl rfl)
theorem dX1_least_1 : decode cX1_least 1 = .ok (.invokevirtual 70, 3) := dk_182 0 70 (dk_at dksX1_least_0 1 rfl rfl)
theorem dX1_least_4 : decode cX1_least 4 = .ok (.aload_n 0, 1) := dk_42 (dk_at dksX1_least_0 4 rfl rfl)
theorem dX1_least_5 : decode cX1_least 5 = .ok (.iload_n 1, 1) := dk_27 (dk_at dksX1_least_0 5 rfl rfl)
theorem dX1_least_6 : decode cX1_least 6 = .ok (.iload_n 2, 1) := dk_28 (dk_at dksX1_least_0 6 rfl rfl)
theorem dX1_least_7 : decode cX1_least 7 = .ok (.iload_n 3, 1) := dk_29 (dk_at dksX1_least_0 7 rfl rfl)
theorem dX1_least_8 : decode cX1_least 8 = .ok (.iload 4, 2) := dk_21 4 (dk_at dksX1_least_0 8 rfl rfl)
theorem dX1_least_10 : decode cX1_least 10 = .ok (.iload 5, 2) := dk_21 5 (dk_at dksX1_least_0 10 rfl rfl)
theorem dX1_least_12 : decode cX1_least 12 = .ok (.invokevirtual 239, 3) := dk_182 0 239 (dk_at dksX1_least_0 12 rfl rfl)
theorem dX1_least_15 : decode cX1_least 15 = .ok (.istore 7, 2) := dk_54 7 (dk_at dksX1_least_0 15 rfl rfl)
theorem dX1_least_17 : decode cX1_least 17 = .ok (.iload 7, 2) := dk_21 7 (dk_at dksX1_least_0 17 rfl rfl)
theorem dX1_least_19 : decode cX1_least 19 = .ok (.ifCond .eq 13, 3) := dk_153 0 13 (dk_at dksX1_least_0 19 rfl rfl)
theorem dX1_least_22 : decode cX1_least 22 = .ok (.aload_n 0, 1) := dk_42 (dk_at dksX1_least_0 22 rfl rfl)
theorem dX1_least_23 : decode cX1_least 23 = .ok (.iload 7, 2) := dk_21 7 (dk_at dksX1_least_1 0 rfl rfl)
theorem dX1_least_25 : decode cX1_least 25 = .ok (.invokevirtual 84, 3) := dk_182 0 84 (dk_at dksX1_least_1 2 rfl rfl)
theorem dX1_least_28 : decode cX1_least 28 = .ok (.i2l, 1) := dk_133 (dk_at dksX1_least_1 5 rfl rfl)
theorem dX1_least_29 : decode cX1_least 29 = .ok (.goto 21, 3) := dk_167 0 21 (dk_at dksX1_least_1 6 rfl rfl)
theorem dX1_least_32 : decode cX1_least 32 = .ok (.aload_n 0, 1) := dk_42 (dk_at dksX1_least_1 9 rfl rfl)
theorem dX1_least_33 : decode cX1_least 33 = .ok (.getfield 46, 3) := dk_180 0 46 (dk_at dksX1_least_1 10 rfl rfl)
theorem dX1_least_36 : decode cX1_least 36 = .ok (.iload_n 2, 1) := dk_28 (dk_at dksX1_least_1 13 rfl rfl)
theorem dX1_least_37 : decode cX1_least 37 = .ok (.iload 4, 2) := dk_21 4 (dk_at dksX1_least_1 14 rfl rfl)
theorem dX1_least_39 : decode cX1_least 39 = .ok (.invokevirtual 242, 3) := dk_182 0 242 (dk_at dksX1_least_1 16 rfl rfl)
theorem dX1_least_42 : decode cX1_least 42 = .ok (.ldc2_w 179, 3) := dk_20 0 179 (dk_at dksX1_least_1 19 rfl rfl)
theorem dX1_least_45 : decode cX1_least 45 = .ok (.iload 6, 2) := dk_21 6 (dk_at dksX1_least_1 22 rfl rfl)
theorem dX1_least_47 : decode cX1_least 47 = .ok (.invokestatic 166, 3) := dk_184 0 166 (dk_at dksX1_least_2 0 rfl rfl)
theorem dX1_least_50 : decode cX1_least 50 = .ok (.lreturn, 1) := dk_173 (dk_at dksX1_least_2 3 rfl rfl)
abbrev cX1_wayWhy : ByteArray := prog_1_method_38_code
def yX1_wayWhy : MethodName := ⟨RX1, "wayWhy", "(IIIII)I"⟩
def dkwX1_wayWhy_4 : List UInt8 := [172]
abbrev dktX1_wayWhy_4 : List UInt8 := dkwX1_wayWhy_4 ++ []
def dkwX1_wayWhy_3 : List UInt8 := [21, 5, 182, 0, 232, 42, 180, 0, 46, 28, 21, 4, 182, 0, 235, 153, 0, 7, 3, 167, 0, 5, 16, 6]
abbrev dktX1_wayWhy_3 : List UInt8 := dkwX1_wayWhy_3 ++ dktX1_wayWhy_4
def dkwX1_wayWhy_2 : List UInt8 := [154, 0, 5, 5, 172, 42, 180, 0, 46, 42, 180, 0, 95, 42, 180, 0, 95, 180, 0, 135, 27, 50, 29]
abbrev dktX1_wayWhy_2 : List UInt8 := dkwX1_wayWhy_2 ++ dktX1_wayWhy_3
def dkwX1_wayWhy_1 : List UInt8 := [4, 172, 21, 5, 3, 17, 1, 144, 184, 0, 80, 153, 0, 14, 21, 4, 3, 21, 5, 184, 0, 80]
abbrev dktX1_wayWhy_1 : List UInt8 := dkwX1_wayWhy_1 ++ dktX1_wayWhy_2
def dkwX1_wayWhy_0 : List UInt8 := [42, 27, 182, 0, 129, 153, 0, 19, 42, 28, 182, 0, 229, 153, 0, 11, 42, 29, 182, 0, 229, 154, 0, 5]
abbrev dktX1_wayWhy_0 : List UInt8 := dkwX1_wayWhy_0 ++ dktX1_wayWhy_1
theorem dksX1_wayWhy_0 : cX1_wayWhy.data.toList.drop 0 = dktX1_wayWhy_0 := by decide +kernel
theorem dksX1_wayWhy_1 : cX1_wayWhy.data.toList.drop 24 = dktX1_wayWhy_1 := dk_seg dksX1_wayWhy_0 24 rfl rfl
theorem dksX1_wayWhy_2 : cX1_wayWhy.data.toList.drop 46 = dktX1_wayWhy_2 := dk_seg dksX1_wayWhy_1 22 rfl rfl
theorem dksX1_wayWhy_3 : cX1_wayWhy.data.toList.drop 69 = dktX1_wayWhy_3 := dk_seg dksX1_wayWhy_2 23 rfl rfl
theorem dksX1_wayWhy_4 : cX1_wayWhy.data.toList.drop 93 = dktX1_wayWhy_4 := dk_seg dksX1_wayWhy_3 24 rfl rfl
theorem dX1_wayWhy_0 : decode cX1_wayWhy 0 = .ok (.aload_n 0, 1) := dk_42 (dk_at dksX1_wayWhy_0 0 rfl rfl)
theorem dX1_wayWhy_1 : decode cX1_wayWhy 1 = .ok (.iload_n 1, 1) := dk_27 (dk_at dksX1_wayWhy_0 1 rfl rfl)
theorem dX1_wayWhy_2 : decode cX1_wayWhy 2 = .ok (.invokevirtual 129, 3) := dk_182 0 129 (dk_at dksX1_wayWhy_0 2 rfl rfl)
theorem dX1_wayWhy_5 : decode cX1_wayWhy 5 = .ok (.ifCond .eq 19, 3) := dk_153 0 19 (dk_at dksX1_wayWhy_0 5 rfl rfl)
theorem dX1_wayWhy_8 : decode cX1_wayWhy 8 = .ok (.aload_n 0, 1) := dk_42 (dk_at dksX1_wayWhy_0 8 rfl rfl)
theorem dX1_wayWhy_9 : decode cX1_wayWhy 9 = .ok (.iload_n 2, 1) := dk_28 (dk_at dksX1_wayWhy_0 9 rfl rfl)
theorem dX1_wayWhy_10 : decode cX1_wayWhy 10 = .ok (.invokevirtual 229, 3) := dk_182 0 229 (dk_at dksX1_wayWhy_0 10 rfl rfl)
theorem dX1_wayWhy_13 : decode cX1_wayWhy 13 = .ok (.ifCond .eq 11, 3) := dk_153 0 11 (dk_at dksX1_wayWhy_0 13 rfl rfl)
theorem dX1_wayWhy_16 : decode cX1_wayWhy 16 = .ok (.aload_n 0, 1) := dk_42 (dk_at dksX1_wayWhy_0 16 rfl rfl)
theorem dX1_wayWhy_17 : decode cX1_wayWhy 17 = .ok (.iload_n 3, 1) := dk_29 (dk_at dksX1_wayWhy_0 17 rfl rfl)
theorem dX1_wayWhy_18 : decode cX1_wayWhy 18 = .ok (.invokevirtual 229, 3) := dk_182 0 229 (dk_at dksX1_wayWhy_0 18 rfl rfl)
theorem dX1_wayWhy_21 : decode cX1_wayWhy 21 = .ok (.ifCond .ne 5, 3) := dk_154 0 5 (dk_at dksX1_wayWhy_0 21 rfl rfl)
theorem dX1_wayWhy_24 : decode cX1_wayWhy 24 = .ok (.iconst 1, 1) := dk_4 (dk_at dksX1_wayWhy_1 0 rfl rfl)
theorem dX1_wayWhy_25 : decode cX1_wayWhy 25 = .ok (.ireturn, 1) := dk_172 (dk_at dksX1_wayWhy_1 1 rfl rfl)
theorem dX1_wayWhy_26 : decode cX1_wayWhy 26 = .ok (.iload 5, 2) := dk_21 5 (dk_at dksX1_wayWhy_1 2 rfl rfl)
theorem dX1_wayWhy_28 : decode cX1_wayWhy 28 = .ok (.iconst 0, 1) := dk_3 (dk_at dksX1_wayWhy_1 4 rfl rfl)
theorem dX1_wayWhy_29 : decode cX1_wayWhy 29 = .ok (.sipush 400, 3) := dk_17 1 144 (dk_at dksX1_wayWhy_1 5 rfl rfl)
theorem dX1_wayWhy_32 : decode cX1_wayWhy 32 = .ok (.invokestatic 80, 3) := dk_184 0 80 (dk_at dksX1_wayWhy_1 8 rfl rfl)
theorem dX1_wayWhy_35 : decode cX1_wayWhy 35 = .ok (.ifCond .eq 14, 3) := dk_153 0 14 (dk_at dksX1_wayWhy_1 11 rfl rfl)
theorem dX1_wayWhy_38 : decode cX1_wayWhy 38 = .ok (.iload 4, 2) := dk_21 4 (dk_at dksX1_wayWhy_1 14 rfl rfl)
theorem dX1_wayWhy_40 : decode cX1_wayWhy 40 = .ok (.iconst 0, 1) := dk_3 (dk_at dksX1_wayWhy_1 16 rfl rfl)
theorem dX1_wayWhy_41 : decode cX1_wayWhy 41 = .ok (.iload 5, 2) := dk_21 5 (dk_at dksX1_wayWhy_1 17 rfl rfl)
theorem dX1_wayWhy_43 : decode cX1_wayWhy 43 = .ok (.invokestatic 80, 3) := dk_184 0 80 (dk_at dksX1_wayWhy_1 19 rfl rfl)
theorem dX1_wayWhy_46 : decode cX1_wayWhy 46 = .ok (.ifCond .ne 5, 3) := dk_154 0 5 (dk_at dksX1_wayWhy_2 0 rfl rfl)
theorem dX1_wayWhy_49 : decode cX1_wayWhy 49 = .ok (.iconst 2, 1) := dk_5 (dk_at dksX1_wayWhy_2 3 rfl rfl)
theorem dX1_wayWhy_50 : decode cX1_wayWhy 50 = .ok (.ireturn, 1) := dk_172 (dk_at dksX1_wayWhy_2 4 rfl rfl)
theorem dX1_wayWhy_51 : decode cX1_wayWhy 51 = .ok (.aload_n 0, 1) := dk_42 (dk_at dksX1_wayWhy_2 5 rfl rfl)
theorem dX1_wayWhy_52 : decode cX1_wayWhy 52 = .ok (.getfield 46, 3) := dk_180 0 46 (dk_at dksX1_wayWhy_2 6 rfl rfl)
theorem dX1_wayWhy_55 : decode cX1_wayWhy 55 = .ok (.aload_n 0, 1) := dk_42 (dk_at dksX1_wayWhy_2 9 rfl rfl)
theorem dX1_wayWhy_56 : decode cX1_wayWhy 56 = .ok (.getfield 95, 3) := dk_180 0 95 (dk_at dksX1_wayWhy_2 10 rfl rfl)
theorem dX1_wayWhy_59 : decode cX1_wayWhy 59 = .ok (.aload_n 0, 1) := dk_42 (dk_at dksX1_wayWhy_2 13 rfl rfl)
theorem dX1_wayWhy_60 : decode cX1_wayWhy 60 = .ok (.getfield 95, 3) := dk_180 0 95 (dk_at dksX1_wayWhy_2 14 rfl rfl)
theorem dX1_wayWhy_63 : decode cX1_wayWhy 63 = .ok (.getfield 135, 3) := dk_180 0 135 (dk_at dksX1_wayWhy_2 17 rfl rfl)
theorem dX1_wayWhy_66 : decode cX1_wayWhy 66 = .ok (.iload_n 1, 1) := dk_27 (dk_at dksX1_wayWhy_2 20 rfl rfl)
theorem dX1_wayWhy_67 : decode cX1_wayWhy 67 = .ok (.aaload, 1) := dk_50 (dk_at dksX1_wayWhy_2 21 rfl rfl)
theorem dX1_wayWhy_68 : decode cX1_wayWhy 68 = .ok (.iload_n 3, 1) := dk_29 (dk_at dksX1_wayWhy_2 22 rfl rfl)
theorem dX1_wayWhy_69 : decode cX1_wayWhy 69 = .ok (.iload 5, 2) := dk_21 5 (dk_at dksX1_wayWhy_3 0 rfl rfl)
theorem dX1_wayWhy_71 : decode cX1_wayWhy 71 = .ok (.invokevirtual 232, 3) := dk_182 0 232 (dk_at dksX1_wayWhy_3 2 rfl rfl)
theorem dX1_wayWhy_74 : decode cX1_wayWhy 74 = .ok (.aload_n 0, 1) := dk_42 (dk_at dksX1_wayWhy_3 5 rfl rfl)
theorem dX1_wayWhy_75 : decode cX1_wayWhy 75 = .ok (.getfield 46, 3) := dk_180 0 46 (dk_at dksX1_wayWhy_3 6 rfl rfl)
theorem dX1_wayWhy_78 : decode cX1_wayWhy 78 = .ok (.iload_n 2, 1) := dk_28 (dk_at dksX1_wayWhy_3 9 rfl rfl)
theorem dX1_wayWhy_79 : decode cX1_wayWhy 79 = .ok (.iload 4, 2) := dk_21 4 (dk_at dksX1_wayWhy_3 10 rfl rfl)
theorem dX1_wayWhy_81 : decode cX1_wayWhy 81 = .ok (.invokevirtual 235, 3) := dk_182 0 235 (dk_at dksX1_wayWhy_3 12 rfl rfl)
theorem dX1_wayWhy_84 : decode cX1_wayWhy 84 = .ok (.ifCond .eq 7, 3) := dk_153 0 7 (dk_at dksX1_wayWhy_3 15 rfl rfl)
theorem dX1_wayWhy_87 : decode cX1_wayWhy 87 = .ok (.iconst 0, 1) := dk_3 (dk_at dksX1_wayWhy_3 18 rfl rfl)
theorem dX1_wayWhy_88 : decode cX1_wayWhy 88 = .ok (.goto 5, 3) := dk_167 0 5 (dk_at dksX1_wayWhy_3 19 rfl rfl)
theorem dX1_wayWhy_91 : decode cX1_wayWhy 91 = .ok (.bipush 6, 2) := dk_16 6 (dk_at dksX1_wayWhy_3 22 rfl rfl)
theorem dX1_wayWhy_93 : decode cX1_wayWhy 93 = .ok (.ireturn, 1) := dk_172 (dk_at dksX1_wayWhy_4 0 rfl rfl)
abbrev cX1_isPlace : ByteArray := prog_1_method_16_code
def yX1_isPlace : MethodName := ⟨RX1, "isPlace", "(I)Z"⟩
def dkwX1_isPlace_1 : List UInt8 := [4, 167, 0, 4, 3, 172]
abbrev dktX1_isPlace_1 : List UInt8 := dkwX1_isPlace_1 ++ []
def dkwX1_isPlace_0 : List UInt8 := [42, 180, 0, 95, 198, 0, 24, 27, 3, 42, 180, 0, 95, 180, 0, 119, 4, 100, 184, 0, 80, 153, 0, 7]
abbrev dktX1_isPlace_0 : List UInt8 := dkwX1_isPlace_0 ++ dktX1_isPlace_1
theorem dksX1_isPlace_0 : cX1_isPlace.data.toList.drop 0 = dktX1_isPlace_0 := by decide +kernel
theorem dksX1_isPlace_1 : cX1_isPlace.data.toList.drop 24 = dktX1_isPlace_1 := dk_seg dksX1_isPlace_0 24 rfl rfl
theorem dX1_isPlace_0 : decode cX1_isPlace 0 = .ok (.aload_n 0, 1) := dk_42 (dk_at dksX1_isPlace_0 0 rfl rfl)
theorem dX1_isPlace_1 : decode cX1_isPlace 1 = .ok (.getfield 95, 3) := dk_180 0 95 (dk_at dksX1_isPlace_0 1 rfl rfl)
theorem dX1_isPlace_4 : decode cX1_isPlace 4 = .ok (.ifnull 24, 3) := dk_198 0 24 (dk_at dksX1_isPlace_0 4 rfl rfl)
theorem dX1_isPlace_7 : decode cX1_isPlace 7 = .ok (.iload_n 1, 1) := dk_27 (dk_at dksX1_isPlace_0 7 rfl rfl)
theorem dX1_isPlace_8 : decode cX1_isPlace 8 = .ok (.iconst 0, 1) := dk_3 (dk_at dksX1_isPlace_0 8 rfl rfl)
theorem dX1_isPlace_9 : decode cX1_isPlace 9 = .ok (.aload_n 0, 1) := dk_42 (dk_at dksX1_isPlace_0 9 rfl rfl)
theorem dX1_isPlace_10 : decode cX1_isPlace 10 = .ok (.getfield 95, 3) := dk_180 0 95 (dk_at dksX1_isPlace_0 10 rfl rfl)
theorem dX1_isPlace_13 : decode cX1_isPlace 13 = .ok (.getfield 119, 3) := dk_180 0 119 (dk_at dksX1_isPlace_0 13 rfl rfl)
theorem dX1_isPlace_16 : decode cX1_isPlace 16 = .ok (.iconst 1, 1) := dk_4 (dk_at dksX1_isPlace_0 16 rfl rfl)
theorem dX1_isPlace_17 : decode cX1_isPlace 17 = .ok (.isub, 1) := dk_100 (dk_at dksX1_isPlace_0 17 rfl rfl)
theorem dX1_isPlace_18 : decode cX1_isPlace 18 = .ok (.invokestatic 80, 3) := dk_184 0 80 (dk_at dksX1_isPlace_0 18 rfl rfl)
theorem dX1_isPlace_21 : decode cX1_isPlace 21 = .ok (.ifCond .eq 7, 3) := dk_153 0 7 (dk_at dksX1_isPlace_0 21 rfl rfl)
theorem dX1_isPlace_24 : decode cX1_isPlace 24 = .ok (.iconst 1, 1) := dk_4 (dk_at dksX1_isPlace_1 0 rfl rfl)
theorem dX1_isPlace_25 : decode cX1_isPlace 25 = .ok (.goto 4, 3) := dk_167 0 4 (dk_at dksX1_isPlace_1 1 rfl rfl)
theorem dX1_isPlace_28 : decode cX1_isPlace 28 = .ok (.iconst 0, 1) := dk_3 (dk_at dksX1_isPlace_1 4 rfl rfl)
theorem dX1_isPlace_29 : decode cX1_isPlace 29 = .ok (.ireturn, 1) := dk_172 (dk_at dksX1_isPlace_1 5 rfl rfl)
abbrev cX1_there : ByteArray := prog_1_method_40_code
def yX1_there : MethodName := ⟨RX1, "there", "(IIIII)I"⟩
def dkwX1_there_1 : List UInt8 := [21, 6, 182, 0, 84, 167, 0, 13, 42, 180, 0, 46, 28, 21, 4, 182, 0, 246, 172]
abbrev dktX1_there_1 : List UInt8 := dkwX1_there_1 ++ []
def dkwX1_there_0 : List UInt8 := [42, 182, 0, 70, 42, 27, 28, 29, 21, 4, 21, 5, 182, 0, 239, 54, 6, 21, 6, 153, 0, 12, 42]
abbrev dktX1_there_0 : List UInt8 := dkwX1_there_0 ++ dktX1_there_1
theorem dksX1_there_0 : cX1_there.data.toList.drop 0 = dktX1_there_0 := by decide +kernel
theorem dksX1_there_1 : cX1_there.data.toList.drop 23 = dktX1_there_1 := dk_seg dksX1_there_0 23 rfl rfl
theorem dX1_there_0 : decode cX1_there 0 = .ok (.aload_n 0, 1) := dk_42 (dk_at dksX1_there_0 0 rfl rfl)
theorem dX1_there_1 : decode cX1_there 1 = .ok (.invokevirtual 70, 3) := dk_182 0 70 (dk_at dksX1_there_0 1 rfl rfl)
theorem dX1_there_4 : decode cX1_there 4 = .ok (.aload_n 0, 1) := dk_42 (dk_at dksX1_there_0 4 rfl rfl)
theorem dX1_there_5 : decode cX1_there 5 = .ok (.iload_n 1, 1) := dk_27 (dk_at dksX1_there_0 5 rfl rfl)
theorem dX1_there_6 : decode cX1_there 6 = .ok (.iload_n 2, 1) := dk_28 (dk_at dksX1_there_0 6 rfl rfl)
theorem dX1_there_7 : decode cX1_there 7 = .ok (.iload_n 3, 1) := dk_29 (dk_at dksX1_there_0 7 rfl rfl)
theorem dX1_there_8 : decode cX1_there 8 = .ok (.iload 4, 2) := dk_21 4 (dk_at dksX1_there_0 8 rfl rfl)
theorem dX1_there_10 : decode cX1_there 10 = .ok (.iload 5, 2) := dk_21 5 (dk_at dksX1_there_0 10 rfl rfl)
theorem dX1_there_12 : decode cX1_there 12 = .ok (.invokevirtual 239, 3) := dk_182 0 239 (dk_at dksX1_there_0 12 rfl rfl)
theorem dX1_there_15 : decode cX1_there 15 = .ok (.istore 6, 2) := dk_54 6 (dk_at dksX1_there_0 15 rfl rfl)
theorem dX1_there_17 : decode cX1_there 17 = .ok (.iload 6, 2) := dk_21 6 (dk_at dksX1_there_0 17 rfl rfl)
theorem dX1_there_19 : decode cX1_there 19 = .ok (.ifCond .eq 12, 3) := dk_153 0 12 (dk_at dksX1_there_0 19 rfl rfl)
theorem dX1_there_22 : decode cX1_there 22 = .ok (.aload_n 0, 1) := dk_42 (dk_at dksX1_there_0 22 rfl rfl)
theorem dX1_there_23 : decode cX1_there 23 = .ok (.iload 6, 2) := dk_21 6 (dk_at dksX1_there_1 0 rfl rfl)
theorem dX1_there_25 : decode cX1_there 25 = .ok (.invokevirtual 84, 3) := dk_182 0 84 (dk_at dksX1_there_1 2 rfl rfl)
theorem dX1_there_28 : decode cX1_there 28 = .ok (.goto 13, 3) := dk_167 0 13 (dk_at dksX1_there_1 5 rfl rfl)
theorem dX1_there_31 : decode cX1_there 31 = .ok (.aload_n 0, 1) := dk_42 (dk_at dksX1_there_1 8 rfl rfl)
theorem dX1_there_32 : decode cX1_there 32 = .ok (.getfield 46, 3) := dk_180 0 46 (dk_at dksX1_there_1 9 rfl rfl)
theorem dX1_there_35 : decode cX1_there 35 = .ok (.iload_n 2, 1) := dk_28 (dk_at dksX1_there_1 12 rfl rfl)
theorem dX1_there_36 : decode cX1_there 36 = .ok (.iload 4, 2) := dk_21 4 (dk_at dksX1_there_1 13 rfl rfl)
theorem dX1_there_38 : decode cX1_there 38 = .ok (.invokevirtual 246, 3) := dk_182 0 246 (dk_at dksX1_there_1 15 rfl rfl)
theorem dX1_there_41 : decode cX1_there 41 = .ok (.ireturn, 1) := dk_172 (dk_at dksX1_there_1 18 rfl rfl)
abbrev cX1_steps : ByteArray := prog_1_method_41_code
def yX1_steps : MethodName := ⟨RX1, "steps", "(IIIII)I"⟩
def dkwX1_steps_1 : List UInt8 := [21, 6, 182, 0, 84, 167, 0, 14, 42, 180, 0, 46, 28, 21, 4, 29, 182, 0, 250, 172]
abbrev dktX1_steps_1 : List UInt8 := dkwX1_steps_1 ++ []
def dkwX1_steps_0 : List UInt8 := [42, 182, 0, 70, 42, 27, 28, 29, 21, 4, 21, 5, 182, 0, 239, 54, 6, 21, 6, 153, 0, 12, 42]
abbrev dktX1_steps_0 : List UInt8 := dkwX1_steps_0 ++ dktX1_steps_1
theorem dksX1_steps_0 : cX1_steps.data.toList.drop 0 = dktX1_steps_0 := by decide +kernel
theorem dksX1_steps_1 : cX1_steps.data.toList.drop 23 = dktX1_steps_1 := dk_seg dksX1_steps_0 23 rfl rfl
theorem dX1_steps_0 : decode cX1_steps 0 = .ok (.aload_n 0, 1) := dk_42 (dk_at dksX1_steps_0 0 rfl rfl)
theorem dX1_steps_1 : decode cX1_steps 1 = .ok (.invokevirtual 70, 3) := dk_182 0 70 (dk_at dksX1_steps_0 1 rfl rfl)
theorem dX1_steps_4 : decode cX1_steps 4 = .ok (.aload_n 0, 1) := dk_42 (dk_at dksX1_steps_0 4 rfl rfl)
theorem dX1_steps_5 : decode cX1_steps 5 = .ok (.iload_n 1, 1) := dk_27 (dk_at dksX1_steps_0 5 rfl rfl)
theorem dX1_steps_6 : decode cX1_steps 6 = .ok (.iload_n 2, 1) := dk_28 (dk_at dksX1_steps_0 6 rfl rfl)
theorem dX1_steps_7 : decode cX1_steps 7 = .ok (.iload_n 3, 1) := dk_29 (dk_at dksX1_steps_0 7 rfl rfl)
theorem dX1_steps_8 : decode cX1_steps 8 = .ok (.iload 4, 2) := dk_21 4 (dk_at dksX1_steps_0 8 rfl rfl)
theorem dX1_steps_10 : decode cX1_steps 10 = .ok (.iload 5, 2) := dk_21 5 (dk_at dksX1_steps_0 10 rfl rfl)
theorem dX1_steps_12 : decode cX1_steps 12 = .ok (.invokevirtual 239, 3) := dk_182 0 239 (dk_at dksX1_steps_0 12 rfl rfl)
theorem dX1_steps_15 : decode cX1_steps 15 = .ok (.istore 6, 2) := dk_54 6 (dk_at dksX1_steps_0 15 rfl rfl)
theorem dX1_steps_17 : decode cX1_steps 17 = .ok (.iload 6, 2) := dk_21 6 (dk_at dksX1_steps_0 17 rfl rfl)
theorem dX1_steps_19 : decode cX1_steps 19 = .ok (.ifCond .eq 12, 3) := dk_153 0 12 (dk_at dksX1_steps_0 19 rfl rfl)
theorem dX1_steps_22 : decode cX1_steps 22 = .ok (.aload_n 0, 1) := dk_42 (dk_at dksX1_steps_0 22 rfl rfl)
theorem dX1_steps_23 : decode cX1_steps 23 = .ok (.iload 6, 2) := dk_21 6 (dk_at dksX1_steps_1 0 rfl rfl)
theorem dX1_steps_25 : decode cX1_steps 25 = .ok (.invokevirtual 84, 3) := dk_182 0 84 (dk_at dksX1_steps_1 2 rfl rfl)
theorem dX1_steps_28 : decode cX1_steps 28 = .ok (.goto 14, 3) := dk_167 0 14 (dk_at dksX1_steps_1 5 rfl rfl)
theorem dX1_steps_31 : decode cX1_steps 31 = .ok (.aload_n 0, 1) := dk_42 (dk_at dksX1_steps_1 8 rfl rfl)
theorem dX1_steps_32 : decode cX1_steps 32 = .ok (.getfield 46, 3) := dk_180 0 46 (dk_at dksX1_steps_1 9 rfl rfl)
theorem dX1_steps_35 : decode cX1_steps 35 = .ok (.iload_n 2, 1) := dk_28 (dk_at dksX1_steps_1 12 rfl rfl)
theorem dX1_steps_36 : decode cX1_steps 36 = .ok (.iload 4, 2) := dk_21 4 (dk_at dksX1_steps_1 13 rfl rfl)
theorem dX1_steps_38 : decode cX1_steps 38 = .ok (.iload_n 3, 1) := dk_29 (dk_at dksX1_steps_1 15 rfl rfl)
theorem dX1_steps_39 : decode cX1_steps 39 = .ok (.invokevirtual 250, 3) := dk_182 0 250 (dk_at dksX1_steps_1 16 rfl rfl)
theorem dX1_steps_42 : decode cX1_steps 42 = .ok (.ireturn, 1) := dk_172 (dk_at dksX1_steps_1 19 rfl rfl)
abbrev cX1_step : ByteArray := prog_1_method_42_code
def yX1_step : MethodName := ⟨RX1, "step", "(IIIIII)I"⟩
def dkwX1_step_3 : List UInt8 := [182, 0, 84, 172]
abbrev dktX1_step_3 : List UInt8 := dkwX1_step_3 ++ []
def dkwX1_step_2 : List UInt8 := [184, 0, 80, 153, 0, 18, 42, 180, 0, 46, 28, 21, 4, 21, 6, 182, 0, 254, 167, 0, 8, 42, 4]
abbrev dktX1_step_2 : List UInt8 := dkwX1_step_2 ++ dktX1_step_3
def dkwX1_step_1 : List UInt8 := [21, 7, 182, 0, 84, 172, 21, 6, 3, 42, 180, 0, 46, 28, 21, 4, 29, 182, 0, 250, 4, 100]
abbrev dktX1_step_1 : List UInt8 := dkwX1_step_1 ++ dktX1_step_2
def dkwX1_step_0 : List UInt8 := [42, 182, 0, 70, 42, 27, 28, 29, 21, 4, 21, 5, 182, 0, 239, 54, 7, 21, 7, 153, 0, 10, 42]
abbrev dktX1_step_0 : List UInt8 := dkwX1_step_0 ++ dktX1_step_1
theorem dksX1_step_0 : cX1_step.data.toList.drop 0 = dktX1_step_0 := by decide +kernel
theorem dksX1_step_1 : cX1_step.data.toList.drop 23 = dktX1_step_1 := dk_seg dksX1_step_0 23 rfl rfl
theorem dksX1_step_2 : cX1_step.data.toList.drop 45 = dktX1_step_2 := dk_seg dksX1_step_1 22 rfl rfl
theorem dksX1_step_3 : cX1_step.data.toList.drop 68 = dktX1_step_3 := dk_seg dksX1_step_2 23 rfl rfl
theorem dX1_step_0 : decode cX1_step 0 = .ok (.aload_n 0, 1) := dk_42 (dk_at dksX1_step_0 0 rfl rfl)
theorem dX1_step_1 : decode cX1_step 1 = .ok (.invokevirtual 70, 3) := dk_182 0 70 (dk_at dksX1_step_0 1 rfl rfl)
theorem dX1_step_4 : decode cX1_step 4 = .ok (.aload_n 0, 1) := dk_42 (dk_at dksX1_step_0 4 rfl rfl)
theorem dX1_step_5 : decode cX1_step 5 = .ok (.iload_n 1, 1) := dk_27 (dk_at dksX1_step_0 5 rfl rfl)
theorem dX1_step_6 : decode cX1_step 6 = .ok (.iload_n 2, 1) := dk_28 (dk_at dksX1_step_0 6 rfl rfl)
theorem dX1_step_7 : decode cX1_step 7 = .ok (.iload_n 3, 1) := dk_29 (dk_at dksX1_step_0 7 rfl rfl)
theorem dX1_step_8 : decode cX1_step 8 = .ok (.iload 4, 2) := dk_21 4 (dk_at dksX1_step_0 8 rfl rfl)
theorem dX1_step_10 : decode cX1_step 10 = .ok (.iload 5, 2) := dk_21 5 (dk_at dksX1_step_0 10 rfl rfl)
theorem dX1_step_12 : decode cX1_step 12 = .ok (.invokevirtual 239, 3) := dk_182 0 239 (dk_at dksX1_step_0 12 rfl rfl)
theorem dX1_step_15 : decode cX1_step 15 = .ok (.istore 7, 2) := dk_54 7 (dk_at dksX1_step_0 15 rfl rfl)
theorem dX1_step_17 : decode cX1_step 17 = .ok (.iload 7, 2) := dk_21 7 (dk_at dksX1_step_0 17 rfl rfl)
theorem dX1_step_19 : decode cX1_step 19 = .ok (.ifCond .eq 10, 3) := dk_153 0 10 (dk_at dksX1_step_0 19 rfl rfl)
theorem dX1_step_22 : decode cX1_step 22 = .ok (.aload_n 0, 1) := dk_42 (dk_at dksX1_step_0 22 rfl rfl)
theorem dX1_step_23 : decode cX1_step 23 = .ok (.iload 7, 2) := dk_21 7 (dk_at dksX1_step_1 0 rfl rfl)
theorem dX1_step_25 : decode cX1_step 25 = .ok (.invokevirtual 84, 3) := dk_182 0 84 (dk_at dksX1_step_1 2 rfl rfl)
theorem dX1_step_28 : decode cX1_step 28 = .ok (.ireturn, 1) := dk_172 (dk_at dksX1_step_1 5 rfl rfl)
theorem dX1_step_29 : decode cX1_step 29 = .ok (.iload 6, 2) := dk_21 6 (dk_at dksX1_step_1 6 rfl rfl)
theorem dX1_step_31 : decode cX1_step 31 = .ok (.iconst 0, 1) := dk_3 (dk_at dksX1_step_1 8 rfl rfl)
theorem dX1_step_32 : decode cX1_step 32 = .ok (.aload_n 0, 1) := dk_42 (dk_at dksX1_step_1 9 rfl rfl)
theorem dX1_step_33 : decode cX1_step 33 = .ok (.getfield 46, 3) := dk_180 0 46 (dk_at dksX1_step_1 10 rfl rfl)
theorem dX1_step_36 : decode cX1_step 36 = .ok (.iload_n 2, 1) := dk_28 (dk_at dksX1_step_1 13 rfl rfl)
theorem dX1_step_37 : decode cX1_step 37 = .ok (.iload 4, 2) := dk_21 4 (dk_at dksX1_step_1 14 rfl rfl)
theorem dX1_step_39 : decode cX1_step 39 = .ok (.iload_n 3, 1) := dk_29 (dk_at dksX1_step_1 16 rfl rfl)
theorem dX1_step_40 : decode cX1_step 40 = .ok (.invokevirtual 250, 3) := dk_182 0 250 (dk_at dksX1_step_1 17 rfl rfl)
theorem dX1_step_43 : decode cX1_step 43 = .ok (.iconst 1, 1) := dk_4 (dk_at dksX1_step_1 20 rfl rfl)
theorem dX1_step_44 : decode cX1_step 44 = .ok (.isub, 1) := dk_100 (dk_at dksX1_step_1 21 rfl rfl)
theorem dX1_step_45 : decode cX1_step 45 = .ok (.invokestatic 80, 3) := dk_184 0 80 (dk_at dksX1_step_2 0 rfl rfl)
theorem dX1_step_48 : decode cX1_step 48 = .ok (.ifCond .eq 18, 3) := dk_153 0 18 (dk_at dksX1_step_2 3 rfl rfl)
theorem dX1_step_51 : decode cX1_step 51 = .ok (.aload_n 0, 1) := dk_42 (dk_at dksX1_step_2 6 rfl rfl)
theorem dX1_step_52 : decode cX1_step 52 = .ok (.getfield 46, 3) := dk_180 0 46 (dk_at dksX1_step_2 7 rfl rfl)
theorem dX1_step_55 : decode cX1_step 55 = .ok (.iload_n 2, 1) := dk_28 (dk_at dksX1_step_2 10 rfl rfl)
theorem dX1_step_56 : decode cX1_step 56 = .ok (.iload 4, 2) := dk_21 4 (dk_at dksX1_step_2 11 rfl rfl)
theorem dX1_step_58 : decode cX1_step 58 = .ok (.iload 6, 2) := dk_21 6 (dk_at dksX1_step_2 13 rfl rfl)
theorem dX1_step_60 : decode cX1_step 60 = .ok (.invokevirtual 254, 3) := dk_182 0 254 (dk_at dksX1_step_2 15 rfl rfl)
theorem dX1_step_63 : decode cX1_step 63 = .ok (.goto 8, 3) := dk_167 0 8 (dk_at dksX1_step_2 18 rfl rfl)
theorem dX1_step_66 : decode cX1_step 66 = .ok (.aload_n 0, 1) := dk_42 (dk_at dksX1_step_2 21 rfl rfl)
theorem dX1_step_67 : decode cX1_step 67 = .ok (.iconst 1, 1) := dk_4 (dk_at dksX1_step_2 22 rfl rfl)
theorem dX1_step_68 : decode cX1_step 68 = .ok (.invokevirtual 84, 3) := dk_182 0 84 (dk_at dksX1_step_3 0 rfl rfl)
theorem dX1_step_71 : decode cX1_step 71 = .ok (.ireturn, 1) := dk_172 (dk_at dksX1_step_3 3 rfl rfl)
abbrev cX1_off : ByteArray := prog_1_method_43_code
def yX1_off : MethodName := ⟨RX1, "off", "(IIII)I"⟩
def dkwX1_off_4 : List UInt8 := [132, 7, 1, 167, 255, 199, 21, 6, 2, 160, 0, 12, 42, 16, 6, 182, 0, 84, 167, 0, 5, 21, 6, 172]
abbrev dktX1_off_4 : List UInt8 := dkwX1_off_4 ++ []
def dkwX1_off_3 : List UInt8 := [21, 7, 182, 0, 242, 42, 180, 0, 46, 28, 21, 6, 182, 0, 242, 148, 156, 0, 7, 21, 7, 54, 6]
abbrev dktX1_off_3 : List UInt8 := dkwX1_off_3 ++ dktX1_off_4
def dkwX1_off_2 : List UInt8 := [42, 180, 0, 46, 28, 21, 7, 182, 0, 235, 153, 0, 37, 21, 6, 2, 159, 0, 27, 42, 180, 0, 46, 28]
abbrev dktX1_off_2 : List UInt8 := dkwX1_off_2 ++ dktX1_off_3
def dkwX1_off_1 : List UInt8 := [5, 160, 0, 10, 42, 21, 5, 182, 0, 84, 172, 2, 54, 6, 3, 54, 7, 21, 7, 21, 4, 163, 0, 56]
abbrev dktX1_off_1 : List UInt8 := dkwX1_off_1 ++ dktX1_off_2
def dkwX1_off_0 : List UInt8 := [42, 182, 0, 70, 42, 27, 28, 29, 3, 21, 4, 182, 0, 239, 54, 5, 21, 5, 4, 159, 0, 9, 21, 5]
abbrev dktX1_off_0 : List UInt8 := dkwX1_off_0 ++ dktX1_off_1
theorem dksX1_off_0 : cX1_off.data.toList.drop 0 = dktX1_off_0 := by decide +kernel
theorem dksX1_off_1 : cX1_off.data.toList.drop 24 = dktX1_off_1 := dk_seg dksX1_off_0 24 rfl rfl
theorem dksX1_off_2 : cX1_off.data.toList.drop 48 = dktX1_off_2 := dk_seg dksX1_off_1 24 rfl rfl
theorem dksX1_off_3 : cX1_off.data.toList.drop 72 = dktX1_off_3 := dk_seg dksX1_off_2 24 rfl rfl
theorem dksX1_off_4 : cX1_off.data.toList.drop 95 = dktX1_off_4 := dk_seg dksX1_off_3 23 rfl rfl
theorem dX1_off_0 : decode cX1_off 0 = .ok (.aload_n 0, 1) := dk_42 (dk_at dksX1_off_0 0 rfl rfl)
theorem dX1_off_1 : decode cX1_off 1 = .ok (.invokevirtual 70, 3) := dk_182 0 70 (dk_at dksX1_off_0 1 rfl rfl)
theorem dX1_off_4 : decode cX1_off 4 = .ok (.aload_n 0, 1) := dk_42 (dk_at dksX1_off_0 4 rfl rfl)
theorem dX1_off_5 : decode cX1_off 5 = .ok (.iload_n 1, 1) := dk_27 (dk_at dksX1_off_0 5 rfl rfl)
theorem dX1_off_6 : decode cX1_off 6 = .ok (.iload_n 2, 1) := dk_28 (dk_at dksX1_off_0 6 rfl rfl)
theorem dX1_off_7 : decode cX1_off 7 = .ok (.iload_n 3, 1) := dk_29 (dk_at dksX1_off_0 7 rfl rfl)
theorem dX1_off_8 : decode cX1_off 8 = .ok (.iconst 0, 1) := dk_3 (dk_at dksX1_off_0 8 rfl rfl)
theorem dX1_off_9 : decode cX1_off 9 = .ok (.iload 4, 2) := dk_21 4 (dk_at dksX1_off_0 9 rfl rfl)
theorem dX1_off_11 : decode cX1_off 11 = .ok (.invokevirtual 239, 3) := dk_182 0 239 (dk_at dksX1_off_0 11 rfl rfl)
theorem dX1_off_14 : decode cX1_off 14 = .ok (.istore 5, 2) := dk_54 5 (dk_at dksX1_off_0 14 rfl rfl)
theorem dX1_off_16 : decode cX1_off 16 = .ok (.iload 5, 2) := dk_21 5 (dk_at dksX1_off_0 16 rfl rfl)
theorem dX1_off_18 : decode cX1_off 18 = .ok (.iconst 1, 1) := dk_4 (dk_at dksX1_off_0 18 rfl rfl)
theorem dX1_off_19 : decode cX1_off 19 = .ok (.if_icmp .eq 9, 3) := dk_159 0 9 (dk_at dksX1_off_0 19 rfl rfl)
theorem dX1_off_22 : decode cX1_off 22 = .ok (.iload 5, 2) := dk_21 5 (dk_at dksX1_off_0 22 rfl rfl)
theorem dX1_off_24 : decode cX1_off 24 = .ok (.iconst 2, 1) := dk_5 (dk_at dksX1_off_1 0 rfl rfl)
theorem dX1_off_25 : decode cX1_off 25 = .ok (.if_icmp .ne 10, 3) := dk_160 0 10 (dk_at dksX1_off_1 1 rfl rfl)
theorem dX1_off_28 : decode cX1_off 28 = .ok (.aload_n 0, 1) := dk_42 (dk_at dksX1_off_1 4 rfl rfl)
theorem dX1_off_29 : decode cX1_off 29 = .ok (.iload 5, 2) := dk_21 5 (dk_at dksX1_off_1 5 rfl rfl)
theorem dX1_off_31 : decode cX1_off 31 = .ok (.invokevirtual 84, 3) := dk_182 0 84 (dk_at dksX1_off_1 7 rfl rfl)
theorem dX1_off_34 : decode cX1_off 34 = .ok (.ireturn, 1) := dk_172 (dk_at dksX1_off_1 10 rfl rfl)
theorem dX1_off_35 : decode cX1_off 35 = .ok (.iconst (-1), 1) := dk_2 (dk_at dksX1_off_1 11 rfl rfl)
theorem dX1_off_36 : decode cX1_off 36 = .ok (.istore 6, 2) := dk_54 6 (dk_at dksX1_off_1 12 rfl rfl)
theorem dX1_off_38 : decode cX1_off 38 = .ok (.iconst 0, 1) := dk_3 (dk_at dksX1_off_1 14 rfl rfl)
theorem dX1_off_39 : decode cX1_off 39 = .ok (.istore 7, 2) := dk_54 7 (dk_at dksX1_off_1 15 rfl rfl)
theorem dX1_off_41 : decode cX1_off 41 = .ok (.iload 7, 2) := dk_21 7 (dk_at dksX1_off_1 17 rfl rfl)
theorem dX1_off_43 : decode cX1_off 43 = .ok (.iload 4, 2) := dk_21 4 (dk_at dksX1_off_1 19 rfl rfl)
theorem dX1_off_45 : decode cX1_off 45 = .ok (.if_icmp .gt 56, 3) := dk_163 0 56 (dk_at dksX1_off_1 21 rfl rfl)
theorem dX1_off_48 : decode cX1_off 48 = .ok (.aload_n 0, 1) := dk_42 (dk_at dksX1_off_2 0 rfl rfl)
theorem dX1_off_49 : decode cX1_off 49 = .ok (.getfield 46, 3) := dk_180 0 46 (dk_at dksX1_off_2 1 rfl rfl)
theorem dX1_off_52 : decode cX1_off 52 = .ok (.iload_n 2, 1) := dk_28 (dk_at dksX1_off_2 4 rfl rfl)
theorem dX1_off_53 : decode cX1_off 53 = .ok (.iload 7, 2) := dk_21 7 (dk_at dksX1_off_2 5 rfl rfl)
theorem dX1_off_55 : decode cX1_off 55 = .ok (.invokevirtual 235, 3) := dk_182 0 235 (dk_at dksX1_off_2 7 rfl rfl)
theorem dX1_off_58 : decode cX1_off 58 = .ok (.ifCond .eq 37, 3) := dk_153 0 37 (dk_at dksX1_off_2 10 rfl rfl)
theorem dX1_off_61 : decode cX1_off 61 = .ok (.iload 6, 2) := dk_21 6 (dk_at dksX1_off_2 13 rfl rfl)
theorem dX1_off_63 : decode cX1_off 63 = .ok (.iconst (-1), 1) := dk_2 (dk_at dksX1_off_2 15 rfl rfl)
theorem dX1_off_64 : decode cX1_off 64 = .ok (.if_icmp .eq 27, 3) := dk_159 0 27 (dk_at dksX1_off_2 16 rfl rfl)
theorem dX1_off_67 : decode cX1_off 67 = .ok (.aload_n 0, 1) := dk_42 (dk_at dksX1_off_2 19 rfl rfl)
theorem dX1_off_68 : decode cX1_off 68 = .ok (.getfield 46, 3) := dk_180 0 46 (dk_at dksX1_off_2 20 rfl rfl)
theorem dX1_off_71 : decode cX1_off 71 = .ok (.iload_n 2, 1) := dk_28 (dk_at dksX1_off_2 23 rfl rfl)
theorem dX1_off_72 : decode cX1_off 72 = .ok (.iload 7, 2) := dk_21 7 (dk_at dksX1_off_3 0 rfl rfl)
theorem dX1_off_74 : decode cX1_off 74 = .ok (.invokevirtual 242, 3) := dk_182 0 242 (dk_at dksX1_off_3 2 rfl rfl)
theorem dX1_off_77 : decode cX1_off 77 = .ok (.aload_n 0, 1) := dk_42 (dk_at dksX1_off_3 5 rfl rfl)
theorem dX1_off_78 : decode cX1_off 78 = .ok (.getfield 46, 3) := dk_180 0 46 (dk_at dksX1_off_3 6 rfl rfl)
theorem dX1_off_81 : decode cX1_off 81 = .ok (.iload_n 2, 1) := dk_28 (dk_at dksX1_off_3 9 rfl rfl)
theorem dX1_off_82 : decode cX1_off 82 = .ok (.iload 6, 2) := dk_21 6 (dk_at dksX1_off_3 10 rfl rfl)
theorem dX1_off_84 : decode cX1_off 84 = .ok (.invokevirtual 242, 3) := dk_182 0 242 (dk_at dksX1_off_3 12 rfl rfl)
theorem dX1_off_87 : decode cX1_off 87 = .ok (.lcmp, 1) := dk_148 (dk_at dksX1_off_3 15 rfl rfl)
theorem dX1_off_88 : decode cX1_off 88 = .ok (.ifCond .ge 7, 3) := dk_156 0 7 (dk_at dksX1_off_3 16 rfl rfl)
theorem dX1_off_91 : decode cX1_off 91 = .ok (.iload 7, 2) := dk_21 7 (dk_at dksX1_off_3 19 rfl rfl)
theorem dX1_off_93 : decode cX1_off 93 = .ok (.istore 6, 2) := dk_54 6 (dk_at dksX1_off_3 21 rfl rfl)
theorem dX1_off_95 : decode cX1_off 95 = .ok (.iinc 7 1, 3) := dk_132 7 1 (dk_at dksX1_off_4 0 rfl rfl)
theorem dX1_off_98 : decode cX1_off 98 = .ok (.goto (-57), 3) := dk_167 255 199 (dk_at dksX1_off_4 3 rfl rfl)
theorem dX1_off_101 : decode cX1_off 101 = .ok (.iload 6, 2) := dk_21 6 (dk_at dksX1_off_4 6 rfl rfl)
theorem dX1_off_103 : decode cX1_off 103 = .ok (.iconst (-1), 1) := dk_2 (dk_at dksX1_off_4 8 rfl rfl)
theorem dX1_off_104 : decode cX1_off 104 = .ok (.if_icmp .ne 12, 3) := dk_160 0 12 (dk_at dksX1_off_4 9 rfl rfl)
theorem dX1_off_107 : decode cX1_off 107 = .ok (.aload_n 0, 1) := dk_42 (dk_at dksX1_off_4 12 rfl rfl)
theorem dX1_off_108 : decode cX1_off 108 = .ok (.bipush 6, 2) := dk_16 6 (dk_at dksX1_off_4 13 rfl rfl)
theorem dX1_off_110 : decode cX1_off 110 = .ok (.invokevirtual 84, 3) := dk_182 0 84 (dk_at dksX1_off_4 15 rfl rfl)
theorem dX1_off_113 : decode cX1_off 113 = .ok (.goto 5, 3) := dk_167 0 5 (dk_at dksX1_off_4 18 rfl rfl)
theorem dX1_off_116 : decode cX1_off 116 = .ok (.iload 6, 2) := dk_21 6 (dk_at dksX1_off_4 21 rfl rfl)
theorem dX1_off_118 : decode cX1_off 118 = .ok (.ireturn, 1) := dk_172 (dk_at dksX1_off_4 23 rfl rfl)
abbrev cX1_fits : ByteArray := prog_1_method_47_code
def yX1_fits : MethodName := ⟨RX1, "fits", "(I)I"⟩
def dkwX1_fits_1 : List UInt8 := [167, 0, 8, 42, 4, 182, 0, 84, 172]
abbrev dktX1_fits_1 : List UInt8 := dkwX1_fits_1 ++ []
def dkwX1_fits_0 : List UInt8 := [42, 182, 0, 70, 42, 27, 182, 1, 21, 153, 0, 16, 42, 27, 2, 182, 1, 24, 19, 1, 14, 96]
abbrev dktX1_fits_0 : List UInt8 := dkwX1_fits_0 ++ dktX1_fits_1
theorem dksX1_fits_0 : cX1_fits.data.toList.drop 0 = dktX1_fits_0 := by decide +kernel
theorem dksX1_fits_1 : cX1_fits.data.toList.drop 22 = dktX1_fits_1 := dk_seg dksX1_fits_0 22 rfl rfl
theorem dX1_fits_0 : decode cX1_fits 0 = .ok (.aload_n 0, 1) := dk_42 (dk_at dksX1_fits_0 0 rfl rfl)
theorem dX1_fits_1 : decode cX1_fits 1 = .ok (.invokevirtual 70, 3) := dk_182 0 70 (dk_at dksX1_fits_0 1 rfl rfl)
theorem dX1_fits_4 : decode cX1_fits 4 = .ok (.aload_n 0, 1) := dk_42 (dk_at dksX1_fits_0 4 rfl rfl)
theorem dX1_fits_5 : decode cX1_fits 5 = .ok (.iload_n 1, 1) := dk_27 (dk_at dksX1_fits_0 5 rfl rfl)
theorem dX1_fits_6 : decode cX1_fits 6 = .ok (.invokevirtual 277, 3) := dk_182 1 21 (dk_at dksX1_fits_0 6 rfl rfl)
theorem dX1_fits_9 : decode cX1_fits 9 = .ok (.ifCond .eq 16, 3) := dk_153 0 16 (dk_at dksX1_fits_0 9 rfl rfl)
theorem dX1_fits_12 : decode cX1_fits 12 = .ok (.aload_n 0, 1) := dk_42 (dk_at dksX1_fits_0 12 rfl rfl)
theorem dX1_fits_13 : decode cX1_fits 13 = .ok (.iload_n 1, 1) := dk_27 (dk_at dksX1_fits_0 13 rfl rfl)
theorem dX1_fits_14 : decode cX1_fits 14 = .ok (.iconst (-1), 1) := dk_2 (dk_at dksX1_fits_0 14 rfl rfl)
theorem dX1_fits_15 : decode cX1_fits 15 = .ok (.invokevirtual 280, 3) := dk_182 1 24 (dk_at dksX1_fits_0 15 rfl rfl)
theorem dX1_fits_18 : decode cX1_fits 18 = .ok (.ldc_w 270, 3) := dk_19 1 14 (dk_at dksX1_fits_0 18 rfl rfl)
theorem dX1_fits_21 : decode cX1_fits 21 = .ok (.iadd, 1) := dk_96 (dk_at dksX1_fits_0 21 rfl rfl)
theorem dX1_fits_22 : decode cX1_fits 22 = .ok (.goto 8, 3) := dk_167 0 8 (dk_at dksX1_fits_1 0 rfl rfl)
theorem dX1_fits_25 : decode cX1_fits 25 = .ok (.aload_n 0, 1) := dk_42 (dk_at dksX1_fits_1 3 rfl rfl)
theorem dX1_fits_26 : decode cX1_fits 26 = .ok (.iconst 1, 1) := dk_4 (dk_at dksX1_fits_1 4 rfl rfl)
theorem dX1_fits_27 : decode cX1_fits 27 = .ok (.invokevirtual 84, 3) := dk_182 0 84 (dk_at dksX1_fits_1 5 rfl rfl)
theorem dX1_fits_30 : decode cX1_fits 30 = .ok (.ireturn, 1) := dk_172 (dk_at dksX1_fits_1 8 rfl rfl)
abbrev cX1_isSeen : ByteArray := prog_1_method_46_code
def yX1_isSeen : MethodName := ⟨RX1, "isSeen", "(I)Z"⟩
def dkwX1_isSeen_1 : List UInt8 := [4, 167, 0, 4, 3, 172]
abbrev dktX1_isSeen_1 : List UInt8 := dkwX1_isSeen_1 ++ []
def dkwX1_isSeen_0 : List UInt8 := [42, 180, 0, 95, 198, 0, 24, 27, 3, 42, 180, 0, 95, 180, 1, 18, 4, 100, 184, 0, 80, 153, 0, 7]
abbrev dktX1_isSeen_0 : List UInt8 := dkwX1_isSeen_0 ++ dktX1_isSeen_1
theorem dksX1_isSeen_0 : cX1_isSeen.data.toList.drop 0 = dktX1_isSeen_0 := by decide +kernel
theorem dksX1_isSeen_1 : cX1_isSeen.data.toList.drop 24 = dktX1_isSeen_1 := dk_seg dksX1_isSeen_0 24 rfl rfl
theorem dX1_isSeen_0 : decode cX1_isSeen 0 = .ok (.aload_n 0, 1) := dk_42 (dk_at dksX1_isSeen_0 0 rfl rfl)
theorem dX1_isSeen_1 : decode cX1_isSeen 1 = .ok (.getfield 95, 3) := dk_180 0 95 (dk_at dksX1_isSeen_0 1 rfl rfl)
theorem dX1_isSeen_4 : decode cX1_isSeen 4 = .ok (.ifnull 24, 3) := dk_198 0 24 (dk_at dksX1_isSeen_0 4 rfl rfl)
theorem dX1_isSeen_7 : decode cX1_isSeen 7 = .ok (.iload_n 1, 1) := dk_27 (dk_at dksX1_isSeen_0 7 rfl rfl)
theorem dX1_isSeen_8 : decode cX1_isSeen 8 = .ok (.iconst 0, 1) := dk_3 (dk_at dksX1_isSeen_0 8 rfl rfl)
theorem dX1_isSeen_9 : decode cX1_isSeen 9 = .ok (.aload_n 0, 1) := dk_42 (dk_at dksX1_isSeen_0 9 rfl rfl)
theorem dX1_isSeen_10 : decode cX1_isSeen 10 = .ok (.getfield 95, 3) := dk_180 0 95 (dk_at dksX1_isSeen_0 10 rfl rfl)
theorem dX1_isSeen_13 : decode cX1_isSeen 13 = .ok (.getfield 274, 3) := dk_180 1 18 (dk_at dksX1_isSeen_0 13 rfl rfl)
theorem dX1_isSeen_16 : decode cX1_isSeen 16 = .ok (.iconst 1, 1) := dk_4 (dk_at dksX1_isSeen_0 16 rfl rfl)
theorem dX1_isSeen_17 : decode cX1_isSeen 17 = .ok (.isub, 1) := dk_100 (dk_at dksX1_isSeen_0 17 rfl rfl)
theorem dX1_isSeen_18 : decode cX1_isSeen 18 = .ok (.invokestatic 80, 3) := dk_184 0 80 (dk_at dksX1_isSeen_0 18 rfl rfl)
theorem dX1_isSeen_21 : decode cX1_isSeen 21 = .ok (.ifCond .eq 7, 3) := dk_153 0 7 (dk_at dksX1_isSeen_0 21 rfl rfl)
theorem dX1_isSeen_24 : decode cX1_isSeen 24 = .ok (.iconst 1, 1) := dk_4 (dk_at dksX1_isSeen_1 0 rfl rfl)
theorem dX1_isSeen_25 : decode cX1_isSeen 25 = .ok (.goto 4, 3) := dk_167 0 4 (dk_at dksX1_isSeen_1 1 rfl rfl)
theorem dX1_isSeen_28 : decode cX1_isSeen 28 = .ok (.iconst 0, 1) := dk_3 (dk_at dksX1_isSeen_1 4 rfl rfl)
theorem dX1_isSeen_29 : decode cX1_isSeen 29 = .ok (.ireturn, 1) := dk_172 (dk_at dksX1_isSeen_1 5 rfl rfl)
abbrev cX1_fitOf : ByteArray := prog_1_method_44_code
def yX1_fitOf : MethodName := ⟨RX1, "fitOf", "(II)I"⟩
def dkwX1_fitOf_7 : List UInt8 := [172]
abbrev dktX1_fitOf_7 : List UInt8 := dkwX1_fitOf_7 ++ []
def dkwX1_fitOf_6 : List UInt8 := [132, 8, 1, 167, 255, 166, 132, 7, 1, 167, 255, 151, 132, 6, 1, 167, 255, 130, 21, 5, 19, 1, 14, 100]
abbrev dktX1_fitOf_6 : List UInt8 := dkwX1_fitOf_6 ++ dktX1_fitOf_7
def dkwX1_fitOf_5 : List UInt8 := [21, 7, 104, 96, 16, 10, 21, 8, 104, 96, 21, 9, 96, 172, 132, 5, 1, 132, 9, 1, 167, 255, 191]
abbrev dktX1_fitOf_5 : List UInt8 := dkwX1_fitOf_5 ++ dktX1_fitOf_6
def dkwX1_fitOf_4 : List UInt8 := [182, 1, 10, 154, 0, 6, 167, 0, 34, 21, 5, 28, 160, 0, 25, 17, 3, 232, 21, 6, 104, 16, 100]
abbrev dktX1_fitOf_4 : List UInt8 := dkwX1_fitOf_4 ++ dktX1_fitOf_5
def dkwX1_fitOf_3 : List UInt8 := [54, 9, 21, 9, 25, 4, 180, 0, 203, 163, 0, 61, 42, 45, 25, 4, 21, 6, 21, 7, 21, 8, 21, 9]
abbrev dktX1_fitOf_3 : List UInt8 := dkwX1_fitOf_3 ++ dktX1_fitOf_4
def dkwX1_fitOf_2 : List UInt8 := [162, 0, 105, 3, 54, 8, 21, 8, 42, 180, 0, 95, 180, 0, 126, 162, 0, 84, 25, 4, 180, 0, 200]
abbrev dktX1_fitOf_2 : List UInt8 := dkwX1_fitOf_2 ++ dktX1_fitOf_3
def dkwX1_fitOf_1 : List UInt8 := [3, 54, 5, 3, 54, 6, 21, 6, 42, 180, 0, 95, 180, 0, 116, 162, 0, 120, 3, 54, 7, 21, 7, 5]
abbrev dktX1_fitOf_1 : List UInt8 := dkwX1_fitOf_1 ++ dktX1_fitOf_2
def dkwX1_fitOf_0 : List UInt8 := [42, 180, 0, 95, 180, 1, 1, 27, 50, 78, 42, 180, 0, 95, 180, 0, 135, 45, 180, 1, 5, 50, 58, 4]
abbrev dktX1_fitOf_0 : List UInt8 := dkwX1_fitOf_0 ++ dktX1_fitOf_1
theorem dksX1_fitOf_0 : cX1_fitOf.data.toList.drop 0 = dktX1_fitOf_0 := by decide +kernel
theorem dksX1_fitOf_1 : cX1_fitOf.data.toList.drop 24 = dktX1_fitOf_1 := dk_seg dksX1_fitOf_0 24 rfl rfl
theorem dksX1_fitOf_2 : cX1_fitOf.data.toList.drop 48 = dktX1_fitOf_2 := dk_seg dksX1_fitOf_1 24 rfl rfl
theorem dksX1_fitOf_3 : cX1_fitOf.data.toList.drop 71 = dktX1_fitOf_3 := dk_seg dksX1_fitOf_2 23 rfl rfl
theorem dksX1_fitOf_4 : cX1_fitOf.data.toList.drop 95 = dktX1_fitOf_4 := dk_seg dksX1_fitOf_3 24 rfl rfl
theorem dksX1_fitOf_5 : cX1_fitOf.data.toList.drop 118 = dktX1_fitOf_5 := dk_seg dksX1_fitOf_4 23 rfl rfl
theorem dksX1_fitOf_6 : cX1_fitOf.data.toList.drop 141 = dktX1_fitOf_6 := dk_seg dksX1_fitOf_5 23 rfl rfl
theorem dksX1_fitOf_7 : cX1_fitOf.data.toList.drop 165 = dktX1_fitOf_7 := dk_seg dksX1_fitOf_6 24 rfl rfl
theorem dX1_fitOf_0 : decode cX1_fitOf 0 = .ok (.aload_n 0, 1) := dk_42 (dk_at dksX1_fitOf_0 0 rfl rfl)
theorem dX1_fitOf_1 : decode cX1_fitOf 1 = .ok (.getfield 95, 3) := dk_180 0 95 (dk_at dksX1_fitOf_0 1 rfl rfl)
theorem dX1_fitOf_4 : decode cX1_fitOf 4 = .ok (.getfield 257, 3) := dk_180 1 1 (dk_at dksX1_fitOf_0 4 rfl rfl)
theorem dX1_fitOf_7 : decode cX1_fitOf 7 = .ok (.iload_n 1, 1) := dk_27 (dk_at dksX1_fitOf_0 7 rfl rfl)
theorem dX1_fitOf_8 : decode cX1_fitOf 8 = .ok (.aaload, 1) := dk_50 (dk_at dksX1_fitOf_0 8 rfl rfl)
theorem dX1_fitOf_9 : decode cX1_fitOf 9 = .ok (.astore_n 3, 1) := dk_78 (dk_at dksX1_fitOf_0 9 rfl rfl)
theorem dX1_fitOf_10 : decode cX1_fitOf 10 = .ok (.aload_n 0, 1) := dk_42 (dk_at dksX1_fitOf_0 10 rfl rfl)
theorem dX1_fitOf_11 : decode cX1_fitOf 11 = .ok (.getfield 95, 3) := dk_180 0 95 (dk_at dksX1_fitOf_0 11 rfl rfl)
theorem dX1_fitOf_14 : decode cX1_fitOf 14 = .ok (.getfield 135, 3) := dk_180 0 135 (dk_at dksX1_fitOf_0 14 rfl rfl)
theorem dX1_fitOf_17 : decode cX1_fitOf 17 = .ok (.aload_n 3, 1) := dk_45 (dk_at dksX1_fitOf_0 17 rfl rfl)
theorem dX1_fitOf_18 : decode cX1_fitOf 18 = .ok (.getfield 261, 3) := dk_180 1 5 (dk_at dksX1_fitOf_0 18 rfl rfl)
theorem dX1_fitOf_21 : decode cX1_fitOf 21 = .ok (.aaload, 1) := dk_50 (dk_at dksX1_fitOf_0 21 rfl rfl)
theorem dX1_fitOf_22 : decode cX1_fitOf 22 = .ok (.astore 4, 2) := dk_58 4 (dk_at dksX1_fitOf_0 22 rfl rfl)
theorem dX1_fitOf_24 : decode cX1_fitOf 24 = .ok (.iconst 0, 1) := dk_3 (dk_at dksX1_fitOf_1 0 rfl rfl)
theorem dX1_fitOf_25 : decode cX1_fitOf 25 = .ok (.istore 5, 2) := dk_54 5 (dk_at dksX1_fitOf_1 1 rfl rfl)
theorem dX1_fitOf_27 : decode cX1_fitOf 27 = .ok (.iconst 0, 1) := dk_3 (dk_at dksX1_fitOf_1 3 rfl rfl)
theorem dX1_fitOf_28 : decode cX1_fitOf 28 = .ok (.istore 6, 2) := dk_54 6 (dk_at dksX1_fitOf_1 4 rfl rfl)
theorem dX1_fitOf_30 : decode cX1_fitOf 30 = .ok (.iload 6, 2) := dk_21 6 (dk_at dksX1_fitOf_1 6 rfl rfl)
theorem dX1_fitOf_32 : decode cX1_fitOf 32 = .ok (.aload_n 0, 1) := dk_42 (dk_at dksX1_fitOf_1 8 rfl rfl)
theorem dX1_fitOf_33 : decode cX1_fitOf 33 = .ok (.getfield 95, 3) := dk_180 0 95 (dk_at dksX1_fitOf_1 9 rfl rfl)
theorem dX1_fitOf_36 : decode cX1_fitOf 36 = .ok (.getfield 116, 3) := dk_180 0 116 (dk_at dksX1_fitOf_1 12 rfl rfl)
theorem dX1_fitOf_39 : decode cX1_fitOf 39 = .ok (.if_icmp .ge 120, 3) := dk_162 0 120 (dk_at dksX1_fitOf_1 15 rfl rfl)
theorem dX1_fitOf_42 : decode cX1_fitOf 42 = .ok (.iconst 0, 1) := dk_3 (dk_at dksX1_fitOf_1 18 rfl rfl)
theorem dX1_fitOf_43 : decode cX1_fitOf 43 = .ok (.istore 7, 2) := dk_54 7 (dk_at dksX1_fitOf_1 19 rfl rfl)
theorem dX1_fitOf_45 : decode cX1_fitOf 45 = .ok (.iload 7, 2) := dk_21 7 (dk_at dksX1_fitOf_1 21 rfl rfl)
theorem dX1_fitOf_47 : decode cX1_fitOf 47 = .ok (.iconst 2, 1) := dk_5 (dk_at dksX1_fitOf_1 23 rfl rfl)
theorem dX1_fitOf_48 : decode cX1_fitOf 48 = .ok (.if_icmp .ge 105, 3) := dk_162 0 105 (dk_at dksX1_fitOf_2 0 rfl rfl)
theorem dX1_fitOf_51 : decode cX1_fitOf 51 = .ok (.iconst 0, 1) := dk_3 (dk_at dksX1_fitOf_2 3 rfl rfl)
theorem dX1_fitOf_52 : decode cX1_fitOf 52 = .ok (.istore 8, 2) := dk_54 8 (dk_at dksX1_fitOf_2 4 rfl rfl)
theorem dX1_fitOf_54 : decode cX1_fitOf 54 = .ok (.iload 8, 2) := dk_21 8 (dk_at dksX1_fitOf_2 6 rfl rfl)
theorem dX1_fitOf_56 : decode cX1_fitOf 56 = .ok (.aload_n 0, 1) := dk_42 (dk_at dksX1_fitOf_2 8 rfl rfl)
theorem dX1_fitOf_57 : decode cX1_fitOf 57 = .ok (.getfield 95, 3) := dk_180 0 95 (dk_at dksX1_fitOf_2 9 rfl rfl)
theorem dX1_fitOf_60 : decode cX1_fitOf 60 = .ok (.getfield 126, 3) := dk_180 0 126 (dk_at dksX1_fitOf_2 12 rfl rfl)
theorem dX1_fitOf_63 : decode cX1_fitOf 63 = .ok (.if_icmp .ge 84, 3) := dk_162 0 84 (dk_at dksX1_fitOf_2 15 rfl rfl)
theorem dX1_fitOf_66 : decode cX1_fitOf 66 = .ok (.aload 4, 2) := dk_25 4 (dk_at dksX1_fitOf_2 18 rfl rfl)
theorem dX1_fitOf_68 : decode cX1_fitOf 68 = .ok (.getfield 200, 3) := dk_180 0 200 (dk_at dksX1_fitOf_2 20 rfl rfl)
theorem dX1_fitOf_71 : decode cX1_fitOf 71 = .ok (.istore 9, 2) := dk_54 9 (dk_at dksX1_fitOf_3 0 rfl rfl)
theorem dX1_fitOf_73 : decode cX1_fitOf 73 = .ok (.iload 9, 2) := dk_21 9 (dk_at dksX1_fitOf_3 2 rfl rfl)
theorem dX1_fitOf_75 : decode cX1_fitOf 75 = .ok (.aload 4, 2) := dk_25 4 (dk_at dksX1_fitOf_3 4 rfl rfl)
theorem dX1_fitOf_77 : decode cX1_fitOf 77 = .ok (.getfield 203, 3) := dk_180 0 203 (dk_at dksX1_fitOf_3 6 rfl rfl)
theorem dX1_fitOf_80 : decode cX1_fitOf 80 = .ok (.if_icmp .gt 61, 3) := dk_163 0 61 (dk_at dksX1_fitOf_3 9 rfl rfl)
theorem dX1_fitOf_83 : decode cX1_fitOf 83 = .ok (.aload_n 0, 1) := dk_42 (dk_at dksX1_fitOf_3 12 rfl rfl)
theorem dX1_fitOf_84 : decode cX1_fitOf 84 = .ok (.aload_n 3, 1) := dk_45 (dk_at dksX1_fitOf_3 13 rfl rfl)
theorem dX1_fitOf_85 : decode cX1_fitOf 85 = .ok (.aload 4, 2) := dk_25 4 (dk_at dksX1_fitOf_3 14 rfl rfl)
theorem dX1_fitOf_87 : decode cX1_fitOf 87 = .ok (.iload 6, 2) := dk_21 6 (dk_at dksX1_fitOf_3 16 rfl rfl)
theorem dX1_fitOf_89 : decode cX1_fitOf 89 = .ok (.iload 7, 2) := dk_21 7 (dk_at dksX1_fitOf_3 18 rfl rfl)
theorem dX1_fitOf_91 : decode cX1_fitOf 91 = .ok (.iload 8, 2) := dk_21 8 (dk_at dksX1_fitOf_3 20 rfl rfl)
theorem dX1_fitOf_93 : decode cX1_fitOf 93 = .ok (.iload 9, 2) := dk_21 9 (dk_at dksX1_fitOf_3 22 rfl rfl)
theorem dX1_fitOf_95 : decode cX1_fitOf 95 = .ok (.invokevirtual 266, 3) := dk_182 1 10 (dk_at dksX1_fitOf_4 0 rfl rfl)
theorem dX1_fitOf_98 : decode cX1_fitOf 98 = .ok (.ifCond .ne 6, 3) := dk_154 0 6 (dk_at dksX1_fitOf_4 3 rfl rfl)
theorem dX1_fitOf_101 : decode cX1_fitOf 101 = .ok (.goto 34, 3) := dk_167 0 34 (dk_at dksX1_fitOf_4 6 rfl rfl)
theorem dX1_fitOf_104 : decode cX1_fitOf 104 = .ok (.iload 5, 2) := dk_21 5 (dk_at dksX1_fitOf_4 9 rfl rfl)
theorem dX1_fitOf_106 : decode cX1_fitOf 106 = .ok (.iload_n 2, 1) := dk_28 (dk_at dksX1_fitOf_4 11 rfl rfl)
theorem dX1_fitOf_107 : decode cX1_fitOf 107 = .ok (.if_icmp .ne 25, 3) := dk_160 0 25 (dk_at dksX1_fitOf_4 12 rfl rfl)
theorem dX1_fitOf_110 : decode cX1_fitOf 110 = .ok (.sipush 1000, 3) := dk_17 3 232 (dk_at dksX1_fitOf_4 15 rfl rfl)
theorem dX1_fitOf_113 : decode cX1_fitOf 113 = .ok (.iload 6, 2) := dk_21 6 (dk_at dksX1_fitOf_4 18 rfl rfl)
theorem dX1_fitOf_115 : decode cX1_fitOf 115 = .ok (.imul, 1) := dk_104 (dk_at dksX1_fitOf_4 20 rfl rfl)
theorem dX1_fitOf_116 : decode cX1_fitOf 116 = .ok (.bipush 100, 2) := dk_16 100 (dk_at dksX1_fitOf_4 21 rfl rfl)
theorem dX1_fitOf_118 : decode cX1_fitOf 118 = .ok (.iload 7, 2) := dk_21 7 (dk_at dksX1_fitOf_5 0 rfl rfl)
theorem dX1_fitOf_120 : decode cX1_fitOf 120 = .ok (.imul, 1) := dk_104 (dk_at dksX1_fitOf_5 2 rfl rfl)
theorem dX1_fitOf_121 : decode cX1_fitOf 121 = .ok (.iadd, 1) := dk_96 (dk_at dksX1_fitOf_5 3 rfl rfl)
theorem dX1_fitOf_122 : decode cX1_fitOf 122 = .ok (.bipush 10, 2) := dk_16 10 (dk_at dksX1_fitOf_5 4 rfl rfl)
theorem dX1_fitOf_124 : decode cX1_fitOf 124 = .ok (.iload 8, 2) := dk_21 8 (dk_at dksX1_fitOf_5 6 rfl rfl)
theorem dX1_fitOf_126 : decode cX1_fitOf 126 = .ok (.imul, 1) := dk_104 (dk_at dksX1_fitOf_5 8 rfl rfl)
theorem dX1_fitOf_127 : decode cX1_fitOf 127 = .ok (.iadd, 1) := dk_96 (dk_at dksX1_fitOf_5 9 rfl rfl)
theorem dX1_fitOf_128 : decode cX1_fitOf 128 = .ok (.iload 9, 2) := dk_21 9 (dk_at dksX1_fitOf_5 10 rfl rfl)
theorem dX1_fitOf_130 : decode cX1_fitOf 130 = .ok (.iadd, 1) := dk_96 (dk_at dksX1_fitOf_5 12 rfl rfl)
theorem dX1_fitOf_131 : decode cX1_fitOf 131 = .ok (.ireturn, 1) := dk_172 (dk_at dksX1_fitOf_5 13 rfl rfl)
theorem dX1_fitOf_132 : decode cX1_fitOf 132 = .ok (.iinc 5 1, 3) := dk_132 5 1 (dk_at dksX1_fitOf_5 14 rfl rfl)
theorem dX1_fitOf_135 : decode cX1_fitOf 135 = .ok (.iinc 9 1, 3) := dk_132 9 1 (dk_at dksX1_fitOf_5 17 rfl rfl)
theorem dX1_fitOf_138 : decode cX1_fitOf 138 = .ok (.goto (-65), 3) := dk_167 255 191 (dk_at dksX1_fitOf_5 20 rfl rfl)
theorem dX1_fitOf_141 : decode cX1_fitOf 141 = .ok (.iinc 8 1, 3) := dk_132 8 1 (dk_at dksX1_fitOf_6 0 rfl rfl)
theorem dX1_fitOf_144 : decode cX1_fitOf 144 = .ok (.goto (-90), 3) := dk_167 255 166 (dk_at dksX1_fitOf_6 3 rfl rfl)
theorem dX1_fitOf_147 : decode cX1_fitOf 147 = .ok (.iinc 7 1, 3) := dk_132 7 1 (dk_at dksX1_fitOf_6 6 rfl rfl)
theorem dX1_fitOf_150 : decode cX1_fitOf 150 = .ok (.goto (-105), 3) := dk_167 255 151 (dk_at dksX1_fitOf_6 9 rfl rfl)
theorem dX1_fitOf_153 : decode cX1_fitOf 153 = .ok (.iinc 6 1, 3) := dk_132 6 1 (dk_at dksX1_fitOf_6 12 rfl rfl)
theorem dX1_fitOf_156 : decode cX1_fitOf 156 = .ok (.goto (-126), 3) := dk_167 255 130 (dk_at dksX1_fitOf_6 15 rfl rfl)
theorem dX1_fitOf_159 : decode cX1_fitOf 159 = .ok (.iload 5, 2) := dk_21 5 (dk_at dksX1_fitOf_6 18 rfl rfl)
theorem dX1_fitOf_161 : decode cX1_fitOf 161 = .ok (.ldc_w 270, 3) := dk_19 1 14 (dk_at dksX1_fitOf_6 20 rfl rfl)
theorem dX1_fitOf_164 : decode cX1_fitOf 164 = .ok (.isub, 1) := dk_100 (dk_at dksX1_fitOf_6 23 rfl rfl)
theorem dX1_fitOf_165 : decode cX1_fitOf 165 = .ok (.ireturn, 1) := dk_172 (dk_at dksX1_fitOf_7 0 rfl rfl)
abbrev cX1_doesFit : ByteArray := prog_1_method_45_code
def yX1_doesFit : MethodName := ⟨RX1, "doesFit", "(LRainWalk$Seen;LRainWalk$Walker;IIII)Z"⟩
def dkwX1_doesFit_3 : List UInt8 := [105, 148, 154, 0, 7, 4, 167, 0, 4, 3, 54, 7, 132, 8, 1, 167, 255, 209, 21, 7, 172]
abbrev dktX1_doesFit_3 : List UInt8 := dkwX1_doesFit_3 ++ []
def dkwX1_doesFit_2 : List UInt8 := [153, 0, 33, 42, 180, 0, 36, 180, 0, 160, 21, 8, 47, 43, 180, 1, 15, 21, 8, 46, 133, 20, 0, 164]
abbrev dktX1_doesFit_2 : List UInt8 := dkwX1_doesFit_2 ++ dktX1_doesFit_3
def dkwX1_doesFit_1 : List UInt8 := [21, 5, 50, 21, 6, 182, 0, 152, 4, 54, 7, 3, 54, 8, 21, 8, 8, 162, 0, 47, 21, 7]
abbrev dktX1_doesFit_1 : List UInt8 := dkwX1_doesFit_1 ++ dktX1_doesFit_2
def dkwX1_doesFit_0 : List UInt8 := [42, 180, 0, 36, 44, 42, 180, 0, 95, 180, 0, 144, 29, 50, 21, 4, 42, 180, 0, 95, 180, 0, 148]
abbrev dktX1_doesFit_0 : List UInt8 := dkwX1_doesFit_0 ++ dktX1_doesFit_1
theorem dksX1_doesFit_0 : cX1_doesFit.data.toList.drop 0 = dktX1_doesFit_0 := by decide +kernel
theorem dksX1_doesFit_1 : cX1_doesFit.data.toList.drop 23 = dktX1_doesFit_1 := dk_seg dksX1_doesFit_0 23 rfl rfl
theorem dksX1_doesFit_2 : cX1_doesFit.data.toList.drop 45 = dktX1_doesFit_2 := dk_seg dksX1_doesFit_1 22 rfl rfl
theorem dksX1_doesFit_3 : cX1_doesFit.data.toList.drop 69 = dktX1_doesFit_3 := dk_seg dksX1_doesFit_2 24 rfl rfl
theorem dX1_doesFit_0 : decode cX1_doesFit 0 = .ok (.aload_n 0, 1) := dk_42 (dk_at dksX1_doesFit_0 0 rfl rfl)
theorem dX1_doesFit_1 : decode cX1_doesFit 1 = .ok (.getfield 36, 3) := dk_180 0 36 (dk_at dksX1_doesFit_0 1 rfl rfl)
theorem dX1_doesFit_4 : decode cX1_doesFit 4 = .ok (.aload_n 2, 1) := dk_44 (dk_at dksX1_doesFit_0 4 rfl rfl)
theorem dX1_doesFit_5 : decode cX1_doesFit 5 = .ok (.aload_n 0, 1) := dk_42 (dk_at dksX1_doesFit_0 5 rfl rfl)
theorem dX1_doesFit_6 : decode cX1_doesFit 6 = .ok (.getfield 95, 3) := dk_180 0 95 (dk_at dksX1_doesFit_0 6 rfl rfl)
theorem dX1_doesFit_9 : decode cX1_doesFit 9 = .ok (.getfield 144, 3) := dk_180 0 144 (dk_at dksX1_doesFit_0 9 rfl rfl)
theorem dX1_doesFit_12 : decode cX1_doesFit 12 = .ok (.iload_n 3, 1) := dk_29 (dk_at dksX1_doesFit_0 12 rfl rfl)
theorem dX1_doesFit_13 : decode cX1_doesFit 13 = .ok (.aaload, 1) := dk_50 (dk_at dksX1_doesFit_0 13 rfl rfl)
theorem dX1_doesFit_14 : decode cX1_doesFit 14 = .ok (.iload 4, 2) := dk_21 4 (dk_at dksX1_doesFit_0 14 rfl rfl)
theorem dX1_doesFit_16 : decode cX1_doesFit 16 = .ok (.aload_n 0, 1) := dk_42 (dk_at dksX1_doesFit_0 16 rfl rfl)
theorem dX1_doesFit_17 : decode cX1_doesFit 17 = .ok (.getfield 95, 3) := dk_180 0 95 (dk_at dksX1_doesFit_0 17 rfl rfl)
theorem dX1_doesFit_20 : decode cX1_doesFit 20 = .ok (.getfield 148, 3) := dk_180 0 148 (dk_at dksX1_doesFit_0 20 rfl rfl)
theorem dX1_doesFit_23 : decode cX1_doesFit 23 = .ok (.iload 5, 2) := dk_21 5 (dk_at dksX1_doesFit_1 0 rfl rfl)
theorem dX1_doesFit_25 : decode cX1_doesFit 25 = .ok (.aaload, 1) := dk_50 (dk_at dksX1_doesFit_1 2 rfl rfl)
theorem dX1_doesFit_26 : decode cX1_doesFit 26 = .ok (.iload 6, 2) := dk_21 6 (dk_at dksX1_doesFit_1 3 rfl rfl)
theorem dX1_doesFit_28 : decode cX1_doesFit 28 = .ok (.invokevirtual 152, 3) := dk_182 0 152 (dk_at dksX1_doesFit_1 5 rfl rfl)
theorem dX1_doesFit_31 : decode cX1_doesFit 31 = .ok (.iconst 1, 1) := dk_4 (dk_at dksX1_doesFit_1 8 rfl rfl)
theorem dX1_doesFit_32 : decode cX1_doesFit 32 = .ok (.istore 7, 2) := dk_54 7 (dk_at dksX1_doesFit_1 9 rfl rfl)
theorem dX1_doesFit_34 : decode cX1_doesFit 34 = .ok (.iconst 0, 1) := dk_3 (dk_at dksX1_doesFit_1 11 rfl rfl)
theorem dX1_doesFit_35 : decode cX1_doesFit 35 = .ok (.istore 8, 2) := dk_54 8 (dk_at dksX1_doesFit_1 12 rfl rfl)
theorem dX1_doesFit_37 : decode cX1_doesFit 37 = .ok (.iload 8, 2) := dk_21 8 (dk_at dksX1_doesFit_1 14 rfl rfl)
theorem dX1_doesFit_39 : decode cX1_doesFit 39 = .ok (.iconst 5, 1) := dk_8 (dk_at dksX1_doesFit_1 16 rfl rfl)
theorem dX1_doesFit_40 : decode cX1_doesFit 40 = .ok (.if_icmp .ge 47, 3) := dk_162 0 47 (dk_at dksX1_doesFit_1 17 rfl rfl)
theorem dX1_doesFit_43 : decode cX1_doesFit 43 = .ok (.iload 7, 2) := dk_21 7 (dk_at dksX1_doesFit_1 20 rfl rfl)
theorem dX1_doesFit_45 : decode cX1_doesFit 45 = .ok (.ifCond .eq 33, 3) := dk_153 0 33 (dk_at dksX1_doesFit_2 0 rfl rfl)
theorem dX1_doesFit_48 : decode cX1_doesFit 48 = .ok (.aload_n 0, 1) := dk_42 (dk_at dksX1_doesFit_2 3 rfl rfl)
theorem dX1_doesFit_49 : decode cX1_doesFit 49 = .ok (.getfield 36, 3) := dk_180 0 36 (dk_at dksX1_doesFit_2 4 rfl rfl)
theorem dX1_doesFit_52 : decode cX1_doesFit 52 = .ok (.getfield 160, 3) := dk_180 0 160 (dk_at dksX1_doesFit_2 7 rfl rfl)
theorem dX1_doesFit_55 : decode cX1_doesFit 55 = .ok (.iload 8, 2) := dk_21 8 (dk_at dksX1_doesFit_2 10 rfl rfl)
theorem dX1_doesFit_57 : decode cX1_doesFit 57 = .ok (.laload, 1) := dk_47 (dk_at dksX1_doesFit_2 12 rfl rfl)
theorem dX1_doesFit_58 : decode cX1_doesFit 58 = .ok (.aload_n 1, 1) := dk_43 (dk_at dksX1_doesFit_2 13 rfl rfl)
theorem dX1_doesFit_59 : decode cX1_doesFit 59 = .ok (.getfield 271, 3) := dk_180 1 15 (dk_at dksX1_doesFit_2 14 rfl rfl)
theorem dX1_doesFit_62 : decode cX1_doesFit 62 = .ok (.iload 8, 2) := dk_21 8 (dk_at dksX1_doesFit_2 17 rfl rfl)
theorem dX1_doesFit_64 : decode cX1_doesFit 64 = .ok (.iaload, 1) := dk_46 (dk_at dksX1_doesFit_2 19 rfl rfl)
theorem dX1_doesFit_65 : decode cX1_doesFit 65 = .ok (.i2l, 1) := dk_133 (dk_at dksX1_doesFit_2 20 rfl rfl)
theorem dX1_doesFit_66 : decode cX1_doesFit 66 = .ok (.ldc2_w 164, 3) := dk_20 0 164 (dk_at dksX1_doesFit_2 21 rfl rfl)
theorem dX1_doesFit_69 : decode cX1_doesFit 69 = .ok (.lmul, 1) := dk_105 (dk_at dksX1_doesFit_3 0 rfl rfl)
theorem dX1_doesFit_70 : decode cX1_doesFit 70 = .ok (.lcmp, 1) := dk_148 (dk_at dksX1_doesFit_3 1 rfl rfl)
theorem dX1_doesFit_71 : decode cX1_doesFit 71 = .ok (.ifCond .ne 7, 3) := dk_154 0 7 (dk_at dksX1_doesFit_3 2 rfl rfl)
theorem dX1_doesFit_74 : decode cX1_doesFit 74 = .ok (.iconst 1, 1) := dk_4 (dk_at dksX1_doesFit_3 5 rfl rfl)
theorem dX1_doesFit_75 : decode cX1_doesFit 75 = .ok (.goto 4, 3) := dk_167 0 4 (dk_at dksX1_doesFit_3 6 rfl rfl)
theorem dX1_doesFit_78 : decode cX1_doesFit 78 = .ok (.iconst 0, 1) := dk_3 (dk_at dksX1_doesFit_3 9 rfl rfl)
theorem dX1_doesFit_79 : decode cX1_doesFit 79 = .ok (.istore 7, 2) := dk_54 7 (dk_at dksX1_doesFit_3 10 rfl rfl)
theorem dX1_doesFit_81 : decode cX1_doesFit 81 = .ok (.iinc 8 1, 3) := dk_132 8 1 (dk_at dksX1_doesFit_3 12 rfl rfl)
theorem dX1_doesFit_84 : decode cX1_doesFit 84 = .ok (.goto (-47), 3) := dk_167 255 209 (dk_at dksX1_doesFit_3 15 rfl rfl)
theorem dX1_doesFit_87 : decode cX1_doesFit 87 = .ok (.iload 7, 2) := dk_21 7 (dk_at dksX1_doesFit_3 18 rfl rfl)
theorem dX1_doesFit_89 : decode cX1_doesFit 89 = .ok (.ireturn, 1) := dk_172 (dk_at dksX1_doesFit_3 20 rfl rfl)
abbrev cX1_fit : ByteArray := prog_1_method_48_code
def yX1_fit : MethodName := ⟨RX1, "fit", "(II)I"⟩
def dkwX1_fit_1 : List UInt8 := [167, 0, 4, 2, 62, 29, 156, 0, 11, 42, 4, 182, 0, 84, 167, 0, 4, 29, 172]
abbrev dktX1_fit_1 : List UInt8 := dkwX1_fit_1 ++ []
def dkwX1_fit_0 : List UInt8 := [42, 182, 0, 70, 42, 27, 182, 1, 21, 153, 0, 16, 28, 155, 0, 12, 42, 27, 28, 182, 1, 24]
abbrev dktX1_fit_0 : List UInt8 := dkwX1_fit_0 ++ dktX1_fit_1
theorem dksX1_fit_0 : cX1_fit.data.toList.drop 0 = dktX1_fit_0 := by decide +kernel
theorem dksX1_fit_1 : cX1_fit.data.toList.drop 22 = dktX1_fit_1 := dk_seg dksX1_fit_0 22 rfl rfl
theorem dX1_fit_0 : decode cX1_fit 0 = .ok (.aload_n 0, 1) := dk_42 (dk_at dksX1_fit_0 0 rfl rfl)
theorem dX1_fit_1 : decode cX1_fit 1 = .ok (.invokevirtual 70, 3) := dk_182 0 70 (dk_at dksX1_fit_0 1 rfl rfl)
theorem dX1_fit_4 : decode cX1_fit 4 = .ok (.aload_n 0, 1) := dk_42 (dk_at dksX1_fit_0 4 rfl rfl)
theorem dX1_fit_5 : decode cX1_fit 5 = .ok (.iload_n 1, 1) := dk_27 (dk_at dksX1_fit_0 5 rfl rfl)
theorem dX1_fit_6 : decode cX1_fit 6 = .ok (.invokevirtual 277, 3) := dk_182 1 21 (dk_at dksX1_fit_0 6 rfl rfl)
theorem dX1_fit_9 : decode cX1_fit 9 = .ok (.ifCond .eq 16, 3) := dk_153 0 16 (dk_at dksX1_fit_0 9 rfl rfl)
theorem dX1_fit_12 : decode cX1_fit 12 = .ok (.iload_n 2, 1) := dk_28 (dk_at dksX1_fit_0 12 rfl rfl)
theorem dX1_fit_13 : decode cX1_fit 13 = .ok (.ifCond .lt 12, 3) := dk_155 0 12 (dk_at dksX1_fit_0 13 rfl rfl)
theorem dX1_fit_16 : decode cX1_fit 16 = .ok (.aload_n 0, 1) := dk_42 (dk_at dksX1_fit_0 16 rfl rfl)
theorem dX1_fit_17 : decode cX1_fit 17 = .ok (.iload_n 1, 1) := dk_27 (dk_at dksX1_fit_0 17 rfl rfl)
theorem dX1_fit_18 : decode cX1_fit 18 = .ok (.iload_n 2, 1) := dk_28 (dk_at dksX1_fit_0 18 rfl rfl)
theorem dX1_fit_19 : decode cX1_fit 19 = .ok (.invokevirtual 280, 3) := dk_182 1 24 (dk_at dksX1_fit_0 19 rfl rfl)
theorem dX1_fit_22 : decode cX1_fit 22 = .ok (.goto 4, 3) := dk_167 0 4 (dk_at dksX1_fit_1 0 rfl rfl)
theorem dX1_fit_25 : decode cX1_fit 25 = .ok (.iconst (-1), 1) := dk_2 (dk_at dksX1_fit_1 3 rfl rfl)
theorem dX1_fit_26 : decode cX1_fit 26 = .ok (.istore_n 3, 1) := dk_62 (dk_at dksX1_fit_1 4 rfl rfl)
theorem dX1_fit_27 : decode cX1_fit 27 = .ok (.iload_n 3, 1) := dk_29 (dk_at dksX1_fit_1 5 rfl rfl)
theorem dX1_fit_28 : decode cX1_fit 28 = .ok (.ifCond .ge 11, 3) := dk_156 0 11 (dk_at dksX1_fit_1 6 rfl rfl)
theorem dX1_fit_31 : decode cX1_fit 31 = .ok (.aload_n 0, 1) := dk_42 (dk_at dksX1_fit_1 9 rfl rfl)
theorem dX1_fit_32 : decode cX1_fit 32 = .ok (.iconst 1, 1) := dk_4 (dk_at dksX1_fit_1 10 rfl rfl)
theorem dX1_fit_33 : decode cX1_fit 33 = .ok (.invokevirtual 84, 3) := dk_182 0 84 (dk_at dksX1_fit_1 11 rfl rfl)
theorem dX1_fit_36 : decode cX1_fit 36 = .ok (.goto 4, 3) := dk_167 0 4 (dk_at dksX1_fit_1 14 rfl rfl)
theorem dX1_fit_39 : decode cX1_fit 39 = .ok (.iload_n 3, 1) := dk_29 (dk_at dksX1_fit_1 17 rfl rfl)
theorem dX1_fit_40 : decode cX1_fit 40 = .ok (.ireturn, 1) := dk_172 (dk_at dksX1_fit_1 18 rfl rfl)
abbrev cX1_lies : ByteArray := prog_1_method_49_code
def yX1_lies : MethodName := ⟨RX1, "lies", "()I"⟩
def dkwX1_lies_2 : List UInt8 := [120, 167, 0, 4, 3, 128, 60, 132, 2, 1, 167, 255, 220, 27, 172]
abbrev dktX1_lies_2 : List UInt8 := dkwX1_lies_2 ++ []
def dkwX1_lies_1 : List UInt8 := [180, 0, 95, 180, 1, 18, 162, 0, 31, 27, 42, 28, 2, 182, 1, 24, 19, 1, 27, 160, 0, 9, 4, 28]
abbrev dktX1_lies_1 : List UInt8 := dkwX1_lies_1 ++ dktX1_lies_2
def dkwX1_lies_0 : List UInt8 := [42, 182, 0, 70, 42, 180, 0, 95, 199, 0, 9, 42, 4, 182, 0, 84, 172, 3, 60, 3, 61, 28, 42]
abbrev dktX1_lies_0 : List UInt8 := dkwX1_lies_0 ++ dktX1_lies_1
theorem dksX1_lies_0 : cX1_lies.data.toList.drop 0 = dktX1_lies_0 := by decide +kernel
theorem dksX1_lies_1 : cX1_lies.data.toList.drop 23 = dktX1_lies_1 := dk_seg dksX1_lies_0 23 rfl rfl
theorem dksX1_lies_2 : cX1_lies.data.toList.drop 47 = dktX1_lies_2 := dk_seg dksX1_lies_1 24 rfl rfl
theorem dX1_lies_0 : decode cX1_lies 0 = .ok (.aload_n 0, 1) := dk_42 (dk_at dksX1_lies_0 0 rfl rfl)
theorem dX1_lies_1 : decode cX1_lies 1 = .ok (.invokevirtual 70, 3) := dk_182 0 70 (dk_at dksX1_lies_0 1 rfl rfl)
theorem dX1_lies_4 : decode cX1_lies 4 = .ok (.aload_n 0, 1) := dk_42 (dk_at dksX1_lies_0 4 rfl rfl)
theorem dX1_lies_5 : decode cX1_lies 5 = .ok (.getfield 95, 3) := dk_180 0 95 (dk_at dksX1_lies_0 5 rfl rfl)
theorem dX1_lies_8 : decode cX1_lies 8 = .ok (.ifnonnull 9, 3) := dk_199 0 9 (dk_at dksX1_lies_0 8 rfl rfl)
theorem dX1_lies_11 : decode cX1_lies 11 = .ok (.aload_n 0, 1) := dk_42 (dk_at dksX1_lies_0 11 rfl rfl)
theorem dX1_lies_12 : decode cX1_lies 12 = .ok (.iconst 1, 1) := dk_4 (dk_at dksX1_lies_0 12 rfl rfl)
theorem dX1_lies_13 : decode cX1_lies 13 = .ok (.invokevirtual 84, 3) := dk_182 0 84 (dk_at dksX1_lies_0 13 rfl rfl)
theorem dX1_lies_16 : decode cX1_lies 16 = .ok (.ireturn, 1) := dk_172 (dk_at dksX1_lies_0 16 rfl rfl)
theorem dX1_lies_17 : decode cX1_lies 17 = .ok (.iconst 0, 1) := dk_3 (dk_at dksX1_lies_0 17 rfl rfl)
theorem dX1_lies_18 : decode cX1_lies 18 = .ok (.istore_n 1, 1) := dk_60 (dk_at dksX1_lies_0 18 rfl rfl)
theorem dX1_lies_19 : decode cX1_lies 19 = .ok (.iconst 0, 1) := dk_3 (dk_at dksX1_lies_0 19 rfl rfl)
theorem dX1_lies_20 : decode cX1_lies 20 = .ok (.istore_n 2, 1) := dk_61 (dk_at dksX1_lies_0 20 rfl rfl)
theorem dX1_lies_21 : decode cX1_lies 21 = .ok (.iload_n 2, 1) := dk_28 (dk_at dksX1_lies_0 21 rfl rfl)
theorem dX1_lies_22 : decode cX1_lies 22 = .ok (.aload_n 0, 1) := dk_42 (dk_at dksX1_lies_0 22 rfl rfl)
theorem dX1_lies_23 : decode cX1_lies 23 = .ok (.getfield 95, 3) := dk_180 0 95 (dk_at dksX1_lies_1 0 rfl rfl)
theorem dX1_lies_26 : decode cX1_lies 26 = .ok (.getfield 274, 3) := dk_180 1 18 (dk_at dksX1_lies_1 3 rfl rfl)
theorem dX1_lies_29 : decode cX1_lies 29 = .ok (.if_icmp .ge 31, 3) := dk_162 0 31 (dk_at dksX1_lies_1 6 rfl rfl)
theorem dX1_lies_32 : decode cX1_lies 32 = .ok (.iload_n 1, 1) := dk_27 (dk_at dksX1_lies_1 9 rfl rfl)
theorem dX1_lies_33 : decode cX1_lies 33 = .ok (.aload_n 0, 1) := dk_42 (dk_at dksX1_lies_1 10 rfl rfl)
theorem dX1_lies_34 : decode cX1_lies 34 = .ok (.iload_n 2, 1) := dk_28 (dk_at dksX1_lies_1 11 rfl rfl)
theorem dX1_lies_35 : decode cX1_lies 35 = .ok (.iconst (-1), 1) := dk_2 (dk_at dksX1_lies_1 12 rfl rfl)
theorem dX1_lies_36 : decode cX1_lies 36 = .ok (.invokevirtual 280, 3) := dk_182 1 24 (dk_at dksX1_lies_1 13 rfl rfl)
theorem dX1_lies_39 : decode cX1_lies 39 = .ok (.ldc_w 283, 3) := dk_19 1 27 (dk_at dksX1_lies_1 16 rfl rfl)
theorem dX1_lies_42 : decode cX1_lies 42 = .ok (.if_icmp .ne 9, 3) := dk_160 0 9 (dk_at dksX1_lies_1 19 rfl rfl)
theorem dX1_lies_45 : decode cX1_lies 45 = .ok (.iconst 1, 1) := dk_4 (dk_at dksX1_lies_1 22 rfl rfl)
theorem dX1_lies_46 : decode cX1_lies 46 = .ok (.iload_n 2, 1) := dk_28 (dk_at dksX1_lies_1 23 rfl rfl)
theorem dX1_lies_47 : decode cX1_lies 47 = .ok (.ishl, 1) := dk_120 (dk_at dksX1_lies_2 0 rfl rfl)
theorem dX1_lies_48 : decode cX1_lies 48 = .ok (.goto 4, 3) := dk_167 0 4 (dk_at dksX1_lies_2 1 rfl rfl)
theorem dX1_lies_51 : decode cX1_lies 51 = .ok (.iconst 0, 1) := dk_3 (dk_at dksX1_lies_2 4 rfl rfl)
theorem dX1_lies_52 : decode cX1_lies 52 = .ok (.ior, 1) := dk_128 (dk_at dksX1_lies_2 5 rfl rfl)
theorem dX1_lies_53 : decode cX1_lies 53 = .ok (.istore_n 1, 1) := dk_60 (dk_at dksX1_lies_2 6 rfl rfl)
theorem dX1_lies_54 : decode cX1_lies 54 = .ok (.iinc 2 1, 3) := dk_132 2 1 (dk_at dksX1_lies_2 7 rfl rfl)
theorem dX1_lies_57 : decode cX1_lies 57 = .ok (.goto (-36), 3) := dk_167 255 220 (dk_at dksX1_lies_2 10 rfl rfl)
theorem dX1_lies_60 : decode cX1_lies 60 = .ok (.iload_n 1, 1) := dk_27 (dk_at dksX1_lies_2 13 rfl rfl)
theorem dX1_lies_61 : decode cX1_lies 61 = .ok (.ireturn, 1) := dk_172 (dk_at dksX1_lies_2 14 rfl rfl)
abbrev cX1_day : ByteArray := prog_1_method_51_code
def yX1_day : MethodName := ⟨RX1, "day", "(IIII)I"⟩
def dkwX1_day_8 : List UInt8 := [181, 1, 36, 132, 6, 1, 167, 255, 189, 42, 180, 1, 36, 172]
abbrev dktX1_day_8 : List UInt8 := dkwX1_day_8 ++ []
def dkwX1_day_7 : List UInt8 := [180, 0, 95, 180, 0, 148, 21, 6, 50, 180, 0, 174, 162, 0, 10, 4, 21, 6, 120, 167, 0, 4, 3, 128]
abbrev dktX1_day_7 : List UInt8 := dkwX1_day_7 ++ dktX1_day_8
def dkwX1_day_6 : List UInt8 := [21, 5, 104, 16, 74, 96, 19, 1, 39, 112, 54, 5, 42, 89, 180, 1, 36, 21, 5, 16, 100, 112, 42]
abbrev dktX1_day_6 : List UInt8 := dkwX1_day_6 ++ dktX1_day_7
def dkwX1_day_5 : List UInt8 := [181, 1, 36, 21, 4, 54, 5, 3, 54, 6, 21, 6, 42, 180, 0, 95, 180, 0, 126, 162, 0, 61, 16, 75]
abbrev dktX1_day_5 : List UInt8 := dkwX1_day_5 ++ dktX1_day_6
def dkwX1_day_4 : List UInt8 := [21, 5, 9, 80, 132, 5, 1, 167, 255, 236, 42, 3, 181, 0, 105, 42, 3, 181, 0, 108, 42, 3]
abbrev dktX1_day_4 : List UInt8 := dkwX1_day_4 ++ dktX1_day_5
def dkwX1_day_3 : List UInt8 := [180, 0, 53, 29, 181, 1, 30, 3, 54, 5, 21, 5, 8, 162, 0, 20, 42, 180, 0, 53, 180, 1, 33]
abbrev dktX1_day_3 : List UInt8 := dkwX1_day_3 ++ dktX1_day_4
def dkwX1_day_2 : List UInt8 := [154, 0, 9, 42, 5, 182, 0, 84, 172, 42, 27, 181, 0, 30, 42, 180, 0, 53, 28, 181, 1, 29, 42]
abbrev dktX1_day_2 : List UInt8 := dkwX1_day_2 ++ dktX1_day_3
def dkwX1_day_1 : List UInt8 := [182, 0, 84, 172, 29, 3, 17, 1, 144, 184, 0, 80, 153, 0, 15, 21, 4, 3, 19, 1, 28, 184, 0, 80]
abbrev dktX1_day_1 : List UInt8 := dkwX1_day_1 ++ dktX1_day_2
def dkwX1_day_0 : List UInt8 := [42, 182, 0, 70, 42, 27, 182, 0, 129, 153, 0, 11, 42, 28, 182, 0, 229, 154, 0, 9, 42, 4]
abbrev dktX1_day_0 : List UInt8 := dkwX1_day_0 ++ dktX1_day_1
theorem dksX1_day_0 : cX1_day.data.toList.drop 0 = dktX1_day_0 := by decide +kernel
theorem dksX1_day_1 : cX1_day.data.toList.drop 22 = dktX1_day_1 := dk_seg dksX1_day_0 22 rfl rfl
theorem dksX1_day_2 : cX1_day.data.toList.drop 46 = dktX1_day_2 := dk_seg dksX1_day_1 24 rfl rfl
theorem dksX1_day_3 : cX1_day.data.toList.drop 69 = dktX1_day_3 := dk_seg dksX1_day_2 23 rfl rfl
theorem dksX1_day_4 : cX1_day.data.toList.drop 92 = dktX1_day_4 := dk_seg dksX1_day_3 23 rfl rfl
theorem dksX1_day_5 : cX1_day.data.toList.drop 114 = dktX1_day_5 := dk_seg dksX1_day_4 22 rfl rfl
theorem dksX1_day_6 : cX1_day.data.toList.drop 138 = dktX1_day_6 := dk_seg dksX1_day_5 24 rfl rfl
theorem dksX1_day_7 : cX1_day.data.toList.drop 161 = dktX1_day_7 := dk_seg dksX1_day_6 23 rfl rfl
theorem dksX1_day_8 : cX1_day.data.toList.drop 185 = dktX1_day_8 := dk_seg dksX1_day_7 24 rfl rfl
theorem dX1_day_0 : decode cX1_day 0 = .ok (.aload_n 0, 1) := dk_42 (dk_at dksX1_day_0 0 rfl rfl)
theorem dX1_day_1 : decode cX1_day 1 = .ok (.invokevirtual 70, 3) := dk_182 0 70 (dk_at dksX1_day_0 1 rfl rfl)
theorem dX1_day_4 : decode cX1_day 4 = .ok (.aload_n 0, 1) := dk_42 (dk_at dksX1_day_0 4 rfl rfl)
theorem dX1_day_5 : decode cX1_day 5 = .ok (.iload_n 1, 1) := dk_27 (dk_at dksX1_day_0 5 rfl rfl)
theorem dX1_day_6 : decode cX1_day 6 = .ok (.invokevirtual 129, 3) := dk_182 0 129 (dk_at dksX1_day_0 6 rfl rfl)
theorem dX1_day_9 : decode cX1_day 9 = .ok (.ifCond .eq 11, 3) := dk_153 0 11 (dk_at dksX1_day_0 9 rfl rfl)
theorem dX1_day_12 : decode cX1_day 12 = .ok (.aload_n 0, 1) := dk_42 (dk_at dksX1_day_0 12 rfl rfl)
theorem dX1_day_13 : decode cX1_day 13 = .ok (.iload_n 2, 1) := dk_28 (dk_at dksX1_day_0 13 rfl rfl)
theorem dX1_day_14 : decode cX1_day 14 = .ok (.invokevirtual 229, 3) := dk_182 0 229 (dk_at dksX1_day_0 14 rfl rfl)
theorem dX1_day_17 : decode cX1_day 17 = .ok (.ifCond .ne 9, 3) := dk_154 0 9 (dk_at dksX1_day_0 17 rfl rfl)
theorem dX1_day_20 : decode cX1_day 20 = .ok (.aload_n 0, 1) := dk_42 (dk_at dksX1_day_0 20 rfl rfl)
theorem dX1_day_21 : decode cX1_day 21 = .ok (.iconst 1, 1) := dk_4 (dk_at dksX1_day_0 21 rfl rfl)
theorem dX1_day_22 : decode cX1_day 22 = .ok (.invokevirtual 84, 3) := dk_182 0 84 (dk_at dksX1_day_1 0 rfl rfl)
theorem dX1_day_25 : decode cX1_day 25 = .ok (.ireturn, 1) := dk_172 (dk_at dksX1_day_1 3 rfl rfl)
theorem dX1_day_26 : decode cX1_day 26 = .ok (.iload_n 3, 1) := dk_29 (dk_at dksX1_day_1 4 rfl rfl)
theorem dX1_day_27 : decode cX1_day 27 = .ok (.iconst 0, 1) := dk_3 (dk_at dksX1_day_1 5 rfl rfl)
theorem dX1_day_28 : decode cX1_day 28 = .ok (.sipush 400, 3) := dk_17 1 144 (dk_at dksX1_day_1 6 rfl rfl)
theorem dX1_day_31 : decode cX1_day 31 = .ok (.invokestatic 80, 3) := dk_184 0 80 (dk_at dksX1_day_1 9 rfl rfl)
theorem dX1_day_34 : decode cX1_day 34 = .ok (.ifCond .eq 15, 3) := dk_153 0 15 (dk_at dksX1_day_1 12 rfl rfl)
theorem dX1_day_37 : decode cX1_day 37 = .ok (.iload 4, 2) := dk_21 4 (dk_at dksX1_day_1 15 rfl rfl)
theorem dX1_day_39 : decode cX1_day 39 = .ok (.iconst 0, 1) := dk_3 (dk_at dksX1_day_1 17 rfl rfl)
theorem dX1_day_40 : decode cX1_day 40 = .ok (.ldc_w 284, 3) := dk_19 1 28 (dk_at dksX1_day_1 18 rfl rfl)
theorem dX1_day_43 : decode cX1_day 43 = .ok (.invokestatic 80, 3) := dk_184 0 80 (dk_at dksX1_day_1 21 rfl rfl)
theorem dX1_day_46 : decode cX1_day 46 = .ok (.ifCond .ne 9, 3) := dk_154 0 9 (dk_at dksX1_day_2 0 rfl rfl)
theorem dX1_day_49 : decode cX1_day 49 = .ok (.aload_n 0, 1) := dk_42 (dk_at dksX1_day_2 3 rfl rfl)
theorem dX1_day_50 : decode cX1_day 50 = .ok (.iconst 2, 1) := dk_5 (dk_at dksX1_day_2 4 rfl rfl)
theorem dX1_day_51 : decode cX1_day 51 = .ok (.invokevirtual 84, 3) := dk_182 0 84 (dk_at dksX1_day_2 5 rfl rfl)
theorem dX1_day_54 : decode cX1_day 54 = .ok (.ireturn, 1) := dk_172 (dk_at dksX1_day_2 8 rfl rfl)
theorem dX1_day_55 : decode cX1_day 55 = .ok (.aload_n 0, 1) := dk_42 (dk_at dksX1_day_2 9 rfl rfl)
theorem dX1_day_56 : decode cX1_day 56 = .ok (.iload_n 1, 1) := dk_27 (dk_at dksX1_day_2 10 rfl rfl)
theorem dX1_day_57 : decode cX1_day 57 = .ok (.putfield 30, 3) := dk_181 0 30 (dk_at dksX1_day_2 11 rfl rfl)
theorem dX1_day_60 : decode cX1_day 60 = .ok (.aload_n 0, 1) := dk_42 (dk_at dksX1_day_2 14 rfl rfl)
theorem dX1_day_61 : decode cX1_day 61 = .ok (.getfield 53, 3) := dk_180 0 53 (dk_at dksX1_day_2 15 rfl rfl)
theorem dX1_day_64 : decode cX1_day 64 = .ok (.iload_n 2, 1) := dk_28 (dk_at dksX1_day_2 18 rfl rfl)
theorem dX1_day_65 : decode cX1_day 65 = .ok (.putfield 285, 3) := dk_181 1 29 (dk_at dksX1_day_2 19 rfl rfl)
theorem dX1_day_68 : decode cX1_day 68 = .ok (.aload_n 0, 1) := dk_42 (dk_at dksX1_day_2 22 rfl rfl)
theorem dX1_day_69 : decode cX1_day 69 = .ok (.getfield 53, 3) := dk_180 0 53 (dk_at dksX1_day_3 0 rfl rfl)
theorem dX1_day_72 : decode cX1_day 72 = .ok (.iload_n 3, 1) := dk_29 (dk_at dksX1_day_3 3 rfl rfl)
theorem dX1_day_73 : decode cX1_day 73 = .ok (.putfield 286, 3) := dk_181 1 30 (dk_at dksX1_day_3 4 rfl rfl)
theorem dX1_day_76 : decode cX1_day 76 = .ok (.iconst 0, 1) := dk_3 (dk_at dksX1_day_3 7 rfl rfl)
theorem dX1_day_77 : decode cX1_day 77 = .ok (.istore 5, 2) := dk_54 5 (dk_at dksX1_day_3 8 rfl rfl)
theorem dX1_day_79 : decode cX1_day 79 = .ok (.iload 5, 2) := dk_21 5 (dk_at dksX1_day_3 10 rfl rfl)
theorem dX1_day_81 : decode cX1_day 81 = .ok (.iconst 5, 1) := dk_8 (dk_at dksX1_day_3 12 rfl rfl)
theorem dX1_day_82 : decode cX1_day 82 = .ok (.if_icmp .ge 20, 3) := dk_162 0 20 (dk_at dksX1_day_3 13 rfl rfl)
theorem dX1_day_85 : decode cX1_day 85 = .ok (.aload_n 0, 1) := dk_42 (dk_at dksX1_day_3 16 rfl rfl)
theorem dX1_day_86 : decode cX1_day 86 = .ok (.getfield 53, 3) := dk_180 0 53 (dk_at dksX1_day_3 17 rfl rfl)
theorem dX1_day_89 : decode cX1_day 89 = .ok (.getfield 289, 3) := dk_180 1 33 (dk_at dksX1_day_3 20 rfl rfl)
theorem dX1_day_92 : decode cX1_day 92 = .ok (.iload 5, 2) := dk_21 5 (dk_at dksX1_day_4 0 rfl rfl)
theorem dX1_day_94 : decode cX1_day 94 = .ok (.lconst 0, 1) := dk_9 (dk_at dksX1_day_4 2 rfl rfl)
theorem dX1_day_95 : decode cX1_day 95 = .ok (.lastore, 1) := dk_80 (dk_at dksX1_day_4 3 rfl rfl)
theorem dX1_day_96 : decode cX1_day 96 = .ok (.iinc 5 1, 3) := dk_132 5 1 (dk_at dksX1_day_4 4 rfl rfl)
theorem dX1_day_99 : decode cX1_day 99 = .ok (.goto (-20), 3) := dk_167 255 236 (dk_at dksX1_day_4 7 rfl rfl)
theorem dX1_day_102 : decode cX1_day 102 = .ok (.aload_n 0, 1) := dk_42 (dk_at dksX1_day_4 10 rfl rfl)
theorem dX1_day_103 : decode cX1_day 103 = .ok (.iconst 0, 1) := dk_3 (dk_at dksX1_day_4 11 rfl rfl)
theorem dX1_day_104 : decode cX1_day 104 = .ok (.putfield 105, 3) := dk_181 0 105 (dk_at dksX1_day_4 12 rfl rfl)
theorem dX1_day_107 : decode cX1_day 107 = .ok (.aload_n 0, 1) := dk_42 (dk_at dksX1_day_4 15 rfl rfl)
theorem dX1_day_108 : decode cX1_day 108 = .ok (.iconst 0, 1) := dk_3 (dk_at dksX1_day_4 16 rfl rfl)
theorem dX1_day_109 : decode cX1_day 109 = .ok (.putfield 108, 3) := dk_181 0 108 (dk_at dksX1_day_4 17 rfl rfl)
theorem dX1_day_112 : decode cX1_day 112 = .ok (.aload_n 0, 1) := dk_42 (dk_at dksX1_day_4 20 rfl rfl)
theorem dX1_day_113 : decode cX1_day 113 = .ok (.iconst 0, 1) := dk_3 (dk_at dksX1_day_4 21 rfl rfl)
theorem dX1_day_114 : decode cX1_day 114 = .ok (.putfield 292, 3) := dk_181 1 36 (dk_at dksX1_day_5 0 rfl rfl)
theorem dX1_day_117 : decode cX1_day 117 = .ok (.iload 4, 2) := dk_21 4 (dk_at dksX1_day_5 3 rfl rfl)
theorem dX1_day_119 : decode cX1_day 119 = .ok (.istore 5, 2) := dk_54 5 (dk_at dksX1_day_5 5 rfl rfl)
theorem dX1_day_121 : decode cX1_day 121 = .ok (.iconst 0, 1) := dk_3 (dk_at dksX1_day_5 7 rfl rfl)
theorem dX1_day_122 : decode cX1_day 122 = .ok (.istore 6, 2) := dk_54 6 (dk_at dksX1_day_5 8 rfl rfl)
theorem dX1_day_124 : decode cX1_day 124 = .ok (.iload 6, 2) := dk_21 6 (dk_at dksX1_day_5 10 rfl rfl)
theorem dX1_day_126 : decode cX1_day 126 = .ok (.aload_n 0, 1) := dk_42 (dk_at dksX1_day_5 12 rfl rfl)
theorem dX1_day_127 : decode cX1_day 127 = .ok (.getfield 95, 3) := dk_180 0 95 (dk_at dksX1_day_5 13 rfl rfl)
theorem dX1_day_130 : decode cX1_day 130 = .ok (.getfield 126, 3) := dk_180 0 126 (dk_at dksX1_day_5 16 rfl rfl)
theorem dX1_day_133 : decode cX1_day 133 = .ok (.if_icmp .ge 61, 3) := dk_162 0 61 (dk_at dksX1_day_5 19 rfl rfl)
theorem dX1_day_136 : decode cX1_day 136 = .ok (.bipush 75, 2) := dk_16 75 (dk_at dksX1_day_5 22 rfl rfl)
theorem dX1_day_138 : decode cX1_day 138 = .ok (.iload 5, 2) := dk_21 5 (dk_at dksX1_day_6 0 rfl rfl)
theorem dX1_day_140 : decode cX1_day 140 = .ok (.imul, 1) := dk_104 (dk_at dksX1_day_6 2 rfl rfl)
theorem dX1_day_141 : decode cX1_day 141 = .ok (.bipush 74, 2) := dk_16 74 (dk_at dksX1_day_6 3 rfl rfl)
theorem dX1_day_143 : decode cX1_day 143 = .ok (.iadd, 1) := dk_96 (dk_at dksX1_day_6 5 rfl rfl)
theorem dX1_day_144 : decode cX1_day 144 = .ok (.ldc_w 295, 3) := dk_19 1 39 (dk_at dksX1_day_6 6 rfl rfl)
theorem dX1_day_147 : decode cX1_day 147 = .ok (.irem, 1) := dk_112 (dk_at dksX1_day_6 9 rfl rfl)
theorem dX1_day_148 : decode cX1_day 148 = .ok (.istore 5, 2) := dk_54 5 (dk_at dksX1_day_6 10 rfl rfl)
theorem dX1_day_150 : decode cX1_day 150 = .ok (.aload_n 0, 1) := dk_42 (dk_at dksX1_day_6 12 rfl rfl)
theorem dX1_day_151 : decode cX1_day 151 = .ok (.dup, 1) := dk_89 (dk_at dksX1_day_6 13 rfl rfl)
theorem dX1_day_152 : decode cX1_day 152 = .ok (.getfield 292, 3) := dk_180 1 36 (dk_at dksX1_day_6 14 rfl rfl)
theorem dX1_day_155 : decode cX1_day 155 = .ok (.iload 5, 2) := dk_21 5 (dk_at dksX1_day_6 17 rfl rfl)
theorem dX1_day_157 : decode cX1_day 157 = .ok (.bipush 100, 2) := dk_16 100 (dk_at dksX1_day_6 19 rfl rfl)
theorem dX1_day_159 : decode cX1_day 159 = .ok (.irem, 1) := dk_112 (dk_at dksX1_day_6 21 rfl rfl)
theorem dX1_day_160 : decode cX1_day 160 = .ok (.aload_n 0, 1) := dk_42 (dk_at dksX1_day_6 22 rfl rfl)
theorem dX1_day_161 : decode cX1_day 161 = .ok (.getfield 95, 3) := dk_180 0 95 (dk_at dksX1_day_7 0 rfl rfl)
theorem dX1_day_164 : decode cX1_day 164 = .ok (.getfield 148, 3) := dk_180 0 148 (dk_at dksX1_day_7 3 rfl rfl)
theorem dX1_day_167 : decode cX1_day 167 = .ok (.iload 6, 2) := dk_21 6 (dk_at dksX1_day_7 6 rfl rfl)
theorem dX1_day_169 : decode cX1_day 169 = .ok (.aaload, 1) := dk_50 (dk_at dksX1_day_7 8 rfl rfl)
theorem dX1_day_170 : decode cX1_day 170 = .ok (.getfield 174, 3) := dk_180 0 174 (dk_at dksX1_day_7 9 rfl rfl)
theorem dX1_day_173 : decode cX1_day 173 = .ok (.if_icmp .ge 10, 3) := dk_162 0 10 (dk_at dksX1_day_7 12 rfl rfl)
theorem dX1_day_176 : decode cX1_day 176 = .ok (.iconst 1, 1) := dk_4 (dk_at dksX1_day_7 15 rfl rfl)
theorem dX1_day_177 : decode cX1_day 177 = .ok (.iload 6, 2) := dk_21 6 (dk_at dksX1_day_7 16 rfl rfl)
theorem dX1_day_179 : decode cX1_day 179 = .ok (.ishl, 1) := dk_120 (dk_at dksX1_day_7 18 rfl rfl)
theorem dX1_day_180 : decode cX1_day 180 = .ok (.goto 4, 3) := dk_167 0 4 (dk_at dksX1_day_7 19 rfl rfl)
theorem dX1_day_183 : decode cX1_day 183 = .ok (.iconst 0, 1) := dk_3 (dk_at dksX1_day_7 22 rfl rfl)
theorem dX1_day_184 : decode cX1_day 184 = .ok (.ior, 1) := dk_128 (dk_at dksX1_day_7 23 rfl rfl)
theorem dX1_day_185 : decode cX1_day 185 = .ok (.putfield 292, 3) := dk_181 1 36 (dk_at dksX1_day_8 0 rfl rfl)
theorem dX1_day_188 : decode cX1_day 188 = .ok (.iinc 6 1, 3) := dk_132 6 1 (dk_at dksX1_day_8 3 rfl rfl)
theorem dX1_day_191 : decode cX1_day 191 = .ok (.goto (-67), 3) := dk_167 255 189 (dk_at dksX1_day_8 6 rfl rfl)
theorem dX1_day_194 : decode cX1_day 194 = .ok (.aload_n 0, 1) := dk_42 (dk_at dksX1_day_8 9 rfl rfl)
theorem dX1_day_195 : decode cX1_day 195 = .ok (.getfield 292, 3) := dk_180 1 36 (dk_at dksX1_day_8 10 rfl rfl)
theorem dX1_day_198 : decode cX1_day 198 = .ok (.ireturn, 1) := dk_172 (dk_at dksX1_day_8 13 rfl rfl)
abbrev cX1_go : ByteArray := prog_1_method_55_code
def yX1_go : MethodName := ⟨RX1, "go", "(III)I"⟩
def dkwX1_go_10 : List UInt8 := [181, 1, 30, 42, 182, 1, 66, 87, 21, 6, 172]
abbrev dktX1_go_10 : List UInt8 := dkwX1_go_10 ++ []
def dkwX1_go_9 : List UInt8 := [167, 255, 224, 42, 180, 0, 53, 25, 5, 28, 182, 1, 63, 181, 1, 29, 42, 180, 0, 53, 21, 6]
abbrev dktX1_go_9 : List UInt8 := dkwX1_go_9 ++ dktX1_go_10
def dkwX1_go_8 : List UInt8 := [180, 1, 33, 21, 8, 92, 47, 42, 180, 0, 36, 180, 0, 160, 21, 8, 47, 97, 80, 132, 8, 1]
abbrev dktX1_go_8 : List UInt8 := dkwX1_go_8 ++ dktX1_go_9
def dkwX1_go_7 : List UInt8 := [180, 0, 148, 21, 7, 50, 29, 182, 0, 152, 3, 54, 8, 21, 8, 8, 162, 0, 32, 42, 180, 0, 53]
abbrev dktX1_go_7 : List UInt8 := dkwX1_go_7 ++ dktX1_go_8
def dkwX1_go_6 : List UInt8 := [182, 1, 60, 54, 7, 21, 7, 2, 159, 0, 64, 42, 180, 0, 36, 25, 4, 25, 5, 28, 42, 180, 0, 95]
abbrev dktX1_go_6 : List UInt8 := dkwX1_go_6 ++ dktX1_go_7
def dkwX1_go_5 : List UInt8 := [17, 3, 231, 164, 0, 9, 42, 6, 182, 0, 84, 172, 42, 182, 1, 57, 42, 42, 180, 0, 53, 180, 1, 30]
abbrev dktX1_go_5 : List UInt8 := dkwX1_go_5 ++ dktX1_go_6
def dkwX1_go_4 : List UInt8 := [182, 0, 84, 172, 42, 180, 0, 53, 180, 1, 30, 25, 5, 29, 182, 0, 181, 96, 54, 6, 21, 6]
abbrev dktX1_go_4 : List UInt8 := dkwX1_go_4 ++ dktX1_go_5
def dkwX1_go_3 : List UInt8 := [182, 0, 84, 172, 25, 5, 28, 182, 1, 54, 42, 180, 0, 53, 180, 1, 29, 159, 0, 9, 42, 8]
abbrev dktX1_go_3 : List UInt8 := dkwX1_go_3 ++ dktX1_go_4
def dkwX1_go_2 : List UInt8 := [58, 4, 42, 180, 0, 95, 180, 0, 144, 27, 50, 58, 5, 25, 4, 29, 182, 0, 139, 154, 0, 9, 42, 5]
abbrev dktX1_go_2 : List UInt8 := dkwX1_go_2 ++ dktX1_go_3
def dkwX1_go_1 : List UInt8 := [184, 0, 80, 154, 0, 9, 42, 4, 182, 0, 84, 172, 42, 180, 0, 95, 180, 0, 135, 42, 180, 0, 30, 50]
abbrev dktX1_go_1 : List UInt8 := dkwX1_go_1 ++ dktX1_go_2
def dkwX1_go_0 : List UInt8 := [42, 182, 0, 70, 42, 182, 1, 50, 153, 0, 20, 42, 27, 182, 0, 122, 153, 0, 12, 28, 3, 4]
abbrev dktX1_go_0 : List UInt8 := dkwX1_go_0 ++ dktX1_go_1
theorem dksX1_go_0 : cX1_go.data.toList.drop 0 = dktX1_go_0 := by decide +kernel
theorem dksX1_go_1 : cX1_go.data.toList.drop 22 = dktX1_go_1 := dk_seg dksX1_go_0 22 rfl rfl
theorem dksX1_go_2 : cX1_go.data.toList.drop 46 = dktX1_go_2 := dk_seg dksX1_go_1 24 rfl rfl
theorem dksX1_go_3 : cX1_go.data.toList.drop 70 = dktX1_go_3 := dk_seg dksX1_go_2 24 rfl rfl
theorem dksX1_go_4 : cX1_go.data.toList.drop 92 = dktX1_go_4 := dk_seg dksX1_go_3 22 rfl rfl
theorem dksX1_go_5 : cX1_go.data.toList.drop 114 = dktX1_go_5 := dk_seg dksX1_go_4 22 rfl rfl
theorem dksX1_go_6 : cX1_go.data.toList.drop 138 = dktX1_go_6 := dk_seg dksX1_go_5 24 rfl rfl
theorem dksX1_go_7 : cX1_go.data.toList.drop 162 = dktX1_go_7 := dk_seg dksX1_go_6 24 rfl rfl
theorem dksX1_go_8 : cX1_go.data.toList.drop 185 = dktX1_go_8 := dk_seg dksX1_go_7 23 rfl rfl
theorem dksX1_go_9 : cX1_go.data.toList.drop 207 = dktX1_go_9 := dk_seg dksX1_go_8 22 rfl rfl
theorem dksX1_go_10 : cX1_go.data.toList.drop 229 = dktX1_go_10 := dk_seg dksX1_go_9 22 rfl rfl
theorem dX1_go_0 : decode cX1_go 0 = .ok (.aload_n 0, 1) := dk_42 (dk_at dksX1_go_0 0 rfl rfl)
theorem dX1_go_1 : decode cX1_go 1 = .ok (.invokevirtual 70, 3) := dk_182 0 70 (dk_at dksX1_go_0 1 rfl rfl)
theorem dX1_go_4 : decode cX1_go 4 = .ok (.aload_n 0, 1) := dk_42 (dk_at dksX1_go_0 4 rfl rfl)
theorem dX1_go_5 : decode cX1_go 5 = .ok (.invokevirtual 306, 3) := dk_182 1 50 (dk_at dksX1_go_0 5 rfl rfl)
theorem dX1_go_8 : decode cX1_go 8 = .ok (.ifCond .eq 20, 3) := dk_153 0 20 (dk_at dksX1_go_0 8 rfl rfl)
theorem dX1_go_11 : decode cX1_go 11 = .ok (.aload_n 0, 1) := dk_42 (dk_at dksX1_go_0 11 rfl rfl)
theorem dX1_go_12 : decode cX1_go 12 = .ok (.iload_n 1, 1) := dk_27 (dk_at dksX1_go_0 12 rfl rfl)
theorem dX1_go_13 : decode cX1_go 13 = .ok (.invokevirtual 122, 3) := dk_182 0 122 (dk_at dksX1_go_0 13 rfl rfl)
theorem dX1_go_16 : decode cX1_go 16 = .ok (.ifCond .eq 12, 3) := dk_153 0 12 (dk_at dksX1_go_0 16 rfl rfl)
theorem dX1_go_19 : decode cX1_go 19 = .ok (.iload_n 2, 1) := dk_28 (dk_at dksX1_go_0 19 rfl rfl)
theorem dX1_go_20 : decode cX1_go 20 = .ok (.iconst 0, 1) := dk_3 (dk_at dksX1_go_0 20 rfl rfl)
theorem dX1_go_21 : decode cX1_go 21 = .ok (.iconst 1, 1) := dk_4 (dk_at dksX1_go_0 21 rfl rfl)
theorem dX1_go_22 : decode cX1_go 22 = .ok (.invokestatic 80, 3) := dk_184 0 80 (dk_at dksX1_go_1 0 rfl rfl)
theorem dX1_go_25 : decode cX1_go 25 = .ok (.ifCond .ne 9, 3) := dk_154 0 9 (dk_at dksX1_go_1 3 rfl rfl)
theorem dX1_go_28 : decode cX1_go 28 = .ok (.aload_n 0, 1) := dk_42 (dk_at dksX1_go_1 6 rfl rfl)
theorem dX1_go_29 : decode cX1_go 29 = .ok (.iconst 1, 1) := dk_4 (dk_at dksX1_go_1 7 rfl rfl)
theorem dX1_go_30 : decode cX1_go 30 = .ok (.invokevirtual 84, 3) := dk_182 0 84 (dk_at dksX1_go_1 8 rfl rfl)
theorem dX1_go_33 : decode cX1_go 33 = .ok (.ireturn, 1) := dk_172 (dk_at dksX1_go_1 11 rfl rfl)
theorem dX1_go_34 : decode cX1_go 34 = .ok (.aload_n 0, 1) := dk_42 (dk_at dksX1_go_1 12 rfl rfl)
theorem dX1_go_35 : decode cX1_go 35 = .ok (.getfield 95, 3) := dk_180 0 95 (dk_at dksX1_go_1 13 rfl rfl)
theorem dX1_go_38 : decode cX1_go 38 = .ok (.getfield 135, 3) := dk_180 0 135 (dk_at dksX1_go_1 16 rfl rfl)
theorem dX1_go_41 : decode cX1_go 41 = .ok (.aload_n 0, 1) := dk_42 (dk_at dksX1_go_1 19 rfl rfl)
theorem dX1_go_42 : decode cX1_go 42 = .ok (.getfield 30, 3) := dk_180 0 30 (dk_at dksX1_go_1 20 rfl rfl)
theorem dX1_go_45 : decode cX1_go 45 = .ok (.aaload, 1) := dk_50 (dk_at dksX1_go_1 23 rfl rfl)
theorem dX1_go_46 : decode cX1_go 46 = .ok (.astore 4, 2) := dk_58 4 (dk_at dksX1_go_2 0 rfl rfl)
theorem dX1_go_48 : decode cX1_go 48 = .ok (.aload_n 0, 1) := dk_42 (dk_at dksX1_go_2 2 rfl rfl)
theorem dX1_go_49 : decode cX1_go 49 = .ok (.getfield 95, 3) := dk_180 0 95 (dk_at dksX1_go_2 3 rfl rfl)
theorem dX1_go_52 : decode cX1_go 52 = .ok (.getfield 144, 3) := dk_180 0 144 (dk_at dksX1_go_2 6 rfl rfl)
theorem dX1_go_55 : decode cX1_go 55 = .ok (.iload_n 1, 1) := dk_27 (dk_at dksX1_go_2 9 rfl rfl)
theorem dX1_go_56 : decode cX1_go 56 = .ok (.aaload, 1) := dk_50 (dk_at dksX1_go_2 10 rfl rfl)
theorem dX1_go_57 : decode cX1_go 57 = .ok (.astore 5, 2) := dk_58 5 (dk_at dksX1_go_2 11 rfl rfl)
theorem dX1_go_59 : decode cX1_go 59 = .ok (.aload 4, 2) := dk_25 4 (dk_at dksX1_go_2 13 rfl rfl)
theorem dX1_go_61 : decode cX1_go 61 = .ok (.iload_n 3, 1) := dk_29 (dk_at dksX1_go_2 15 rfl rfl)
theorem dX1_go_62 : decode cX1_go 62 = .ok (.invokevirtual 139, 3) := dk_182 0 139 (dk_at dksX1_go_2 16 rfl rfl)
theorem dX1_go_65 : decode cX1_go 65 = .ok (.ifCond .ne 9, 3) := dk_154 0 9 (dk_at dksX1_go_2 19 rfl rfl)
theorem dX1_go_68 : decode cX1_go 68 = .ok (.aload_n 0, 1) := dk_42 (dk_at dksX1_go_2 22 rfl rfl)
theorem dX1_go_69 : decode cX1_go 69 = .ok (.iconst 2, 1) := dk_5 (dk_at dksX1_go_2 23 rfl rfl)
theorem dX1_go_70 : decode cX1_go 70 = .ok (.invokevirtual 84, 3) := dk_182 0 84 (dk_at dksX1_go_3 0 rfl rfl)
theorem dX1_go_73 : decode cX1_go 73 = .ok (.ireturn, 1) := dk_172 (dk_at dksX1_go_3 3 rfl rfl)
theorem dX1_go_74 : decode cX1_go 74 = .ok (.aload 5, 2) := dk_25 5 (dk_at dksX1_go_3 4 rfl rfl)
theorem dX1_go_76 : decode cX1_go 76 = .ok (.iload_n 2, 1) := dk_28 (dk_at dksX1_go_3 6 rfl rfl)
theorem dX1_go_77 : decode cX1_go 77 = .ok (.invokevirtual 310, 3) := dk_182 1 54 (dk_at dksX1_go_3 7 rfl rfl)
theorem dX1_go_80 : decode cX1_go 80 = .ok (.aload_n 0, 1) := dk_42 (dk_at dksX1_go_3 10 rfl rfl)
theorem dX1_go_81 : decode cX1_go 81 = .ok (.getfield 53, 3) := dk_180 0 53 (dk_at dksX1_go_3 11 rfl rfl)
theorem dX1_go_84 : decode cX1_go 84 = .ok (.getfield 285, 3) := dk_180 1 29 (dk_at dksX1_go_3 14 rfl rfl)
theorem dX1_go_87 : decode cX1_go 87 = .ok (.if_icmp .eq 9, 3) := dk_159 0 9 (dk_at dksX1_go_3 17 rfl rfl)
theorem dX1_go_90 : decode cX1_go 90 = .ok (.aload_n 0, 1) := dk_42 (dk_at dksX1_go_3 20 rfl rfl)
theorem dX1_go_91 : decode cX1_go 91 = .ok (.iconst 5, 1) := dk_8 (dk_at dksX1_go_3 21 rfl rfl)
theorem dX1_go_92 : decode cX1_go 92 = .ok (.invokevirtual 84, 3) := dk_182 0 84 (dk_at dksX1_go_4 0 rfl rfl)
theorem dX1_go_95 : decode cX1_go 95 = .ok (.ireturn, 1) := dk_172 (dk_at dksX1_go_4 3 rfl rfl)
theorem dX1_go_96 : decode cX1_go 96 = .ok (.aload_n 0, 1) := dk_42 (dk_at dksX1_go_4 4 rfl rfl)
theorem dX1_go_97 : decode cX1_go 97 = .ok (.getfield 53, 3) := dk_180 0 53 (dk_at dksX1_go_4 5 rfl rfl)
theorem dX1_go_100 : decode cX1_go 100 = .ok (.getfield 286, 3) := dk_180 1 30 (dk_at dksX1_go_4 8 rfl rfl)
theorem dX1_go_103 : decode cX1_go 103 = .ok (.aload 5, 2) := dk_25 5 (dk_at dksX1_go_4 11 rfl rfl)
theorem dX1_go_105 : decode cX1_go 105 = .ok (.iload_n 3, 1) := dk_29 (dk_at dksX1_go_4 13 rfl rfl)
theorem dX1_go_106 : decode cX1_go 106 = .ok (.invokevirtual 181, 3) := dk_182 0 181 (dk_at dksX1_go_4 14 rfl rfl)
theorem dX1_go_109 : decode cX1_go 109 = .ok (.iadd, 1) := dk_96 (dk_at dksX1_go_4 17 rfl rfl)
theorem dX1_go_110 : decode cX1_go 110 = .ok (.istore 6, 2) := dk_54 6 (dk_at dksX1_go_4 18 rfl rfl)
theorem dX1_go_112 : decode cX1_go 112 = .ok (.iload 6, 2) := dk_21 6 (dk_at dksX1_go_4 20 rfl rfl)
theorem dX1_go_114 : decode cX1_go 114 = .ok (.sipush 999, 3) := dk_17 3 231 (dk_at dksX1_go_5 0 rfl rfl)
theorem dX1_go_117 : decode cX1_go 117 = .ok (.if_icmp .le 9, 3) := dk_164 0 9 (dk_at dksX1_go_5 3 rfl rfl)
theorem dX1_go_120 : decode cX1_go 120 = .ok (.aload_n 0, 1) := dk_42 (dk_at dksX1_go_5 6 rfl rfl)
theorem dX1_go_121 : decode cX1_go 121 = .ok (.iconst 3, 1) := dk_6 (dk_at dksX1_go_5 7 rfl rfl)
theorem dX1_go_122 : decode cX1_go 122 = .ok (.invokevirtual 84, 3) := dk_182 0 84 (dk_at dksX1_go_5 8 rfl rfl)
theorem dX1_go_125 : decode cX1_go 125 = .ok (.ireturn, 1) := dk_172 (dk_at dksX1_go_5 11 rfl rfl)
theorem dX1_go_126 : decode cX1_go 126 = .ok (.aload_n 0, 1) := dk_42 (dk_at dksX1_go_5 12 rfl rfl)
theorem dX1_go_127 : decode cX1_go 127 = .ok (.invokevirtual 313, 3) := dk_182 1 57 (dk_at dksX1_go_5 13 rfl rfl)
theorem dX1_go_130 : decode cX1_go 130 = .ok (.aload_n 0, 1) := dk_42 (dk_at dksX1_go_5 16 rfl rfl)
theorem dX1_go_131 : decode cX1_go 131 = .ok (.aload_n 0, 1) := dk_42 (dk_at dksX1_go_5 17 rfl rfl)
theorem dX1_go_132 : decode cX1_go 132 = .ok (.getfield 53, 3) := dk_180 0 53 (dk_at dksX1_go_5 18 rfl rfl)
theorem dX1_go_135 : decode cX1_go 135 = .ok (.getfield 286, 3) := dk_180 1 30 (dk_at dksX1_go_5 21 rfl rfl)
theorem dX1_go_138 : decode cX1_go 138 = .ok (.invokevirtual 316, 3) := dk_182 1 60 (dk_at dksX1_go_6 0 rfl rfl)
theorem dX1_go_141 : decode cX1_go 141 = .ok (.istore 7, 2) := dk_54 7 (dk_at dksX1_go_6 3 rfl rfl)
theorem dX1_go_143 : decode cX1_go 143 = .ok (.iload 7, 2) := dk_21 7 (dk_at dksX1_go_6 5 rfl rfl)
theorem dX1_go_145 : decode cX1_go 145 = .ok (.iconst (-1), 1) := dk_2 (dk_at dksX1_go_6 7 rfl rfl)
theorem dX1_go_146 : decode cX1_go 146 = .ok (.if_icmp .eq 64, 3) := dk_159 0 64 (dk_at dksX1_go_6 8 rfl rfl)
theorem dX1_go_149 : decode cX1_go 149 = .ok (.aload_n 0, 1) := dk_42 (dk_at dksX1_go_6 11 rfl rfl)
theorem dX1_go_150 : decode cX1_go 150 = .ok (.getfield 36, 3) := dk_180 0 36 (dk_at dksX1_go_6 12 rfl rfl)
theorem dX1_go_153 : decode cX1_go 153 = .ok (.aload 4, 2) := dk_25 4 (dk_at dksX1_go_6 15 rfl rfl)
theorem dX1_go_155 : decode cX1_go 155 = .ok (.aload 5, 2) := dk_25 5 (dk_at dksX1_go_6 17 rfl rfl)
theorem dX1_go_157 : decode cX1_go 157 = .ok (.iload_n 2, 1) := dk_28 (dk_at dksX1_go_6 19 rfl rfl)
theorem dX1_go_158 : decode cX1_go 158 = .ok (.aload_n 0, 1) := dk_42 (dk_at dksX1_go_6 20 rfl rfl)
theorem dX1_go_159 : decode cX1_go 159 = .ok (.getfield 95, 3) := dk_180 0 95 (dk_at dksX1_go_6 21 rfl rfl)
theorem dX1_go_162 : decode cX1_go 162 = .ok (.getfield 148, 3) := dk_180 0 148 (dk_at dksX1_go_7 0 rfl rfl)
theorem dX1_go_165 : decode cX1_go 165 = .ok (.iload 7, 2) := dk_21 7 (dk_at dksX1_go_7 3 rfl rfl)
theorem dX1_go_167 : decode cX1_go 167 = .ok (.aaload, 1) := dk_50 (dk_at dksX1_go_7 5 rfl rfl)
theorem dX1_go_168 : decode cX1_go 168 = .ok (.iload_n 3, 1) := dk_29 (dk_at dksX1_go_7 6 rfl rfl)
theorem dX1_go_169 : decode cX1_go 169 = .ok (.invokevirtual 152, 3) := dk_182 0 152 (dk_at dksX1_go_7 7 rfl rfl)
theorem dX1_go_172 : decode cX1_go 172 = .ok (.iconst 0, 1) := dk_3 (dk_at dksX1_go_7 10 rfl rfl)
theorem dX1_go_173 : decode cX1_go 173 = .ok (.istore 8, 2) := dk_54 8 (dk_at dksX1_go_7 11 rfl rfl)
theorem dX1_go_175 : decode cX1_go 175 = .ok (.iload 8, 2) := dk_21 8 (dk_at dksX1_go_7 13 rfl rfl)
theorem dX1_go_177 : decode cX1_go 177 = .ok (.iconst 5, 1) := dk_8 (dk_at dksX1_go_7 15 rfl rfl)
theorem dX1_go_178 : decode cX1_go 178 = .ok (.if_icmp .ge 32, 3) := dk_162 0 32 (dk_at dksX1_go_7 16 rfl rfl)
theorem dX1_go_181 : decode cX1_go 181 = .ok (.aload_n 0, 1) := dk_42 (dk_at dksX1_go_7 19 rfl rfl)
theorem dX1_go_182 : decode cX1_go 182 = .ok (.getfield 53, 3) := dk_180 0 53 (dk_at dksX1_go_7 20 rfl rfl)
theorem dX1_go_185 : decode cX1_go 185 = .ok (.getfield 289, 3) := dk_180 1 33 (dk_at dksX1_go_8 0 rfl rfl)
theorem dX1_go_188 : decode cX1_go 188 = .ok (.iload 8, 2) := dk_21 8 (dk_at dksX1_go_8 3 rfl rfl)
theorem dX1_go_190 : decode cX1_go 190 = .ok (.dup2, 1) := dk_92 (dk_at dksX1_go_8 5 rfl rfl)
theorem dX1_go_191 : decode cX1_go 191 = .ok (.laload, 1) := dk_47 (dk_at dksX1_go_8 6 rfl rfl)
theorem dX1_go_192 : decode cX1_go 192 = .ok (.aload_n 0, 1) := dk_42 (dk_at dksX1_go_8 7 rfl rfl)
theorem dX1_go_193 : decode cX1_go 193 = .ok (.getfield 36, 3) := dk_180 0 36 (dk_at dksX1_go_8 8 rfl rfl)
theorem dX1_go_196 : decode cX1_go 196 = .ok (.getfield 160, 3) := dk_180 0 160 (dk_at dksX1_go_8 11 rfl rfl)
theorem dX1_go_199 : decode cX1_go 199 = .ok (.iload 8, 2) := dk_21 8 (dk_at dksX1_go_8 14 rfl rfl)
theorem dX1_go_201 : decode cX1_go 201 = .ok (.laload, 1) := dk_47 (dk_at dksX1_go_8 16 rfl rfl)
theorem dX1_go_202 : decode cX1_go 202 = .ok (.ladd, 1) := dk_97 (dk_at dksX1_go_8 17 rfl rfl)
theorem dX1_go_203 : decode cX1_go 203 = .ok (.lastore, 1) := dk_80 (dk_at dksX1_go_8 18 rfl rfl)
theorem dX1_go_204 : decode cX1_go 204 = .ok (.iinc 8 1, 3) := dk_132 8 1 (dk_at dksX1_go_8 19 rfl rfl)
theorem dX1_go_207 : decode cX1_go 207 = .ok (.goto (-32), 3) := dk_167 255 224 (dk_at dksX1_go_9 0 rfl rfl)
theorem dX1_go_210 : decode cX1_go 210 = .ok (.aload_n 0, 1) := dk_42 (dk_at dksX1_go_9 3 rfl rfl)
theorem dX1_go_211 : decode cX1_go 211 = .ok (.getfield 53, 3) := dk_180 0 53 (dk_at dksX1_go_9 4 rfl rfl)
theorem dX1_go_214 : decode cX1_go 214 = .ok (.aload 5, 2) := dk_25 5 (dk_at dksX1_go_9 7 rfl rfl)
theorem dX1_go_216 : decode cX1_go 216 = .ok (.iload_n 2, 1) := dk_28 (dk_at dksX1_go_9 9 rfl rfl)
theorem dX1_go_217 : decode cX1_go 217 = .ok (.invokevirtual 319, 3) := dk_182 1 63 (dk_at dksX1_go_9 10 rfl rfl)
theorem dX1_go_220 : decode cX1_go 220 = .ok (.putfield 285, 3) := dk_181 1 29 (dk_at dksX1_go_9 13 rfl rfl)
theorem dX1_go_223 : decode cX1_go 223 = .ok (.aload_n 0, 1) := dk_42 (dk_at dksX1_go_9 16 rfl rfl)
theorem dX1_go_224 : decode cX1_go 224 = .ok (.getfield 53, 3) := dk_180 0 53 (dk_at dksX1_go_9 17 rfl rfl)
theorem dX1_go_227 : decode cX1_go 227 = .ok (.iload 6, 2) := dk_21 6 (dk_at dksX1_go_9 20 rfl rfl)
theorem dX1_go_229 : decode cX1_go 229 = .ok (.putfield 286, 3) := dk_181 1 30 (dk_at dksX1_go_10 0 rfl rfl)
theorem dX1_go_232 : decode cX1_go 232 = .ok (.aload_n 0, 1) := dk_42 (dk_at dksX1_go_10 3 rfl rfl)
theorem dX1_go_233 : decode cX1_go 233 = .ok (.invokevirtual 322, 3) := dk_182 1 66 (dk_at dksX1_go_10 4 rfl rfl)
theorem dX1_go_236 : decode cX1_go 236 = .ok (.pop, 1) := dk_87 (dk_at dksX1_go_10 7 rfl rfl)
theorem dX1_go_237 : decode cX1_go 237 = .ok (.iload 6, 2) := dk_21 6 (dk_at dksX1_go_10 8 rfl rfl)
theorem dX1_go_239 : decode cX1_go 239 = .ok (.ireturn, 1) := dk_172 (dk_at dksX1_go_10 10 rfl rfl)
abbrev cX1_hasDay : ByteArray := prog_1_method_50_code
def yX1_hasDay : MethodName := ⟨RX1, "hasDay", "()Z"⟩
def dkwX1_hasDay_0 : List UInt8 := [42, 180, 0, 95, 198, 0, 16, 42, 180, 0, 30, 16, 254, 159, 0, 7, 4, 167, 0, 4, 3, 172]
abbrev dktX1_hasDay_0 : List UInt8 := dkwX1_hasDay_0 ++ []
theorem dksX1_hasDay_0 : cX1_hasDay.data.toList.drop 0 = dktX1_hasDay_0 := by decide +kernel
theorem dX1_hasDay_0 : decode cX1_hasDay 0 = .ok (.aload_n 0, 1) := dk_42 (dk_at dksX1_hasDay_0 0 rfl rfl)
theorem dX1_hasDay_1 : decode cX1_hasDay 1 = .ok (.getfield 95, 3) := dk_180 0 95 (dk_at dksX1_hasDay_0 1 rfl rfl)
theorem dX1_hasDay_4 : decode cX1_hasDay 4 = .ok (.ifnull 16, 3) := dk_198 0 16 (dk_at dksX1_hasDay_0 4 rfl rfl)
theorem dX1_hasDay_7 : decode cX1_hasDay 7 = .ok (.aload_n 0, 1) := dk_42 (dk_at dksX1_hasDay_0 7 rfl rfl)
theorem dX1_hasDay_8 : decode cX1_hasDay 8 = .ok (.getfield 30, 3) := dk_180 0 30 (dk_at dksX1_hasDay_0 8 rfl rfl)
theorem dX1_hasDay_11 : decode cX1_hasDay 11 = .ok (.bipush (-2), 2) := dk_16 254 (dk_at dksX1_hasDay_0 11 rfl rfl)
theorem dX1_hasDay_13 : decode cX1_hasDay 13 = .ok (.if_icmp .eq 7, 3) := dk_159 0 7 (dk_at dksX1_hasDay_0 13 rfl rfl)
theorem dX1_hasDay_16 : decode cX1_hasDay 16 = .ok (.iconst 1, 1) := dk_4 (dk_at dksX1_hasDay_0 16 rfl rfl)
theorem dX1_hasDay_17 : decode cX1_hasDay 17 = .ok (.goto 4, 3) := dk_167 0 4 (dk_at dksX1_hasDay_0 17 rfl rfl)
theorem dX1_hasDay_20 : decode cX1_hasDay 20 = .ok (.iconst 0, 1) := dk_3 (dk_at dksX1_hasDay_0 20 rfl rfl)
theorem dX1_hasDay_21 : decode cX1_hasDay 21 = .ok (.ireturn, 1) := dk_172 (dk_at dksX1_hasDay_0 21 rfl rfl)
abbrev cX1_note : ByteArray := prog_1_method_53_code
def yX1_note : MethodName := ⟨RX1, "note", "()V"⟩
def dkwX1_note_0 : List UInt8 := [42, 180, 0, 57, 42, 180, 0, 53, 182, 1, 46, 177]
abbrev dktX1_note_0 : List UInt8 := dkwX1_note_0 ++ []
theorem dksX1_note_0 : cX1_note.data.toList.drop 0 = dktX1_note_0 := by decide +kernel
theorem dX1_note_0 : decode cX1_note 0 = .ok (.aload_n 0, 1) := dk_42 (dk_at dksX1_note_0 0 rfl rfl)
theorem dX1_note_1 : decode cX1_note 1 = .ok (.getfield 57, 3) := dk_180 0 57 (dk_at dksX1_note_0 1 rfl rfl)
theorem dX1_note_4 : decode cX1_note 4 = .ok (.aload_n 0, 1) := dk_42 (dk_at dksX1_note_0 4 rfl rfl)
theorem dX1_note_5 : decode cX1_note 5 = .ok (.getfield 53, 3) := dk_180 0 53 (dk_at dksX1_note_0 5 rfl rfl)
theorem dX1_note_8 : decode cX1_note 8 = .ok (.invokevirtual 302, 3) := dk_182 1 46 (dk_at dksX1_note_0 8 rfl rfl)
theorem dX1_note_11 : decode cX1_note 11 = .ok (.return_, 1) := dk_177 (dk_at dksX1_note_0 11 rfl rfl)
abbrev cX1_rainHour : ByteArray := prog_1_method_52_code
def yX1_rainHour : MethodName := ⟨RX1, "rainHour", "(I)I"⟩
def dkwX1_rainHour_1 : List UInt8 := [153, 0, 7, 28, 167, 0, 4, 2, 172]
abbrev dktX1_rainHour_1 : List UInt8 := dkwX1_rainHour_1 ++ []
def dkwX1_rainHour_0 : List UInt8 := [42, 180, 0, 95, 27, 182, 1, 40, 61, 28, 2, 159, 0, 18, 42, 180, 1, 36, 28, 184, 1, 43]
abbrev dktX1_rainHour_0 : List UInt8 := dkwX1_rainHour_0 ++ dktX1_rainHour_1
theorem dksX1_rainHour_0 : cX1_rainHour.data.toList.drop 0 = dktX1_rainHour_0 := by decide +kernel
theorem dksX1_rainHour_1 : cX1_rainHour.data.toList.drop 22 = dktX1_rainHour_1 := dk_seg dksX1_rainHour_0 22 rfl rfl
theorem dX1_rainHour_0 : decode cX1_rainHour 0 = .ok (.aload_n 0, 1) := dk_42 (dk_at dksX1_rainHour_0 0 rfl rfl)
theorem dX1_rainHour_1 : decode cX1_rainHour 1 = .ok (.getfield 95, 3) := dk_180 0 95 (dk_at dksX1_rainHour_0 1 rfl rfl)
theorem dX1_rainHour_4 : decode cX1_rainHour 4 = .ok (.iload_n 1, 1) := dk_27 (dk_at dksX1_rainHour_0 4 rfl rfl)
theorem dX1_rainHour_5 : decode cX1_rainHour 5 = .ok (.invokevirtual 296, 3) := dk_182 1 40 (dk_at dksX1_rainHour_0 5 rfl rfl)
theorem dX1_rainHour_8 : decode cX1_rainHour 8 = .ok (.istore_n 2, 1) := dk_61 (dk_at dksX1_rainHour_0 8 rfl rfl)
theorem dX1_rainHour_9 : decode cX1_rainHour 9 = .ok (.iload_n 2, 1) := dk_28 (dk_at dksX1_rainHour_0 9 rfl rfl)
theorem dX1_rainHour_10 : decode cX1_rainHour 10 = .ok (.iconst (-1), 1) := dk_2 (dk_at dksX1_rainHour_0 10 rfl rfl)
theorem dX1_rainHour_11 : decode cX1_rainHour 11 = .ok (.if_icmp .eq 18, 3) := dk_159 0 18 (dk_at dksX1_rainHour_0 11 rfl rfl)
theorem dX1_rainHour_14 : decode cX1_rainHour 14 = .ok (.aload_n 0, 1) := dk_42 (dk_at dksX1_rainHour_0 14 rfl rfl)
theorem dX1_rainHour_15 : decode cX1_rainHour 15 = .ok (.getfield 292, 3) := dk_180 1 36 (dk_at dksX1_rainHour_0 15 rfl rfl)
theorem dX1_rainHour_18 : decode cX1_rainHour 18 = .ok (.iload_n 2, 1) := dk_28 (dk_at dksX1_rainHour_0 18 rfl rfl)
theorem dX1_rainHour_19 : decode cX1_rainHour 19 = .ok (.invokestatic 299, 3) := dk_184 1 43 (dk_at dksX1_rainHour_0 19 rfl rfl)
theorem dX1_rainHour_22 : decode cX1_rainHour 22 = .ok (.ifCond .eq 7, 3) := dk_153 0 7 (dk_at dksX1_rainHour_1 0 rfl rfl)
theorem dX1_rainHour_25 : decode cX1_rainHour 25 = .ok (.iload_n 2, 1) := dk_28 (dk_at dksX1_rainHour_1 3 rfl rfl)
theorem dX1_rainHour_26 : decode cX1_rainHour 26 = .ok (.goto 4, 3) := dk_167 0 4 (dk_at dksX1_rainHour_1 4 rfl rfl)
theorem dX1_rainHour_29 : decode cX1_rainHour 29 = .ok (.iconst (-1), 1) := dk_2 (dk_at dksX1_rainHour_1 7 rfl rfl)
theorem dX1_rainHour_30 : decode cX1_rainHour 30 = .ok (.ireturn, 1) := dk_172 (dk_at dksX1_rainHour_1 8 rfl rfl)
abbrev cX1_has : ByteArray := prog_1_method_2_code
def yX1_has : MethodName := ⟨RX1, "has", "(II)Z"⟩
def dkwX1_has_0 : List UInt8 := [26, 27, 122, 4, 126, 4, 160, 0, 7, 4, 167, 0, 4, 3, 172]
abbrev dktX1_has_0 : List UInt8 := dkwX1_has_0 ++ []
theorem dksX1_has_0 : cX1_has.data.toList.drop 0 = dktX1_has_0 := by decide +kernel
theorem dX1_has_0 : decode cX1_has 0 = .ok (.iload_n 0, 1) := dk_26 (dk_at dksX1_has_0 0 rfl rfl)
theorem dX1_has_1 : decode cX1_has 1 = .ok (.iload_n 1, 1) := dk_27 (dk_at dksX1_has_0 1 rfl rfl)
theorem dX1_has_2 : decode cX1_has 2 = .ok (.ishr, 1) := dk_122 (dk_at dksX1_has_0 2 rfl rfl)
theorem dX1_has_3 : decode cX1_has 3 = .ok (.iconst 1, 1) := dk_4 (dk_at dksX1_has_0 3 rfl rfl)
theorem dX1_has_4 : decode cX1_has 4 = .ok (.iand, 1) := dk_126 (dk_at dksX1_has_0 4 rfl rfl)
theorem dX1_has_5 : decode cX1_has 5 = .ok (.iconst 1, 1) := dk_4 (dk_at dksX1_has_0 5 rfl rfl)
theorem dX1_has_6 : decode cX1_has 6 = .ok (.if_icmp .ne 7, 3) := dk_160 0 7 (dk_at dksX1_has_0 6 rfl rfl)
theorem dX1_has_9 : decode cX1_has 9 = .ok (.iconst 1, 1) := dk_4 (dk_at dksX1_has_0 9 rfl rfl)
theorem dX1_has_10 : decode cX1_has 10 = .ok (.goto 4, 3) := dk_167 0 4 (dk_at dksX1_has_0 10 rfl rfl)
theorem dX1_has_13 : decode cX1_has 13 = .ok (.iconst 0, 1) := dk_3 (dk_at dksX1_has_0 13 rfl rfl)
theorem dX1_has_14 : decode cX1_has 14 = .ok (.ireturn, 1) := dk_172 (dk_at dksX1_has_0 14 rfl rfl)
abbrev cX1_done : ByteArray := prog_1_method_54_code
def yX1_done : MethodName := ⟨RX1, "done", "()Z"⟩
def dkwX1_done_3 : List UInt8 := [180, 0, 57, 182, 1, 46, 42, 89, 180, 0, 105, 4, 96, 181, 0, 105, 4, 172]
abbrev dktX1_done_3 : List UInt8 := dkwX1_done_3 ++ []
def dkwX1_done_2 : List UInt8 := [16, 15, 43, 83, 42, 89, 180, 0, 105, 4, 100, 181, 0, 105, 42, 180, 0, 60, 42, 180, 0, 105, 50, 42]
abbrev dktX1_done_2 : List UInt8 := dkwX1_done_2 ++ dktX1_done_3
def dkwX1_done_1 : List UInt8 := [42, 180, 0, 60, 28, 4, 100, 42, 180, 0, 60, 28, 50, 83, 132, 2, 1, 167, 255, 233, 42, 180, 0, 60]
abbrev dktX1_done_1 : List UInt8 := dkwX1_done_1 ++ dktX1_done_2
def dkwX1_done_0 : List UInt8 := [42, 180, 0, 105, 16, 16, 160, 0, 56, 42, 180, 0, 60, 3, 50, 76, 4, 61, 28, 16, 16, 162, 0, 23]
abbrev dktX1_done_0 : List UInt8 := dkwX1_done_0 ++ dktX1_done_1
theorem dksX1_done_0 : cX1_done.data.toList.drop 0 = dktX1_done_0 := by decide +kernel
theorem dksX1_done_1 : cX1_done.data.toList.drop 24 = dktX1_done_1 := dk_seg dksX1_done_0 24 rfl rfl
theorem dksX1_done_2 : cX1_done.data.toList.drop 48 = dktX1_done_2 := dk_seg dksX1_done_1 24 rfl rfl
theorem dksX1_done_3 : cX1_done.data.toList.drop 72 = dktX1_done_3 := dk_seg dksX1_done_2 24 rfl rfl
theorem dX1_done_0 : decode cX1_done 0 = .ok (.aload_n 0, 1) := dk_42 (dk_at dksX1_done_0 0 rfl rfl)
theorem dX1_done_1 : decode cX1_done 1 = .ok (.getfield 105, 3) := dk_180 0 105 (dk_at dksX1_done_0 1 rfl rfl)
theorem dX1_done_4 : decode cX1_done 4 = .ok (.bipush 16, 2) := dk_16 16 (dk_at dksX1_done_0 4 rfl rfl)
theorem dX1_done_6 : decode cX1_done 6 = .ok (.if_icmp .ne 56, 3) := dk_160 0 56 (dk_at dksX1_done_0 6 rfl rfl)
theorem dX1_done_9 : decode cX1_done 9 = .ok (.aload_n 0, 1) := dk_42 (dk_at dksX1_done_0 9 rfl rfl)
theorem dX1_done_10 : decode cX1_done 10 = .ok (.getfield 60, 3) := dk_180 0 60 (dk_at dksX1_done_0 10 rfl rfl)
theorem dX1_done_13 : decode cX1_done 13 = .ok (.iconst 0, 1) := dk_3 (dk_at dksX1_done_0 13 rfl rfl)
theorem dX1_done_14 : decode cX1_done 14 = .ok (.aaload, 1) := dk_50 (dk_at dksX1_done_0 14 rfl rfl)
theorem dX1_done_15 : decode cX1_done 15 = .ok (.astore_n 1, 1) := dk_76 (dk_at dksX1_done_0 15 rfl rfl)
theorem dX1_done_16 : decode cX1_done 16 = .ok (.iconst 1, 1) := dk_4 (dk_at dksX1_done_0 16 rfl rfl)
theorem dX1_done_17 : decode cX1_done 17 = .ok (.istore_n 2, 1) := dk_61 (dk_at dksX1_done_0 17 rfl rfl)
theorem dX1_done_18 : decode cX1_done 18 = .ok (.iload_n 2, 1) := dk_28 (dk_at dksX1_done_0 18 rfl rfl)
theorem dX1_done_19 : decode cX1_done 19 = .ok (.bipush 16, 2) := dk_16 16 (dk_at dksX1_done_0 19 rfl rfl)
theorem dX1_done_21 : decode cX1_done 21 = .ok (.if_icmp .ge 23, 3) := dk_162 0 23 (dk_at dksX1_done_0 21 rfl rfl)
theorem dX1_done_24 : decode cX1_done 24 = .ok (.aload_n 0, 1) := dk_42 (dk_at dksX1_done_1 0 rfl rfl)
theorem dX1_done_25 : decode cX1_done 25 = .ok (.getfield 60, 3) := dk_180 0 60 (dk_at dksX1_done_1 1 rfl rfl)
theorem dX1_done_28 : decode cX1_done 28 = .ok (.iload_n 2, 1) := dk_28 (dk_at dksX1_done_1 4 rfl rfl)
theorem dX1_done_29 : decode cX1_done 29 = .ok (.iconst 1, 1) := dk_4 (dk_at dksX1_done_1 5 rfl rfl)
theorem dX1_done_30 : decode cX1_done 30 = .ok (.isub, 1) := dk_100 (dk_at dksX1_done_1 6 rfl rfl)
theorem dX1_done_31 : decode cX1_done 31 = .ok (.aload_n 0, 1) := dk_42 (dk_at dksX1_done_1 7 rfl rfl)
theorem dX1_done_32 : decode cX1_done 32 = .ok (.getfield 60, 3) := dk_180 0 60 (dk_at dksX1_done_1 8 rfl rfl)
theorem dX1_done_35 : decode cX1_done 35 = .ok (.iload_n 2, 1) := dk_28 (dk_at dksX1_done_1 11 rfl rfl)
theorem dX1_done_36 : decode cX1_done 36 = .ok (.aaload, 1) := dk_50 (dk_at dksX1_done_1 12 rfl rfl)
theorem dX1_done_37 : decode cX1_done 37 = .ok (.aastore, 1) := dk_83 (dk_at dksX1_done_1 13 rfl rfl)
theorem dX1_done_38 : decode cX1_done 38 = .ok (.iinc 2 1, 3) := dk_132 2 1 (dk_at dksX1_done_1 14 rfl rfl)
theorem dX1_done_41 : decode cX1_done 41 = .ok (.goto (-23), 3) := dk_167 255 233 (dk_at dksX1_done_1 17 rfl rfl)
theorem dX1_done_44 : decode cX1_done 44 = .ok (.aload_n 0, 1) := dk_42 (dk_at dksX1_done_1 20 rfl rfl)
theorem dX1_done_45 : decode cX1_done 45 = .ok (.getfield 60, 3) := dk_180 0 60 (dk_at dksX1_done_1 21 rfl rfl)
theorem dX1_done_48 : decode cX1_done 48 = .ok (.bipush 15, 2) := dk_16 15 (dk_at dksX1_done_2 0 rfl rfl)
theorem dX1_done_50 : decode cX1_done 50 = .ok (.aload_n 1, 1) := dk_43 (dk_at dksX1_done_2 2 rfl rfl)
theorem dX1_done_51 : decode cX1_done 51 = .ok (.aastore, 1) := dk_83 (dk_at dksX1_done_2 3 rfl rfl)
theorem dX1_done_52 : decode cX1_done 52 = .ok (.aload_n 0, 1) := dk_42 (dk_at dksX1_done_2 4 rfl rfl)
theorem dX1_done_53 : decode cX1_done 53 = .ok (.dup, 1) := dk_89 (dk_at dksX1_done_2 5 rfl rfl)
theorem dX1_done_54 : decode cX1_done 54 = .ok (.getfield 105, 3) := dk_180 0 105 (dk_at dksX1_done_2 6 rfl rfl)
theorem dX1_done_57 : decode cX1_done 57 = .ok (.iconst 1, 1) := dk_4 (dk_at dksX1_done_2 9 rfl rfl)
theorem dX1_done_58 : decode cX1_done 58 = .ok (.isub, 1) := dk_100 (dk_at dksX1_done_2 10 rfl rfl)
theorem dX1_done_59 : decode cX1_done 59 = .ok (.putfield 105, 3) := dk_181 0 105 (dk_at dksX1_done_2 11 rfl rfl)
theorem dX1_done_62 : decode cX1_done 62 = .ok (.aload_n 0, 1) := dk_42 (dk_at dksX1_done_2 14 rfl rfl)
theorem dX1_done_63 : decode cX1_done 63 = .ok (.getfield 60, 3) := dk_180 0 60 (dk_at dksX1_done_2 15 rfl rfl)
theorem dX1_done_66 : decode cX1_done 66 = .ok (.aload_n 0, 1) := dk_42 (dk_at dksX1_done_2 18 rfl rfl)
theorem dX1_done_67 : decode cX1_done 67 = .ok (.getfield 105, 3) := dk_180 0 105 (dk_at dksX1_done_2 19 rfl rfl)
theorem dX1_done_70 : decode cX1_done 70 = .ok (.aaload, 1) := dk_50 (dk_at dksX1_done_2 22 rfl rfl)
theorem dX1_done_71 : decode cX1_done 71 = .ok (.aload_n 0, 1) := dk_42 (dk_at dksX1_done_2 23 rfl rfl)
theorem dX1_done_72 : decode cX1_done 72 = .ok (.getfield 57, 3) := dk_180 0 57 (dk_at dksX1_done_3 0 rfl rfl)
theorem dX1_done_75 : decode cX1_done 75 = .ok (.invokevirtual 302, 3) := dk_182 1 46 (dk_at dksX1_done_3 3 rfl rfl)
theorem dX1_done_78 : decode cX1_done 78 = .ok (.aload_n 0, 1) := dk_42 (dk_at dksX1_done_3 6 rfl rfl)
theorem dX1_done_79 : decode cX1_done 79 = .ok (.dup, 1) := dk_89 (dk_at dksX1_done_3 7 rfl rfl)
theorem dX1_done_80 : decode cX1_done 80 = .ok (.getfield 105, 3) := dk_180 0 105 (dk_at dksX1_done_3 8 rfl rfl)
theorem dX1_done_83 : decode cX1_done 83 = .ok (.iconst 1, 1) := dk_4 (dk_at dksX1_done_3 11 rfl rfl)
theorem dX1_done_84 : decode cX1_done 84 = .ok (.iadd, 1) := dk_96 (dk_at dksX1_done_3 12 rfl rfl)
theorem dX1_done_85 : decode cX1_done 85 = .ok (.putfield 105, 3) := dk_181 0 105 (dk_at dksX1_done_3 13 rfl rfl)
theorem dX1_done_88 : decode cX1_done 88 = .ok (.iconst 1, 1) := dk_4 (dk_at dksX1_done_3 16 rfl rfl)
theorem dX1_done_89 : decode cX1_done 89 = .ok (.ireturn, 1) := dk_172 (dk_at dksX1_done_3 17 rfl rfl)
abbrev cX1_stay : ByteArray := prog_1_method_56_code
def yX1_stay : MethodName := ⟨RX1, "stay", "(I)Z"⟩
def dkwX1_stay_7 : List UInt8 := [180, 1, 30, 4, 96, 181, 1, 30, 132, 4, 1, 167, 255, 181, 42, 182, 1, 66, 172]
abbrev dktX1_stay_7 : List UInt8 := dkwX1_stay_7 ++ []
def dkwX1_stay_6 : List UInt8 := [180, 0, 95, 180, 0, 135, 42, 180, 0, 30, 50, 182, 1, 84, 133, 105, 97, 80, 42, 180, 0, 53, 89]
abbrev dktX1_stay_6 : List UInt8 := dkwX1_stay_6 ++ dktX1_stay_7
def dkwX1_stay_5 : List UInt8 := [159, 0, 41, 42, 180, 0, 53, 180, 1, 33, 3, 92, 47, 20, 0, 164, 44, 180, 1, 81, 133, 105, 42]
abbrev dktX1_stay_5 : List UInt8 := dkwX1_stay_5 ++ dktX1_stay_6
def dkwX1_stay_4 : List UInt8 := [182, 1, 57, 3, 54, 4, 21, 4, 27, 162, 0, 75, 42, 42, 180, 0, 53, 180, 1, 30, 182, 1, 60, 2]
abbrev dktX1_stay_4 : List UInt8 := dkwX1_stay_4 ++ dktX1_stay_5
def dkwX1_stay_3 : List UInt8 := [17, 3, 231, 164, 0, 7, 6, 167, 0, 4, 3, 62, 42, 29, 182, 1, 78, 154, 0, 5, 3, 172, 42]
abbrev dktX1_stay_3 : List UInt8 := dkwX1_stay_3 ++ dktX1_stay_4
def dkwX1_stay_2 : List UInt8 := [167, 0, 34, 44, 182, 1, 73, 154, 0, 7, 8, 167, 0, 23, 42, 180, 0, 53, 180, 1, 30, 27, 96]
abbrev dktX1_stay_2 : List UInt8 := dkwX1_stay_2 ++ dktX1_stay_3
def dkwX1_stay_1 : List UInt8 := [167, 0, 4, 1, 77, 44, 199, 0, 7, 4, 167, 0, 48, 27, 4, 16, 60, 184, 0, 80, 154, 0, 7, 5]
abbrev dktX1_stay_1 : List UInt8 := dkwX1_stay_1 ++ dktX1_stay_2
def dkwX1_stay_0 : List UInt8 := [42, 182, 1, 50, 153, 0, 21, 42, 180, 0, 95, 180, 1, 69, 42, 180, 0, 53, 180, 1, 29, 50]
abbrev dktX1_stay_0 : List UInt8 := dkwX1_stay_0 ++ dktX1_stay_1
theorem dksX1_stay_0 : cX1_stay.data.toList.drop 0 = dktX1_stay_0 := by decide +kernel
theorem dksX1_stay_1 : cX1_stay.data.toList.drop 22 = dktX1_stay_1 := dk_seg dksX1_stay_0 22 rfl rfl
theorem dksX1_stay_2 : cX1_stay.data.toList.drop 46 = dktX1_stay_2 := dk_seg dksX1_stay_1 24 rfl rfl
theorem dksX1_stay_3 : cX1_stay.data.toList.drop 69 = dktX1_stay_3 := dk_seg dksX1_stay_2 23 rfl rfl
theorem dksX1_stay_4 : cX1_stay.data.toList.drop 92 = dktX1_stay_4 := dk_seg dksX1_stay_3 23 rfl rfl
theorem dksX1_stay_5 : cX1_stay.data.toList.drop 116 = dktX1_stay_5 := dk_seg dksX1_stay_4 24 rfl rfl
theorem dksX1_stay_6 : cX1_stay.data.toList.drop 139 = dktX1_stay_6 := dk_seg dksX1_stay_5 23 rfl rfl
theorem dksX1_stay_7 : cX1_stay.data.toList.drop 162 = dktX1_stay_7 := dk_seg dksX1_stay_6 23 rfl rfl
theorem dX1_stay_0 : decode cX1_stay 0 = .ok (.aload_n 0, 1) := dk_42 (dk_at dksX1_stay_0 0 rfl rfl)
theorem dX1_stay_1 : decode cX1_stay 1 = .ok (.invokevirtual 306, 3) := dk_182 1 50 (dk_at dksX1_stay_0 1 rfl rfl)
theorem dX1_stay_4 : decode cX1_stay 4 = .ok (.ifCond .eq 21, 3) := dk_153 0 21 (dk_at dksX1_stay_0 4 rfl rfl)
theorem dX1_stay_7 : decode cX1_stay 7 = .ok (.aload_n 0, 1) := dk_42 (dk_at dksX1_stay_0 7 rfl rfl)
theorem dX1_stay_8 : decode cX1_stay 8 = .ok (.getfield 95, 3) := dk_180 0 95 (dk_at dksX1_stay_0 8 rfl rfl)
theorem dX1_stay_11 : decode cX1_stay 11 = .ok (.getfield 325, 3) := dk_180 1 69 (dk_at dksX1_stay_0 11 rfl rfl)
theorem dX1_stay_14 : decode cX1_stay 14 = .ok (.aload_n 0, 1) := dk_42 (dk_at dksX1_stay_0 14 rfl rfl)
theorem dX1_stay_15 : decode cX1_stay 15 = .ok (.getfield 53, 3) := dk_180 0 53 (dk_at dksX1_stay_0 15 rfl rfl)
theorem dX1_stay_18 : decode cX1_stay 18 = .ok (.getfield 285, 3) := dk_180 1 29 (dk_at dksX1_stay_0 18 rfl rfl)
theorem dX1_stay_21 : decode cX1_stay 21 = .ok (.aaload, 1) := dk_50 (dk_at dksX1_stay_0 21 rfl rfl)
theorem dX1_stay_22 : decode cX1_stay 22 = .ok (.goto 4, 3) := dk_167 0 4 (dk_at dksX1_stay_1 0 rfl rfl)
theorem dX1_stay_25 : decode cX1_stay 25 = .ok (.aconst_null, 1) := dk_1 (dk_at dksX1_stay_1 3 rfl rfl)
theorem dX1_stay_26 : decode cX1_stay 26 = .ok (.astore_n 2, 1) := dk_77 (dk_at dksX1_stay_1 4 rfl rfl)
theorem dX1_stay_27 : decode cX1_stay 27 = .ok (.aload_n 2, 1) := dk_44 (dk_at dksX1_stay_1 5 rfl rfl)
theorem dX1_stay_28 : decode cX1_stay 28 = .ok (.ifnonnull 7, 3) := dk_199 0 7 (dk_at dksX1_stay_1 6 rfl rfl)
theorem dX1_stay_31 : decode cX1_stay 31 = .ok (.iconst 1, 1) := dk_4 (dk_at dksX1_stay_1 9 rfl rfl)
theorem dX1_stay_32 : decode cX1_stay 32 = .ok (.goto 48, 3) := dk_167 0 48 (dk_at dksX1_stay_1 10 rfl rfl)
theorem dX1_stay_35 : decode cX1_stay 35 = .ok (.iload_n 1, 1) := dk_27 (dk_at dksX1_stay_1 13 rfl rfl)
theorem dX1_stay_36 : decode cX1_stay 36 = .ok (.iconst 1, 1) := dk_4 (dk_at dksX1_stay_1 14 rfl rfl)
theorem dX1_stay_37 : decode cX1_stay 37 = .ok (.bipush 60, 2) := dk_16 60 (dk_at dksX1_stay_1 15 rfl rfl)
theorem dX1_stay_39 : decode cX1_stay 39 = .ok (.invokestatic 80, 3) := dk_184 0 80 (dk_at dksX1_stay_1 17 rfl rfl)
theorem dX1_stay_42 : decode cX1_stay 42 = .ok (.ifCond .ne 7, 3) := dk_154 0 7 (dk_at dksX1_stay_1 20 rfl rfl)
theorem dX1_stay_45 : decode cX1_stay 45 = .ok (.iconst 2, 1) := dk_5 (dk_at dksX1_stay_1 23 rfl rfl)
theorem dX1_stay_46 : decode cX1_stay 46 = .ok (.goto 34, 3) := dk_167 0 34 (dk_at dksX1_stay_2 0 rfl rfl)
theorem dX1_stay_49 : decode cX1_stay 49 = .ok (.aload_n 2, 1) := dk_44 (dk_at dksX1_stay_2 3 rfl rfl)
theorem dX1_stay_50 : decode cX1_stay 50 = .ok (.invokevirtual 329, 3) := dk_182 1 73 (dk_at dksX1_stay_2 4 rfl rfl)
theorem dX1_stay_53 : decode cX1_stay 53 = .ok (.ifCond .ne 7, 3) := dk_154 0 7 (dk_at dksX1_stay_2 7 rfl rfl)
theorem dX1_stay_56 : decode cX1_stay 56 = .ok (.iconst 5, 1) := dk_8 (dk_at dksX1_stay_2 10 rfl rfl)
theorem dX1_stay_57 : decode cX1_stay 57 = .ok (.goto 23, 3) := dk_167 0 23 (dk_at dksX1_stay_2 11 rfl rfl)
theorem dX1_stay_60 : decode cX1_stay 60 = .ok (.aload_n 0, 1) := dk_42 (dk_at dksX1_stay_2 14 rfl rfl)
theorem dX1_stay_61 : decode cX1_stay 61 = .ok (.getfield 53, 3) := dk_180 0 53 (dk_at dksX1_stay_2 15 rfl rfl)
theorem dX1_stay_64 : decode cX1_stay 64 = .ok (.getfield 286, 3) := dk_180 1 30 (dk_at dksX1_stay_2 18 rfl rfl)
theorem dX1_stay_67 : decode cX1_stay 67 = .ok (.iload_n 1, 1) := dk_27 (dk_at dksX1_stay_2 21 rfl rfl)
theorem dX1_stay_68 : decode cX1_stay 68 = .ok (.iadd, 1) := dk_96 (dk_at dksX1_stay_2 22 rfl rfl)
theorem dX1_stay_69 : decode cX1_stay 69 = .ok (.sipush 999, 3) := dk_17 3 231 (dk_at dksX1_stay_3 0 rfl rfl)
theorem dX1_stay_72 : decode cX1_stay 72 = .ok (.if_icmp .le 7, 3) := dk_164 0 7 (dk_at dksX1_stay_3 3 rfl rfl)
theorem dX1_stay_75 : decode cX1_stay 75 = .ok (.iconst 3, 1) := dk_6 (dk_at dksX1_stay_3 6 rfl rfl)
theorem dX1_stay_76 : decode cX1_stay 76 = .ok (.goto 4, 3) := dk_167 0 4 (dk_at dksX1_stay_3 7 rfl rfl)
theorem dX1_stay_79 : decode cX1_stay 79 = .ok (.iconst 0, 1) := dk_3 (dk_at dksX1_stay_3 10 rfl rfl)
theorem dX1_stay_80 : decode cX1_stay 80 = .ok (.istore_n 3, 1) := dk_62 (dk_at dksX1_stay_3 11 rfl rfl)
theorem dX1_stay_81 : decode cX1_stay 81 = .ok (.aload_n 0, 1) := dk_42 (dk_at dksX1_stay_3 12 rfl rfl)
theorem dX1_stay_82 : decode cX1_stay 82 = .ok (.iload_n 3, 1) := dk_29 (dk_at dksX1_stay_3 13 rfl rfl)
theorem dX1_stay_83 : decode cX1_stay 83 = .ok (.invokevirtual 334, 3) := dk_182 1 78 (dk_at dksX1_stay_3 14 rfl rfl)
theorem dX1_stay_86 : decode cX1_stay 86 = .ok (.ifCond .ne 5, 3) := dk_154 0 5 (dk_at dksX1_stay_3 17 rfl rfl)
theorem dX1_stay_89 : decode cX1_stay 89 = .ok (.iconst 0, 1) := dk_3 (dk_at dksX1_stay_3 20 rfl rfl)
theorem dX1_stay_90 : decode cX1_stay 90 = .ok (.ireturn, 1) := dk_172 (dk_at dksX1_stay_3 21 rfl rfl)
theorem dX1_stay_91 : decode cX1_stay 91 = .ok (.aload_n 0, 1) := dk_42 (dk_at dksX1_stay_3 22 rfl rfl)
theorem dX1_stay_92 : decode cX1_stay 92 = .ok (.invokevirtual 313, 3) := dk_182 1 57 (dk_at dksX1_stay_4 0 rfl rfl)
theorem dX1_stay_95 : decode cX1_stay 95 = .ok (.iconst 0, 1) := dk_3 (dk_at dksX1_stay_4 3 rfl rfl)
theorem dX1_stay_96 : decode cX1_stay 96 = .ok (.istore 4, 2) := dk_54 4 (dk_at dksX1_stay_4 4 rfl rfl)
theorem dX1_stay_98 : decode cX1_stay 98 = .ok (.iload 4, 2) := dk_21 4 (dk_at dksX1_stay_4 6 rfl rfl)
theorem dX1_stay_100 : decode cX1_stay 100 = .ok (.iload_n 1, 1) := dk_27 (dk_at dksX1_stay_4 8 rfl rfl)
theorem dX1_stay_101 : decode cX1_stay 101 = .ok (.if_icmp .ge 75, 3) := dk_162 0 75 (dk_at dksX1_stay_4 9 rfl rfl)
theorem dX1_stay_104 : decode cX1_stay 104 = .ok (.aload_n 0, 1) := dk_42 (dk_at dksX1_stay_4 12 rfl rfl)
theorem dX1_stay_105 : decode cX1_stay 105 = .ok (.aload_n 0, 1) := dk_42 (dk_at dksX1_stay_4 13 rfl rfl)
theorem dX1_stay_106 : decode cX1_stay 106 = .ok (.getfield 53, 3) := dk_180 0 53 (dk_at dksX1_stay_4 14 rfl rfl)
theorem dX1_stay_109 : decode cX1_stay 109 = .ok (.getfield 286, 3) := dk_180 1 30 (dk_at dksX1_stay_4 17 rfl rfl)
theorem dX1_stay_112 : decode cX1_stay 112 = .ok (.invokevirtual 316, 3) := dk_182 1 60 (dk_at dksX1_stay_4 20 rfl rfl)
theorem dX1_stay_115 : decode cX1_stay 115 = .ok (.iconst (-1), 1) := dk_2 (dk_at dksX1_stay_4 23 rfl rfl)
theorem dX1_stay_116 : decode cX1_stay 116 = .ok (.if_icmp .eq 41, 3) := dk_159 0 41 (dk_at dksX1_stay_5 0 rfl rfl)
theorem dX1_stay_119 : decode cX1_stay 119 = .ok (.aload_n 0, 1) := dk_42 (dk_at dksX1_stay_5 3 rfl rfl)
theorem dX1_stay_120 : decode cX1_stay 120 = .ok (.getfield 53, 3) := dk_180 0 53 (dk_at dksX1_stay_5 4 rfl rfl)
theorem dX1_stay_123 : decode cX1_stay 123 = .ok (.getfield 289, 3) := dk_180 1 33 (dk_at dksX1_stay_5 7 rfl rfl)
theorem dX1_stay_126 : decode cX1_stay 126 = .ok (.iconst 0, 1) := dk_3 (dk_at dksX1_stay_5 10 rfl rfl)
theorem dX1_stay_127 : decode cX1_stay 127 = .ok (.dup2, 1) := dk_92 (dk_at dksX1_stay_5 11 rfl rfl)
theorem dX1_stay_128 : decode cX1_stay 128 = .ok (.laload, 1) := dk_47 (dk_at dksX1_stay_5 12 rfl rfl)
theorem dX1_stay_129 : decode cX1_stay 129 = .ok (.ldc2_w 164, 3) := dk_20 0 164 (dk_at dksX1_stay_5 13 rfl rfl)
theorem dX1_stay_132 : decode cX1_stay 132 = .ok (.aload_n 2, 1) := dk_44 (dk_at dksX1_stay_5 16 rfl rfl)
theorem dX1_stay_133 : decode cX1_stay 133 = .ok (.getfield 337, 3) := dk_180 1 81 (dk_at dksX1_stay_5 17 rfl rfl)
theorem dX1_stay_136 : decode cX1_stay 136 = .ok (.i2l, 1) := dk_133 (dk_at dksX1_stay_5 20 rfl rfl)
theorem dX1_stay_137 : decode cX1_stay 137 = .ok (.lmul, 1) := dk_105 (dk_at dksX1_stay_5 21 rfl rfl)
theorem dX1_stay_138 : decode cX1_stay 138 = .ok (.aload_n 0, 1) := dk_42 (dk_at dksX1_stay_5 22 rfl rfl)
theorem dX1_stay_139 : decode cX1_stay 139 = .ok (.getfield 95, 3) := dk_180 0 95 (dk_at dksX1_stay_6 0 rfl rfl)
theorem dX1_stay_142 : decode cX1_stay 142 = .ok (.getfield 135, 3) := dk_180 0 135 (dk_at dksX1_stay_6 3 rfl rfl)
theorem dX1_stay_145 : decode cX1_stay 145 = .ok (.aload_n 0, 1) := dk_42 (dk_at dksX1_stay_6 6 rfl rfl)
theorem dX1_stay_146 : decode cX1_stay 146 = .ok (.getfield 30, 3) := dk_180 0 30 (dk_at dksX1_stay_6 7 rfl rfl)
theorem dX1_stay_149 : decode cX1_stay 149 = .ok (.aaload, 1) := dk_50 (dk_at dksX1_stay_6 10 rfl rfl)
theorem dX1_stay_150 : decode cX1_stay 150 = .ok (.invokevirtual 340, 3) := dk_182 1 84 (dk_at dksX1_stay_6 11 rfl rfl)
theorem dX1_stay_153 : decode cX1_stay 153 = .ok (.i2l, 1) := dk_133 (dk_at dksX1_stay_6 14 rfl rfl)
theorem dX1_stay_154 : decode cX1_stay 154 = .ok (.lmul, 1) := dk_105 (dk_at dksX1_stay_6 15 rfl rfl)
theorem dX1_stay_155 : decode cX1_stay 155 = .ok (.ladd, 1) := dk_97 (dk_at dksX1_stay_6 16 rfl rfl)
theorem dX1_stay_156 : decode cX1_stay 156 = .ok (.lastore, 1) := dk_80 (dk_at dksX1_stay_6 17 rfl rfl)
theorem dX1_stay_157 : decode cX1_stay 157 = .ok (.aload_n 0, 1) := dk_42 (dk_at dksX1_stay_6 18 rfl rfl)
theorem dX1_stay_158 : decode cX1_stay 158 = .ok (.getfield 53, 3) := dk_180 0 53 (dk_at dksX1_stay_6 19 rfl rfl)
theorem dX1_stay_161 : decode cX1_stay 161 = .ok (.dup, 1) := dk_89 (dk_at dksX1_stay_6 22 rfl rfl)
theorem dX1_stay_162 : decode cX1_stay 162 = .ok (.getfield 286, 3) := dk_180 1 30 (dk_at dksX1_stay_7 0 rfl rfl)
theorem dX1_stay_165 : decode cX1_stay 165 = .ok (.iconst 1, 1) := dk_4 (dk_at dksX1_stay_7 3 rfl rfl)
theorem dX1_stay_166 : decode cX1_stay 166 = .ok (.iadd, 1) := dk_96 (dk_at dksX1_stay_7 4 rfl rfl)
theorem dX1_stay_167 : decode cX1_stay 167 = .ok (.putfield 286, 3) := dk_181 1 30 (dk_at dksX1_stay_7 5 rfl rfl)
theorem dX1_stay_170 : decode cX1_stay 170 = .ok (.iinc 4 1, 3) := dk_132 4 1 (dk_at dksX1_stay_7 8 rfl rfl)
theorem dX1_stay_173 : decode cX1_stay 173 = .ok (.goto (-75), 3) := dk_167 255 181 (dk_at dksX1_stay_7 11 rfl rfl)
theorem dX1_stay_176 : decode cX1_stay 176 = .ok (.aload_n 0, 1) := dk_42 (dk_at dksX1_stay_7 14 rfl rfl)
theorem dX1_stay_177 : decode cX1_stay 177 = .ok (.invokevirtual 322, 3) := dk_182 1 66 (dk_at dksX1_stay_7 15 rfl rfl)
theorem dX1_stay_180 : decode cX1_stay 180 = .ok (.ireturn, 1) := dk_172 (dk_at dksX1_stay_7 18 rfl rfl)
abbrev cX1_yes : ByteArray := prog_1_method_8_code
def yX1_yes : MethodName := ⟨RX1, "yes", "(I)Z"⟩
def dkwX1_yes_0 : List UInt8 := [42, 182, 0, 70, 42, 27, 181, 0, 67, 27, 154, 0, 7, 4, 167, 0, 4, 3, 172]
abbrev dktX1_yes_0 : List UInt8 := dkwX1_yes_0 ++ []
theorem dksX1_yes_0 : cX1_yes.data.toList.drop 0 = dktX1_yes_0 := by decide +kernel
theorem dX1_yes_0 : decode cX1_yes 0 = .ok (.aload_n 0, 1) := dk_42 (dk_at dksX1_yes_0 0 rfl rfl)
theorem dX1_yes_1 : decode cX1_yes 1 = .ok (.invokevirtual 70, 3) := dk_182 0 70 (dk_at dksX1_yes_0 1 rfl rfl)
theorem dX1_yes_4 : decode cX1_yes 4 = .ok (.aload_n 0, 1) := dk_42 (dk_at dksX1_yes_0 4 rfl rfl)
theorem dX1_yes_5 : decode cX1_yes 5 = .ok (.iload_n 1, 1) := dk_27 (dk_at dksX1_yes_0 5 rfl rfl)
theorem dX1_yes_6 : decode cX1_yes 6 = .ok (.putfield 67, 3) := dk_181 0 67 (dk_at dksX1_yes_0 6 rfl rfl)
theorem dX1_yes_9 : decode cX1_yes 9 = .ok (.iload_n 1, 1) := dk_27 (dk_at dksX1_yes_0 9 rfl rfl)
theorem dX1_yes_10 : decode cX1_yes 10 = .ok (.ifCond .ne 7, 3) := dk_154 0 7 (dk_at dksX1_yes_0 10 rfl rfl)
theorem dX1_yes_13 : decode cX1_yes 13 = .ok (.iconst 1, 1) := dk_4 (dk_at dksX1_yes_0 13 rfl rfl)
theorem dX1_yes_14 : decode cX1_yes 14 = .ok (.goto 4, 3) := dk_167 0 4 (dk_at dksX1_yes_0 14 rfl rfl)
theorem dX1_yes_17 : decode cX1_yes 17 = .ok (.iconst 0, 1) := dk_3 (dk_at dksX1_yes_0 17 rfl rfl)
theorem dX1_yes_18 : decode cX1_yes 18 = .ok (.ireturn, 1) := dk_172 (dk_at dksX1_yes_0 18 rfl rfl)
abbrev cX1_got : ByteArray := prog_1_method_57_code
def yX1_got : MethodName := ⟨RX1, "got", "(IZ)J"⟩
def dkwX1_got_1 : List UInt8 := [180, 1, 33, 27, 47, 20, 0, 164, 28, 184, 0, 166, 167, 0, 9, 42, 4, 182, 0, 84, 133, 173]
abbrev dktX1_got_1 : List UInt8 := dkwX1_got_1 ++ []
def dkwX1_got_0 : List UInt8 := [42, 182, 0, 70, 42, 182, 1, 50, 153, 0, 31, 27, 3, 7, 184, 0, 80, 153, 0, 22, 42, 180, 0, 53]
abbrev dktX1_got_0 : List UInt8 := dkwX1_got_0 ++ dktX1_got_1
theorem dksX1_got_0 : cX1_got.data.toList.drop 0 = dktX1_got_0 := by decide +kernel
theorem dksX1_got_1 : cX1_got.data.toList.drop 24 = dktX1_got_1 := dk_seg dksX1_got_0 24 rfl rfl
theorem dX1_got_0 : decode cX1_got 0 = .ok (.aload_n 0, 1) := dk_42 (dk_at dksX1_got_0 0 rfl rfl)
theorem dX1_got_1 : decode cX1_got 1 = .ok (.invokevirtual 70, 3) := dk_182 0 70 (dk_at dksX1_got_0 1 rfl rfl)
theorem dX1_got_4 : decode cX1_got 4 = .ok (.aload_n 0, 1) := dk_42 (dk_at dksX1_got_0 4 rfl rfl)
theorem dX1_got_5 : decode cX1_got 5 = .ok (.invokevirtual 306, 3) := dk_182 1 50 (dk_at dksX1_got_0 5 rfl rfl)
theorem dX1_got_8 : decode cX1_got 8 = .ok (.ifCond .eq 31, 3) := dk_153 0 31 (dk_at dksX1_got_0 8 rfl rfl)
theorem dX1_got_11 : decode cX1_got 11 = .ok (.iload_n 1, 1) := dk_27 (dk_at dksX1_got_0 11 rfl rfl)
theorem dX1_got_12 : decode cX1_got 12 = .ok (.iconst 0, 1) := dk_3 (dk_at dksX1_got_0 12 rfl rfl)
theorem dX1_got_13 : decode cX1_got 13 = .ok (.iconst 4, 1) := dk_7 (dk_at dksX1_got_0 13 rfl rfl)
theorem dX1_got_14 : decode cX1_got 14 = .ok (.invokestatic 80, 3) := dk_184 0 80 (dk_at dksX1_got_0 14 rfl rfl)
theorem dX1_got_17 : decode cX1_got 17 = .ok (.ifCond .eq 22, 3) := dk_153 0 22 (dk_at dksX1_got_0 17 rfl rfl)
theorem dX1_got_20 : decode cX1_got 20 = .ok (.aload_n 0, 1) := dk_42 (dk_at dksX1_got_0 20 rfl rfl)
theorem dX1_got_21 : decode cX1_got 21 = .ok (.getfield 53, 3) := dk_180 0 53 (dk_at dksX1_got_0 21 rfl rfl)
theorem dX1_got_24 : decode cX1_got 24 = .ok (.getfield 289, 3) := dk_180 1 33 (dk_at dksX1_got_1 0 rfl rfl)
theorem dX1_got_27 : decode cX1_got 27 = .ok (.iload_n 1, 1) := dk_27 (dk_at dksX1_got_1 3 rfl rfl)
theorem dX1_got_28 : decode cX1_got 28 = .ok (.laload, 1) := dk_47 (dk_at dksX1_got_1 4 rfl rfl)
theorem dX1_got_29 : decode cX1_got 29 = .ok (.ldc2_w 164, 3) := dk_20 0 164 (dk_at dksX1_got_1 5 rfl rfl)
theorem dX1_got_32 : decode cX1_got 32 = .ok (.iload_n 2, 1) := dk_28 (dk_at dksX1_got_1 8 rfl rfl)
theorem dX1_got_33 : decode cX1_got 33 = .ok (.invokestatic 166, 3) := dk_184 0 166 (dk_at dksX1_got_1 9 rfl rfl)
theorem dX1_got_36 : decode cX1_got 36 = .ok (.goto 9, 3) := dk_167 0 9 (dk_at dksX1_got_1 12 rfl rfl)
theorem dX1_got_39 : decode cX1_got 39 = .ok (.aload_n 0, 1) := dk_42 (dk_at dksX1_got_1 15 rfl rfl)
theorem dX1_got_40 : decode cX1_got 40 = .ok (.iconst 1, 1) := dk_4 (dk_at dksX1_got_1 16 rfl rfl)
theorem dX1_got_41 : decode cX1_got 41 = .ok (.invokevirtual 84, 3) := dk_182 0 84 (dk_at dksX1_got_1 17 rfl rfl)
theorem dX1_got_44 : decode cX1_got 44 = .ok (.i2l, 1) := dk_133 (dk_at dksX1_got_1 20 rfl rfl)
theorem dX1_got_45 : decode cX1_got 45 = .ok (.lreturn, 1) := dk_173 (dk_at dksX1_got_1 21 rfl rfl)
abbrev cX1_wetness : ByteArray := prog_1_method_58_code
def yX1_wetness : MethodName := ⟨RX1, "wetness", "(Z)J"⟩
def dkwX1_wetness_2 : List UInt8 := [32, 20, 0, 164, 105, 101, 184, 1, 98, 20, 0, 164, 27, 184, 0, 166, 173]
abbrev dktX1_wetness_2 : List UInt8 := dkwX1_wetness_2 ++ []
def dkwX1_wetness_1 : List UInt8 := [180, 0, 135, 42, 180, 0, 30, 50, 182, 1, 87, 184, 1, 90, 133, 65, 9, 42, 180, 0, 53, 182, 1, 95]
abbrev dktX1_wetness_1 : List UInt8 := dkwX1_wetness_1 ++ dktX1_wetness_2
def dkwX1_wetness_0 : List UInt8 := [42, 182, 0, 70, 42, 182, 1, 50, 154, 0, 10, 42, 4, 182, 0, 84, 133, 173, 3, 42, 180, 0, 95]
abbrev dktX1_wetness_0 : List UInt8 := dkwX1_wetness_0 ++ dktX1_wetness_1
theorem dksX1_wetness_0 : cX1_wetness.data.toList.drop 0 = dktX1_wetness_0 := by decide +kernel
theorem dksX1_wetness_1 : cX1_wetness.data.toList.drop 23 = dktX1_wetness_1 := dk_seg dksX1_wetness_0 23 rfl rfl
theorem dksX1_wetness_2 : cX1_wetness.data.toList.drop 47 = dktX1_wetness_2 := dk_seg dksX1_wetness_1 24 rfl rfl
theorem dX1_wetness_0 : decode cX1_wetness 0 = .ok (.aload_n 0, 1) := dk_42 (dk_at dksX1_wetness_0 0 rfl rfl)
theorem dX1_wetness_1 : decode cX1_wetness 1 = .ok (.invokevirtual 70, 3) := dk_182 0 70 (dk_at dksX1_wetness_0 1 rfl rfl)
theorem dX1_wetness_4 : decode cX1_wetness 4 = .ok (.aload_n 0, 1) := dk_42 (dk_at dksX1_wetness_0 4 rfl rfl)
theorem dX1_wetness_5 : decode cX1_wetness 5 = .ok (.invokevirtual 306, 3) := dk_182 1 50 (dk_at dksX1_wetness_0 5 rfl rfl)
theorem dX1_wetness_8 : decode cX1_wetness 8 = .ok (.ifCond .ne 10, 3) := dk_154 0 10 (dk_at dksX1_wetness_0 8 rfl rfl)
theorem dX1_wetness_11 : decode cX1_wetness 11 = .ok (.aload_n 0, 1) := dk_42 (dk_at dksX1_wetness_0 11 rfl rfl)
theorem dX1_wetness_12 : decode cX1_wetness 12 = .ok (.iconst 1, 1) := dk_4 (dk_at dksX1_wetness_0 12 rfl rfl)
theorem dX1_wetness_13 : decode cX1_wetness 13 = .ok (.invokevirtual 84, 3) := dk_182 0 84 (dk_at dksX1_wetness_0 13 rfl rfl)
theorem dX1_wetness_16 : decode cX1_wetness 16 = .ok (.i2l, 1) := dk_133 (dk_at dksX1_wetness_0 16 rfl rfl)
theorem dX1_wetness_17 : decode cX1_wetness 17 = .ok (.lreturn, 1) := dk_173 (dk_at dksX1_wetness_0 17 rfl rfl)
theorem dX1_wetness_18 : decode cX1_wetness 18 = .ok (.iconst 0, 1) := dk_3 (dk_at dksX1_wetness_0 18 rfl rfl)
theorem dX1_wetness_19 : decode cX1_wetness 19 = .ok (.aload_n 0, 1) := dk_42 (dk_at dksX1_wetness_0 19 rfl rfl)
theorem dX1_wetness_20 : decode cX1_wetness 20 = .ok (.getfield 95, 3) := dk_180 0 95 (dk_at dksX1_wetness_0 20 rfl rfl)
theorem dX1_wetness_23 : decode cX1_wetness 23 = .ok (.getfield 135, 3) := dk_180 0 135 (dk_at dksX1_wetness_1 0 rfl rfl)
theorem dX1_wetness_26 : decode cX1_wetness 26 = .ok (.aload_n 0, 1) := dk_42 (dk_at dksX1_wetness_1 3 rfl rfl)
theorem dX1_wetness_27 : decode cX1_wetness 27 = .ok (.getfield 30, 3) := dk_180 0 30 (dk_at dksX1_wetness_1 4 rfl rfl)
theorem dX1_wetness_30 : decode cX1_wetness 30 = .ok (.aaload, 1) := dk_50 (dk_at dksX1_wetness_1 7 rfl rfl)
theorem dX1_wetness_31 : decode cX1_wetness 31 = .ok (.invokevirtual 343, 3) := dk_182 1 87 (dk_at dksX1_wetness_1 8 rfl rfl)
theorem dX1_wetness_34 : decode cX1_wetness 34 = .ok (.invokestatic 346, 3) := dk_184 1 90 (dk_at dksX1_wetness_1 11 rfl rfl)
theorem dX1_wetness_37 : decode cX1_wetness 37 = .ok (.i2l, 1) := dk_133 (dk_at dksX1_wetness_1 14 rfl rfl)
theorem dX1_wetness_38 : decode cX1_wetness 38 = .ok (.lstore_n 2, 1) := dk_65 (dk_at dksX1_wetness_1 15 rfl rfl)
theorem dX1_wetness_39 : decode cX1_wetness 39 = .ok (.lconst 0, 1) := dk_9 (dk_at dksX1_wetness_1 16 rfl rfl)
theorem dX1_wetness_40 : decode cX1_wetness 40 = .ok (.aload_n 0, 1) := dk_42 (dk_at dksX1_wetness_1 17 rfl rfl)
theorem dX1_wetness_41 : decode cX1_wetness 41 = .ok (.getfield 53, 3) := dk_180 0 53 (dk_at dksX1_wetness_1 18 rfl rfl)
theorem dX1_wetness_44 : decode cX1_wetness 44 = .ok (.invokevirtual 351, 3) := dk_182 1 95 (dk_at dksX1_wetness_1 21 rfl rfl)
theorem dX1_wetness_47 : decode cX1_wetness 47 = .ok (.lload_n 2, 1) := dk_32 (dk_at dksX1_wetness_2 0 rfl rfl)
theorem dX1_wetness_48 : decode cX1_wetness 48 = .ok (.ldc2_w 164, 3) := dk_20 0 164 (dk_at dksX1_wetness_2 1 rfl rfl)
theorem dX1_wetness_51 : decode cX1_wetness 51 = .ok (.lmul, 1) := dk_105 (dk_at dksX1_wetness_2 4 rfl rfl)
theorem dX1_wetness_52 : decode cX1_wetness 52 = .ok (.lsub, 1) := dk_101 (dk_at dksX1_wetness_2 5 rfl rfl)
theorem dX1_wetness_53 : decode cX1_wetness 53 = .ok (.invokestatic 354, 3) := dk_184 1 98 (dk_at dksX1_wetness_2 6 rfl rfl)
theorem dX1_wetness_56 : decode cX1_wetness 56 = .ok (.ldc2_w 164, 3) := dk_20 0 164 (dk_at dksX1_wetness_2 9 rfl rfl)
theorem dX1_wetness_59 : decode cX1_wetness 59 = .ok (.iload_n 1, 1) := dk_27 (dk_at dksX1_wetness_2 12 rfl rfl)
theorem dX1_wetness_60 : decode cX1_wetness 60 = .ok (.invokestatic 166, 3) := dk_184 0 166 (dk_at dksX1_wetness_2 13 rfl rfl)
theorem dX1_wetness_63 : decode cX1_wetness 63 = .ok (.lreturn, 1) := dk_173 (dk_at dksX1_wetness_2 16 rfl rfl)
abbrev cX1_soaked : ByteArray := prog_1_method_59_code
def yX1_soaked : MethodName := ⟨RX1, "soaked", "()I"⟩
def dkwX1_soaked_2 : List UInt8 := [182, 1, 95, 27, 133, 20, 0, 164, 105, 148, 158, 0, 7, 4, 167, 0, 4, 3, 172]
abbrev dktX1_soaked_2 : List UInt8 := dkwX1_soaked_2 ++ []
def dkwX1_soaked_1 : List UInt8 := [42, 180, 0, 30, 50, 182, 1, 87, 60, 27, 2, 160, 0, 8, 16, 254, 167, 0, 25, 42, 180, 0, 53]
abbrev dktX1_soaked_1 : List UInt8 := dkwX1_soaked_1 ++ dktX1_soaked_2
def dkwX1_soaked_0 : List UInt8 := [42, 182, 0, 70, 42, 182, 1, 50, 154, 0, 9, 42, 4, 182, 0, 84, 172, 42, 180, 0, 95, 180, 0, 135]
abbrev dktX1_soaked_0 : List UInt8 := dkwX1_soaked_0 ++ dktX1_soaked_1
theorem dksX1_soaked_0 : cX1_soaked.data.toList.drop 0 = dktX1_soaked_0 := by decide +kernel
theorem dksX1_soaked_1 : cX1_soaked.data.toList.drop 24 = dktX1_soaked_1 := dk_seg dksX1_soaked_0 24 rfl rfl
theorem dksX1_soaked_2 : cX1_soaked.data.toList.drop 47 = dktX1_soaked_2 := dk_seg dksX1_soaked_1 23 rfl rfl
theorem dX1_soaked_0 : decode cX1_soaked 0 = .ok (.aload_n 0, 1) := dk_42 (dk_at dksX1_soaked_0 0 rfl rfl)
theorem dX1_soaked_1 : decode cX1_soaked 1 = .ok (.invokevirtual 70, 3) := dk_182 0 70 (dk_at dksX1_soaked_0 1 rfl rfl)
theorem dX1_soaked_4 : decode cX1_soaked 4 = .ok (.aload_n 0, 1) := dk_42 (dk_at dksX1_soaked_0 4 rfl rfl)
theorem dX1_soaked_5 : decode cX1_soaked 5 = .ok (.invokevirtual 306, 3) := dk_182 1 50 (dk_at dksX1_soaked_0 5 rfl rfl)
theorem dX1_soaked_8 : decode cX1_soaked 8 = .ok (.ifCond .ne 9, 3) := dk_154 0 9 (dk_at dksX1_soaked_0 8 rfl rfl)
theorem dX1_soaked_11 : decode cX1_soaked 11 = .ok (.aload_n 0, 1) := dk_42 (dk_at dksX1_soaked_0 11 rfl rfl)
theorem dX1_soaked_12 : decode cX1_soaked 12 = .ok (.iconst 1, 1) := dk_4 (dk_at dksX1_soaked_0 12 rfl rfl)
theorem dX1_soaked_13 : decode cX1_soaked 13 = .ok (.invokevirtual 84, 3) := dk_182 0 84 (dk_at dksX1_soaked_0 13 rfl rfl)
theorem dX1_soaked_16 : decode cX1_soaked 16 = .ok (.ireturn, 1) := dk_172 (dk_at dksX1_soaked_0 16 rfl rfl)
theorem dX1_soaked_17 : decode cX1_soaked 17 = .ok (.aload_n 0, 1) := dk_42 (dk_at dksX1_soaked_0 17 rfl rfl)
theorem dX1_soaked_18 : decode cX1_soaked 18 = .ok (.getfield 95, 3) := dk_180 0 95 (dk_at dksX1_soaked_0 18 rfl rfl)
theorem dX1_soaked_21 : decode cX1_soaked 21 = .ok (.getfield 135, 3) := dk_180 0 135 (dk_at dksX1_soaked_0 21 rfl rfl)
theorem dX1_soaked_24 : decode cX1_soaked 24 = .ok (.aload_n 0, 1) := dk_42 (dk_at dksX1_soaked_1 0 rfl rfl)
theorem dX1_soaked_25 : decode cX1_soaked 25 = .ok (.getfield 30, 3) := dk_180 0 30 (dk_at dksX1_soaked_1 1 rfl rfl)
theorem dX1_soaked_28 : decode cX1_soaked 28 = .ok (.aaload, 1) := dk_50 (dk_at dksX1_soaked_1 4 rfl rfl)
theorem dX1_soaked_29 : decode cX1_soaked 29 = .ok (.invokevirtual 343, 3) := dk_182 1 87 (dk_at dksX1_soaked_1 5 rfl rfl)
theorem dX1_soaked_32 : decode cX1_soaked 32 = .ok (.istore_n 1, 1) := dk_60 (dk_at dksX1_soaked_1 8 rfl rfl)
theorem dX1_soaked_33 : decode cX1_soaked 33 = .ok (.iload_n 1, 1) := dk_27 (dk_at dksX1_soaked_1 9 rfl rfl)
theorem dX1_soaked_34 : decode cX1_soaked 34 = .ok (.iconst (-1), 1) := dk_2 (dk_at dksX1_soaked_1 10 rfl rfl)
theorem dX1_soaked_35 : decode cX1_soaked 35 = .ok (.if_icmp .ne 8, 3) := dk_160 0 8 (dk_at dksX1_soaked_1 11 rfl rfl)
theorem dX1_soaked_38 : decode cX1_soaked 38 = .ok (.bipush (-2), 2) := dk_16 254 (dk_at dksX1_soaked_1 14 rfl rfl)
theorem dX1_soaked_40 : decode cX1_soaked 40 = .ok (.goto 25, 3) := dk_167 0 25 (dk_at dksX1_soaked_1 16 rfl rfl)
theorem dX1_soaked_43 : decode cX1_soaked 43 = .ok (.aload_n 0, 1) := dk_42 (dk_at dksX1_soaked_1 19 rfl rfl)
theorem dX1_soaked_44 : decode cX1_soaked 44 = .ok (.getfield 53, 3) := dk_180 0 53 (dk_at dksX1_soaked_1 20 rfl rfl)
theorem dX1_soaked_47 : decode cX1_soaked 47 = .ok (.invokevirtual 351, 3) := dk_182 1 95 (dk_at dksX1_soaked_2 0 rfl rfl)
theorem dX1_soaked_50 : decode cX1_soaked 50 = .ok (.iload_n 1, 1) := dk_27 (dk_at dksX1_soaked_2 3 rfl rfl)
theorem dX1_soaked_51 : decode cX1_soaked 51 = .ok (.i2l, 1) := dk_133 (dk_at dksX1_soaked_2 4 rfl rfl)
theorem dX1_soaked_52 : decode cX1_soaked 52 = .ok (.ldc2_w 164, 3) := dk_20 0 164 (dk_at dksX1_soaked_2 5 rfl rfl)
theorem dX1_soaked_55 : decode cX1_soaked 55 = .ok (.lmul, 1) := dk_105 (dk_at dksX1_soaked_2 8 rfl rfl)
theorem dX1_soaked_56 : decode cX1_soaked 56 = .ok (.lcmp, 1) := dk_148 (dk_at dksX1_soaked_2 9 rfl rfl)
theorem dX1_soaked_57 : decode cX1_soaked 57 = .ok (.ifCond .le 7, 3) := dk_158 0 7 (dk_at dksX1_soaked_2 10 rfl rfl)
theorem dX1_soaked_60 : decode cX1_soaked 60 = .ok (.iconst 1, 1) := dk_4 (dk_at dksX1_soaked_2 13 rfl rfl)
theorem dX1_soaked_61 : decode cX1_soaked 61 = .ok (.goto 4, 3) := dk_167 0 4 (dk_at dksX1_soaked_2 14 rfl rfl)
theorem dX1_soaked_64 : decode cX1_soaked 64 = .ok (.iconst 0, 1) := dk_3 (dk_at dksX1_soaked_2 17 rfl rfl)
theorem dX1_soaked_65 : decode cX1_soaked 65 = .ok (.ireturn, 1) := dk_172 (dk_at dksX1_soaked_2 18 rfl rfl)
abbrev cX1_undo : ByteArray := prog_1_method_60_code
def yX1_undo : MethodName := ⟨RX1, "undo", "()Z"⟩
def dkwX1_undo_2 : List UInt8 := [4, 172]
abbrev dktX1_undo_2 : List UInt8 := dkwX1_undo_2 ++ []
def dkwX1_undo_1 : List UInt8 := [180, 0, 105, 4, 100, 181, 0, 105, 42, 180, 0, 53, 42, 180, 0, 60, 42, 180, 0, 105, 50, 182, 1, 46]
abbrev dktX1_undo_1 : List UInt8 := dkwX1_undo_1 ++ dktX1_undo_2
def dkwX1_undo_0 : List UInt8 := [42, 42, 180, 0, 105, 154, 0, 8, 16, 6, 167, 0, 4, 3, 182, 1, 78, 154, 0, 5, 3, 172, 42, 89]
abbrev dktX1_undo_0 : List UInt8 := dkwX1_undo_0 ++ dktX1_undo_1
theorem dksX1_undo_0 : cX1_undo.data.toList.drop 0 = dktX1_undo_0 := by decide +kernel
theorem dksX1_undo_1 : cX1_undo.data.toList.drop 24 = dktX1_undo_1 := dk_seg dksX1_undo_0 24 rfl rfl
theorem dksX1_undo_2 : cX1_undo.data.toList.drop 48 = dktX1_undo_2 := dk_seg dksX1_undo_1 24 rfl rfl
theorem dX1_undo_0 : decode cX1_undo 0 = .ok (.aload_n 0, 1) := dk_42 (dk_at dksX1_undo_0 0 rfl rfl)
theorem dX1_undo_1 : decode cX1_undo 1 = .ok (.aload_n 0, 1) := dk_42 (dk_at dksX1_undo_0 1 rfl rfl)
theorem dX1_undo_2 : decode cX1_undo 2 = .ok (.getfield 105, 3) := dk_180 0 105 (dk_at dksX1_undo_0 2 rfl rfl)
theorem dX1_undo_5 : decode cX1_undo 5 = .ok (.ifCond .ne 8, 3) := dk_154 0 8 (dk_at dksX1_undo_0 5 rfl rfl)
theorem dX1_undo_8 : decode cX1_undo 8 = .ok (.bipush 6, 2) := dk_16 6 (dk_at dksX1_undo_0 8 rfl rfl)
theorem dX1_undo_10 : decode cX1_undo 10 = .ok (.goto 4, 3) := dk_167 0 4 (dk_at dksX1_undo_0 10 rfl rfl)
theorem dX1_undo_13 : decode cX1_undo 13 = .ok (.iconst 0, 1) := dk_3 (dk_at dksX1_undo_0 13 rfl rfl)
theorem dX1_undo_14 : decode cX1_undo 14 = .ok (.invokevirtual 334, 3) := dk_182 1 78 (dk_at dksX1_undo_0 14 rfl rfl)
theorem dX1_undo_17 : decode cX1_undo 17 = .ok (.ifCond .ne 5, 3) := dk_154 0 5 (dk_at dksX1_undo_0 17 rfl rfl)
theorem dX1_undo_20 : decode cX1_undo 20 = .ok (.iconst 0, 1) := dk_3 (dk_at dksX1_undo_0 20 rfl rfl)
theorem dX1_undo_21 : decode cX1_undo 21 = .ok (.ireturn, 1) := dk_172 (dk_at dksX1_undo_0 21 rfl rfl)
theorem dX1_undo_22 : decode cX1_undo 22 = .ok (.aload_n 0, 1) := dk_42 (dk_at dksX1_undo_0 22 rfl rfl)
theorem dX1_undo_23 : decode cX1_undo 23 = .ok (.dup, 1) := dk_89 (dk_at dksX1_undo_0 23 rfl rfl)
theorem dX1_undo_24 : decode cX1_undo 24 = .ok (.getfield 105, 3) := dk_180 0 105 (dk_at dksX1_undo_1 0 rfl rfl)
theorem dX1_undo_27 : decode cX1_undo 27 = .ok (.iconst 1, 1) := dk_4 (dk_at dksX1_undo_1 3 rfl rfl)
theorem dX1_undo_28 : decode cX1_undo 28 = .ok (.isub, 1) := dk_100 (dk_at dksX1_undo_1 4 rfl rfl)
theorem dX1_undo_29 : decode cX1_undo 29 = .ok (.putfield 105, 3) := dk_181 0 105 (dk_at dksX1_undo_1 5 rfl rfl)
theorem dX1_undo_32 : decode cX1_undo 32 = .ok (.aload_n 0, 1) := dk_42 (dk_at dksX1_undo_1 8 rfl rfl)
theorem dX1_undo_33 : decode cX1_undo 33 = .ok (.getfield 53, 3) := dk_180 0 53 (dk_at dksX1_undo_1 9 rfl rfl)
theorem dX1_undo_36 : decode cX1_undo 36 = .ok (.aload_n 0, 1) := dk_42 (dk_at dksX1_undo_1 12 rfl rfl)
theorem dX1_undo_37 : decode cX1_undo 37 = .ok (.getfield 60, 3) := dk_180 0 60 (dk_at dksX1_undo_1 13 rfl rfl)
theorem dX1_undo_40 : decode cX1_undo 40 = .ok (.aload_n 0, 1) := dk_42 (dk_at dksX1_undo_1 16 rfl rfl)
theorem dX1_undo_41 : decode cX1_undo 41 = .ok (.getfield 105, 3) := dk_180 0 105 (dk_at dksX1_undo_1 17 rfl rfl)
theorem dX1_undo_44 : decode cX1_undo 44 = .ok (.aaload, 1) := dk_50 (dk_at dksX1_undo_1 20 rfl rfl)
theorem dX1_undo_45 : decode cX1_undo 45 = .ok (.invokevirtual 302, 3) := dk_182 1 46 (dk_at dksX1_undo_1 21 rfl rfl)
theorem dX1_undo_48 : decode cX1_undo 48 = .ok (.iconst 1, 1) := dk_4 (dk_at dksX1_undo_2 0 rfl rfl)
theorem dX1_undo_49 : decode cX1_undo 49 = .ok (.ireturn, 1) := dk_172 (dk_at dksX1_undo_2 1 rfl rfl)
abbrev cX1_mark : ByteArray := prog_1_method_61_code
def yX1_mark : MethodName := ⟨RX1, "mark", "()I"⟩
def dkwX1_mark_2 : List UInt8 := [182, 1, 46, 42, 89, 180, 0, 108, 4, 96, 181, 0, 108, 42, 180, 0, 108, 4, 100, 172]
abbrev dktX1_mark_2 : List UInt8 := dkwX1_mark_2 ++ []
def dkwX1_mark_1 : List UInt8 := [160, 0, 9, 42, 6, 182, 0, 84, 172, 42, 180, 0, 64, 42, 180, 0, 108, 50, 42, 180, 0, 53]
abbrev dktX1_mark_1 : List UInt8 := dkwX1_mark_1 ++ dktX1_mark_2
def dkwX1_mark_0 : List UInt8 := [42, 182, 0, 70, 42, 182, 1, 50, 154, 0, 9, 42, 4, 182, 0, 84, 172, 42, 180, 0, 108, 6]
abbrev dktX1_mark_0 : List UInt8 := dkwX1_mark_0 ++ dktX1_mark_1
theorem dksX1_mark_0 : cX1_mark.data.toList.drop 0 = dktX1_mark_0 := by decide +kernel
theorem dksX1_mark_1 : cX1_mark.data.toList.drop 22 = dktX1_mark_1 := dk_seg dksX1_mark_0 22 rfl rfl
theorem dksX1_mark_2 : cX1_mark.data.toList.drop 44 = dktX1_mark_2 := dk_seg dksX1_mark_1 22 rfl rfl
theorem dX1_mark_0 : decode cX1_mark 0 = .ok (.aload_n 0, 1) := dk_42 (dk_at dksX1_mark_0 0 rfl rfl)
theorem dX1_mark_1 : decode cX1_mark 1 = .ok (.invokevirtual 70, 3) := dk_182 0 70 (dk_at dksX1_mark_0 1 rfl rfl)
theorem dX1_mark_4 : decode cX1_mark 4 = .ok (.aload_n 0, 1) := dk_42 (dk_at dksX1_mark_0 4 rfl rfl)
theorem dX1_mark_5 : decode cX1_mark 5 = .ok (.invokevirtual 306, 3) := dk_182 1 50 (dk_at dksX1_mark_0 5 rfl rfl)
theorem dX1_mark_8 : decode cX1_mark 8 = .ok (.ifCond .ne 9, 3) := dk_154 0 9 (dk_at dksX1_mark_0 8 rfl rfl)
theorem dX1_mark_11 : decode cX1_mark 11 = .ok (.aload_n 0, 1) := dk_42 (dk_at dksX1_mark_0 11 rfl rfl)
theorem dX1_mark_12 : decode cX1_mark 12 = .ok (.iconst 1, 1) := dk_4 (dk_at dksX1_mark_0 12 rfl rfl)
theorem dX1_mark_13 : decode cX1_mark 13 = .ok (.invokevirtual 84, 3) := dk_182 0 84 (dk_at dksX1_mark_0 13 rfl rfl)
theorem dX1_mark_16 : decode cX1_mark 16 = .ok (.ireturn, 1) := dk_172 (dk_at dksX1_mark_0 16 rfl rfl)
theorem dX1_mark_17 : decode cX1_mark 17 = .ok (.aload_n 0, 1) := dk_42 (dk_at dksX1_mark_0 17 rfl rfl)
theorem dX1_mark_18 : decode cX1_mark 18 = .ok (.getfield 108, 3) := dk_180 0 108 (dk_at dksX1_mark_0 18 rfl rfl)
theorem dX1_mark_21 : decode cX1_mark 21 = .ok (.iconst 3, 1) := dk_6 (dk_at dksX1_mark_0 21 rfl rfl)
theorem dX1_mark_22 : decode cX1_mark 22 = .ok (.if_icmp .ne 9, 3) := dk_160 0 9 (dk_at dksX1_mark_1 0 rfl rfl)
theorem dX1_mark_25 : decode cX1_mark 25 = .ok (.aload_n 0, 1) := dk_42 (dk_at dksX1_mark_1 3 rfl rfl)
theorem dX1_mark_26 : decode cX1_mark 26 = .ok (.iconst 3, 1) := dk_6 (dk_at dksX1_mark_1 4 rfl rfl)
theorem dX1_mark_27 : decode cX1_mark 27 = .ok (.invokevirtual 84, 3) := dk_182 0 84 (dk_at dksX1_mark_1 5 rfl rfl)
theorem dX1_mark_30 : decode cX1_mark 30 = .ok (.ireturn, 1) := dk_172 (dk_at dksX1_mark_1 8 rfl rfl)
theorem dX1_mark_31 : decode cX1_mark 31 = .ok (.aload_n 0, 1) := dk_42 (dk_at dksX1_mark_1 9 rfl rfl)
theorem dX1_mark_32 : decode cX1_mark 32 = .ok (.getfield 64, 3) := dk_180 0 64 (dk_at dksX1_mark_1 10 rfl rfl)
theorem dX1_mark_35 : decode cX1_mark 35 = .ok (.aload_n 0, 1) := dk_42 (dk_at dksX1_mark_1 13 rfl rfl)
theorem dX1_mark_36 : decode cX1_mark 36 = .ok (.getfield 108, 3) := dk_180 0 108 (dk_at dksX1_mark_1 14 rfl rfl)
theorem dX1_mark_39 : decode cX1_mark 39 = .ok (.aaload, 1) := dk_50 (dk_at dksX1_mark_1 17 rfl rfl)
theorem dX1_mark_40 : decode cX1_mark 40 = .ok (.aload_n 0, 1) := dk_42 (dk_at dksX1_mark_1 18 rfl rfl)
theorem dX1_mark_41 : decode cX1_mark 41 = .ok (.getfield 53, 3) := dk_180 0 53 (dk_at dksX1_mark_1 19 rfl rfl)
theorem dX1_mark_44 : decode cX1_mark 44 = .ok (.invokevirtual 302, 3) := dk_182 1 46 (dk_at dksX1_mark_2 0 rfl rfl)
theorem dX1_mark_47 : decode cX1_mark 47 = .ok (.aload_n 0, 1) := dk_42 (dk_at dksX1_mark_2 3 rfl rfl)
theorem dX1_mark_48 : decode cX1_mark 48 = .ok (.dup, 1) := dk_89 (dk_at dksX1_mark_2 4 rfl rfl)
theorem dX1_mark_49 : decode cX1_mark 49 = .ok (.getfield 108, 3) := dk_180 0 108 (dk_at dksX1_mark_2 5 rfl rfl)
theorem dX1_mark_52 : decode cX1_mark 52 = .ok (.iconst 1, 1) := dk_4 (dk_at dksX1_mark_2 8 rfl rfl)
theorem dX1_mark_53 : decode cX1_mark 53 = .ok (.iadd, 1) := dk_96 (dk_at dksX1_mark_2 9 rfl rfl)
theorem dX1_mark_54 : decode cX1_mark 54 = .ok (.putfield 108, 3) := dk_181 0 108 (dk_at dksX1_mark_2 10 rfl rfl)
theorem dX1_mark_57 : decode cX1_mark 57 = .ok (.aload_n 0, 1) := dk_42 (dk_at dksX1_mark_2 13 rfl rfl)
theorem dX1_mark_58 : decode cX1_mark 58 = .ok (.getfield 108, 3) := dk_180 0 108 (dk_at dksX1_mark_2 14 rfl rfl)
theorem dX1_mark_61 : decode cX1_mark 61 = .ok (.iconst 1, 1) := dk_4 (dk_at dksX1_mark_2 17 rfl rfl)
theorem dX1_mark_62 : decode cX1_mark 62 = .ok (.isub, 1) := dk_100 (dk_at dksX1_mark_2 18 rfl rfl)
theorem dX1_mark_63 : decode cX1_mark 63 = .ok (.ireturn, 1) := dk_172 (dk_at dksX1_mark_2 19 rfl rfl)
abbrev cX1_back : ByteArray := prog_1_method_62_code
def yX1_back : MethodName := ⟨RX1, "back", "(I)Z"⟩
def dkwX1_back_2 : List UInt8 := [172]
abbrev dktX1_back_2 : List UInt8 := dkwX1_back_2 ++ []
def dkwX1_back_1 : List UInt8 := [154, 0, 5, 3, 172, 42, 180, 0, 53, 42, 180, 0, 64, 27, 50, 182, 1, 46, 42, 3, 181, 0, 105, 4]
abbrev dktX1_back_1 : List UInt8 := dkwX1_back_1 ++ dktX1_back_2
def dkwX1_back_0 : List UInt8 := [42, 27, 3, 42, 180, 0, 108, 4, 100, 184, 0, 80, 153, 0, 7, 3, 167, 0, 4, 4, 182, 1, 78]
abbrev dktX1_back_0 : List UInt8 := dkwX1_back_0 ++ dktX1_back_1
theorem dksX1_back_0 : cX1_back.data.toList.drop 0 = dktX1_back_0 := by decide +kernel
theorem dksX1_back_1 : cX1_back.data.toList.drop 23 = dktX1_back_1 := dk_seg dksX1_back_0 23 rfl rfl
theorem dksX1_back_2 : cX1_back.data.toList.drop 47 = dktX1_back_2 := dk_seg dksX1_back_1 24 rfl rfl
theorem dX1_back_0 : decode cX1_back 0 = .ok (.aload_n 0, 1) := dk_42 (dk_at dksX1_back_0 0 rfl rfl)
theorem dX1_back_1 : decode cX1_back 1 = .ok (.iload_n 1, 1) := dk_27 (dk_at dksX1_back_0 1 rfl rfl)
theorem dX1_back_2 : decode cX1_back 2 = .ok (.iconst 0, 1) := dk_3 (dk_at dksX1_back_0 2 rfl rfl)
theorem dX1_back_3 : decode cX1_back 3 = .ok (.aload_n 0, 1) := dk_42 (dk_at dksX1_back_0 3 rfl rfl)
theorem dX1_back_4 : decode cX1_back 4 = .ok (.getfield 108, 3) := dk_180 0 108 (dk_at dksX1_back_0 4 rfl rfl)
theorem dX1_back_7 : decode cX1_back 7 = .ok (.iconst 1, 1) := dk_4 (dk_at dksX1_back_0 7 rfl rfl)
theorem dX1_back_8 : decode cX1_back 8 = .ok (.isub, 1) := dk_100 (dk_at dksX1_back_0 8 rfl rfl)
theorem dX1_back_9 : decode cX1_back 9 = .ok (.invokestatic 80, 3) := dk_184 0 80 (dk_at dksX1_back_0 9 rfl rfl)
theorem dX1_back_12 : decode cX1_back 12 = .ok (.ifCond .eq 7, 3) := dk_153 0 7 (dk_at dksX1_back_0 12 rfl rfl)
theorem dX1_back_15 : decode cX1_back 15 = .ok (.iconst 0, 1) := dk_3 (dk_at dksX1_back_0 15 rfl rfl)
theorem dX1_back_16 : decode cX1_back 16 = .ok (.goto 4, 3) := dk_167 0 4 (dk_at dksX1_back_0 16 rfl rfl)
theorem dX1_back_19 : decode cX1_back 19 = .ok (.iconst 1, 1) := dk_4 (dk_at dksX1_back_0 19 rfl rfl)
theorem dX1_back_20 : decode cX1_back 20 = .ok (.invokevirtual 334, 3) := dk_182 1 78 (dk_at dksX1_back_0 20 rfl rfl)
theorem dX1_back_23 : decode cX1_back 23 = .ok (.ifCond .ne 5, 3) := dk_154 0 5 (dk_at dksX1_back_1 0 rfl rfl)
theorem dX1_back_26 : decode cX1_back 26 = .ok (.iconst 0, 1) := dk_3 (dk_at dksX1_back_1 3 rfl rfl)
theorem dX1_back_27 : decode cX1_back 27 = .ok (.ireturn, 1) := dk_172 (dk_at dksX1_back_1 4 rfl rfl)
theorem dX1_back_28 : decode cX1_back 28 = .ok (.aload_n 0, 1) := dk_42 (dk_at dksX1_back_1 5 rfl rfl)
theorem dX1_back_29 : decode cX1_back 29 = .ok (.getfield 53, 3) := dk_180 0 53 (dk_at dksX1_back_1 6 rfl rfl)
theorem dX1_back_32 : decode cX1_back 32 = .ok (.aload_n 0, 1) := dk_42 (dk_at dksX1_back_1 9 rfl rfl)
theorem dX1_back_33 : decode cX1_back 33 = .ok (.getfield 64, 3) := dk_180 0 64 (dk_at dksX1_back_1 10 rfl rfl)
theorem dX1_back_36 : decode cX1_back 36 = .ok (.iload_n 1, 1) := dk_27 (dk_at dksX1_back_1 13 rfl rfl)
theorem dX1_back_37 : decode cX1_back 37 = .ok (.aaload, 1) := dk_50 (dk_at dksX1_back_1 14 rfl rfl)
theorem dX1_back_38 : decode cX1_back 38 = .ok (.invokevirtual 302, 3) := dk_182 1 46 (dk_at dksX1_back_1 15 rfl rfl)
theorem dX1_back_41 : decode cX1_back 41 = .ok (.aload_n 0, 1) := dk_42 (dk_at dksX1_back_1 18 rfl rfl)
theorem dX1_back_42 : decode cX1_back 42 = .ok (.iconst 0, 1) := dk_3 (dk_at dksX1_back_1 19 rfl rfl)
theorem dX1_back_43 : decode cX1_back 43 = .ok (.putfield 105, 3) := dk_181 0 105 (dk_at dksX1_back_1 20 rfl rfl)
theorem dX1_back_46 : decode cX1_back 46 = .ok (.iconst 1, 1) := dk_4 (dk_at dksX1_back_1 23 rfl rfl)
theorem dX1_back_47 : decode cX1_back 47 = .ok (.ireturn, 1) := dk_172 (dk_at dksX1_back_2 0 rfl rfl)
abbrev cX1_walker : ByteArray := prog_1_method_63_code
def yX1_walker : MethodName := ⟨RX1, "walker", "(II)I"⟩
def dkwX1_walker_4 : List UInt8 := [172, 45, 180, 0, 200, 172, 45, 180, 0, 203, 172, 42, 4, 182, 0, 84, 172]
abbrev dktX1_walker_4 : List UInt8 := dkwX1_walker_4 ++ []
def dkwX1_walker_3 : List UInt8 := [45, 182, 1, 100, 172, 45, 180, 1, 103, 172, 45, 182, 1, 106, 172, 45, 182, 1, 109, 172, 45, 182, 1, 112]
abbrev dktX1_walker_3 : List UInt8 := dkwX1_walker_3 ++ dktX1_walker_4
def dkwX1_walker_2 : List UInt8 := [170, 0, 0, 0, 0, 0, 78, 0, 0, 0, 0, 0, 0, 0, 6, 0, 0, 0, 43, 0, 0, 0, 48, 0, 0, 0, 53, 0, 0, 0, 58, 0, 0, 0, 63, 0, 0, 0, 68, 0, 0, 0, 73]
abbrev dktX1_walker_2 : List UInt8 := dkwX1_walker_2 ++ dktX1_walker_3
def dkwX1_walker_1 : List UInt8 := [180, 0, 135, 27, 50, 78, 28]
abbrev dktX1_walker_1 : List UInt8 := dkwX1_walker_1 ++ dktX1_walker_2
def dkwX1_walker_0 : List UInt8 := [42, 182, 0, 70, 42, 27, 182, 0, 129, 154, 0, 9, 42, 4, 182, 0, 84, 172, 42, 180, 0, 95]
abbrev dktX1_walker_0 : List UInt8 := dkwX1_walker_0 ++ dktX1_walker_1
theorem dksX1_walker_0 : cX1_walker.data.toList.drop 0 = dktX1_walker_0 := by decide +kernel
theorem dksX1_walker_1 : cX1_walker.data.toList.drop 22 = dktX1_walker_1 := dk_seg dksX1_walker_0 22 rfl rfl
theorem dksX1_walker_2 : cX1_walker.data.toList.drop 29 = dktX1_walker_2 := dk_seg dksX1_walker_1 7 rfl rfl
theorem dksX1_walker_3 : cX1_walker.data.toList.drop 72 = dktX1_walker_3 := dk_seg dksX1_walker_2 43 rfl rfl
theorem dksX1_walker_4 : cX1_walker.data.toList.drop 96 = dktX1_walker_4 := dk_seg dksX1_walker_3 24 rfl rfl
theorem dX1_walker_0 : decode cX1_walker 0 = .ok (.aload_n 0, 1) := dk_42 (dk_at dksX1_walker_0 0 rfl rfl)
theorem dX1_walker_1 : decode cX1_walker 1 = .ok (.invokevirtual 70, 3) := dk_182 0 70 (dk_at dksX1_walker_0 1 rfl rfl)
theorem dX1_walker_4 : decode cX1_walker 4 = .ok (.aload_n 0, 1) := dk_42 (dk_at dksX1_walker_0 4 rfl rfl)
theorem dX1_walker_5 : decode cX1_walker 5 = .ok (.iload_n 1, 1) := dk_27 (dk_at dksX1_walker_0 5 rfl rfl)
theorem dX1_walker_6 : decode cX1_walker 6 = .ok (.invokevirtual 129, 3) := dk_182 0 129 (dk_at dksX1_walker_0 6 rfl rfl)
theorem dX1_walker_9 : decode cX1_walker 9 = .ok (.ifCond .ne 9, 3) := dk_154 0 9 (dk_at dksX1_walker_0 9 rfl rfl)
theorem dX1_walker_12 : decode cX1_walker 12 = .ok (.aload_n 0, 1) := dk_42 (dk_at dksX1_walker_0 12 rfl rfl)
theorem dX1_walker_13 : decode cX1_walker 13 = .ok (.iconst 1, 1) := dk_4 (dk_at dksX1_walker_0 13 rfl rfl)
theorem dX1_walker_14 : decode cX1_walker 14 = .ok (.invokevirtual 84, 3) := dk_182 0 84 (dk_at dksX1_walker_0 14 rfl rfl)
theorem dX1_walker_17 : decode cX1_walker 17 = .ok (.ireturn, 1) := dk_172 (dk_at dksX1_walker_0 17 rfl rfl)
theorem dX1_walker_18 : decode cX1_walker 18 = .ok (.aload_n 0, 1) := dk_42 (dk_at dksX1_walker_0 18 rfl rfl)
theorem dX1_walker_19 : decode cX1_walker 19 = .ok (.getfield 95, 3) := dk_180 0 95 (dk_at dksX1_walker_0 19 rfl rfl)
theorem dX1_walker_22 : decode cX1_walker 22 = .ok (.getfield 135, 3) := dk_180 0 135 (dk_at dksX1_walker_1 0 rfl rfl)
theorem dX1_walker_25 : decode cX1_walker 25 = .ok (.iload_n 1, 1) := dk_27 (dk_at dksX1_walker_1 3 rfl rfl)
theorem dX1_walker_26 : decode cX1_walker 26 = .ok (.aaload, 1) := dk_50 (dk_at dksX1_walker_1 4 rfl rfl)
theorem dX1_walker_27 : decode cX1_walker 27 = .ok (.astore_n 3, 1) := dk_78 (dk_at dksX1_walker_1 5 rfl rfl)
theorem dX1_walker_28 : decode cX1_walker 28 = .ok (.iload_n 2, 1) := dk_28 (dk_at dksX1_walker_1 6 rfl rfl)
theorem dX1_walker_29 : decode cX1_walker 29 = .ok (.tableswitch 78 0 6 #[43, 48, 53, 58, 63, 68, 73], 43) := by decide +kernel
theorem dX1_walker_72 : decode cX1_walker 72 = .ok (.aload_n 3, 1) := dk_45 (dk_at dksX1_walker_3 0 rfl rfl)
theorem dX1_walker_73 : decode cX1_walker 73 = .ok (.invokevirtual 356, 3) := dk_182 1 100 (dk_at dksX1_walker_3 1 rfl rfl)
theorem dX1_walker_76 : decode cX1_walker 76 = .ok (.ireturn, 1) := dk_172 (dk_at dksX1_walker_3 4 rfl rfl)
theorem dX1_walker_77 : decode cX1_walker 77 = .ok (.aload_n 3, 1) := dk_45 (dk_at dksX1_walker_3 5 rfl rfl)
theorem dX1_walker_78 : decode cX1_walker 78 = .ok (.getfield 359, 3) := dk_180 1 103 (dk_at dksX1_walker_3 6 rfl rfl)
theorem dX1_walker_81 : decode cX1_walker 81 = .ok (.ireturn, 1) := dk_172 (dk_at dksX1_walker_3 9 rfl rfl)
theorem dX1_walker_82 : decode cX1_walker 82 = .ok (.aload_n 3, 1) := dk_45 (dk_at dksX1_walker_3 10 rfl rfl)
theorem dX1_walker_83 : decode cX1_walker 83 = .ok (.invokevirtual 362, 3) := dk_182 1 106 (dk_at dksX1_walker_3 11 rfl rfl)
theorem dX1_walker_86 : decode cX1_walker 86 = .ok (.ireturn, 1) := dk_172 (dk_at dksX1_walker_3 14 rfl rfl)
theorem dX1_walker_87 : decode cX1_walker 87 = .ok (.aload_n 3, 1) := dk_45 (dk_at dksX1_walker_3 15 rfl rfl)
theorem dX1_walker_88 : decode cX1_walker 88 = .ok (.invokevirtual 365, 3) := dk_182 1 109 (dk_at dksX1_walker_3 16 rfl rfl)
theorem dX1_walker_91 : decode cX1_walker 91 = .ok (.ireturn, 1) := dk_172 (dk_at dksX1_walker_3 19 rfl rfl)
theorem dX1_walker_92 : decode cX1_walker 92 = .ok (.aload_n 3, 1) := dk_45 (dk_at dksX1_walker_3 20 rfl rfl)
theorem dX1_walker_93 : decode cX1_walker 93 = .ok (.invokevirtual 368, 3) := dk_182 1 112 (dk_at dksX1_walker_3 21 rfl rfl)
theorem dX1_walker_96 : decode cX1_walker 96 = .ok (.ireturn, 1) := dk_172 (dk_at dksX1_walker_4 0 rfl rfl)
theorem dX1_walker_97 : decode cX1_walker 97 = .ok (.aload_n 3, 1) := dk_45 (dk_at dksX1_walker_4 1 rfl rfl)
theorem dX1_walker_98 : decode cX1_walker 98 = .ok (.getfield 200, 3) := dk_180 0 200 (dk_at dksX1_walker_4 2 rfl rfl)
theorem dX1_walker_101 : decode cX1_walker 101 = .ok (.ireturn, 1) := dk_172 (dk_at dksX1_walker_4 5 rfl rfl)
theorem dX1_walker_102 : decode cX1_walker 102 = .ok (.aload_n 3, 1) := dk_45 (dk_at dksX1_walker_4 6 rfl rfl)
theorem dX1_walker_103 : decode cX1_walker 103 = .ok (.getfield 203, 3) := dk_180 0 203 (dk_at dksX1_walker_4 7 rfl rfl)
theorem dX1_walker_106 : decode cX1_walker 106 = .ok (.ireturn, 1) := dk_172 (dk_at dksX1_walker_4 10 rfl rfl)
theorem dX1_walker_107 : decode cX1_walker 107 = .ok (.aload_n 0, 1) := dk_42 (dk_at dksX1_walker_4 11 rfl rfl)
theorem dX1_walker_108 : decode cX1_walker 108 = .ok (.iconst 1, 1) := dk_4 (dk_at dksX1_walker_4 12 rfl rfl)
theorem dX1_walker_109 : decode cX1_walker 109 = .ok (.invokevirtual 84, 3) := dk_182 0 84 (dk_at dksX1_walker_4 13 rfl rfl)
theorem dX1_walker_112 : decode cX1_walker 112 = .ok (.ireturn, 1) := dk_172 (dk_at dksX1_walker_4 16 rfl rfl)
abbrev cX1_road : ByteArray := prog_1_method_64_code
def yX1_road : MethodName := ⟨RX1, "road", "(II)I"⟩
def dkwX1_road_4 : List UInt8 := [172, 42, 4, 182, 0, 84, 172]
abbrev dktX1_road_4 : List UInt8 := dkwX1_road_4 ++ []
def dkwX1_road_3 : List UInt8 := [45, 180, 1, 115, 172, 45, 180, 1, 118, 172, 45, 180, 1, 121, 172, 45, 180, 1, 123, 172, 45, 180, 1, 126]
abbrev dktX1_road_3 : List UInt8 := dkwX1_road_3 ++ dktX1_road_4
def dkwX1_road_2 : List UInt8 := [170, 0, 0, 0, 0, 0, 60, 0, 0, 0, 0, 0, 0, 0, 4, 0, 0, 0, 35, 0, 0, 0, 40, 0, 0, 0, 45, 0, 0, 0, 50, 0, 0, 0, 55]
abbrev dktX1_road_2 : List UInt8 := dkwX1_road_2 ++ dktX1_road_3
def dkwX1_road_1 : List UInt8 := [180, 0, 144, 27, 50, 78, 28]
abbrev dktX1_road_1 : List UInt8 := dkwX1_road_1 ++ dktX1_road_2
def dkwX1_road_0 : List UInt8 := [42, 182, 0, 70, 42, 27, 182, 0, 122, 154, 0, 9, 42, 4, 182, 0, 84, 172, 42, 180, 0, 95]
abbrev dktX1_road_0 : List UInt8 := dkwX1_road_0 ++ dktX1_road_1
theorem dksX1_road_0 : cX1_road.data.toList.drop 0 = dktX1_road_0 := by decide +kernel
theorem dksX1_road_1 : cX1_road.data.toList.drop 22 = dktX1_road_1 := dk_seg dksX1_road_0 22 rfl rfl
theorem dksX1_road_2 : cX1_road.data.toList.drop 29 = dktX1_road_2 := dk_seg dksX1_road_1 7 rfl rfl
theorem dksX1_road_3 : cX1_road.data.toList.drop 64 = dktX1_road_3 := dk_seg dksX1_road_2 35 rfl rfl
theorem dksX1_road_4 : cX1_road.data.toList.drop 88 = dktX1_road_4 := dk_seg dksX1_road_3 24 rfl rfl
theorem dX1_road_0 : decode cX1_road 0 = .ok (.aload_n 0, 1) := dk_42 (dk_at dksX1_road_0 0 rfl rfl)
theorem dX1_road_1 : decode cX1_road 1 = .ok (.invokevirtual 70, 3) := dk_182 0 70 (dk_at dksX1_road_0 1 rfl rfl)
theorem dX1_road_4 : decode cX1_road 4 = .ok (.aload_n 0, 1) := dk_42 (dk_at dksX1_road_0 4 rfl rfl)
theorem dX1_road_5 : decode cX1_road 5 = .ok (.iload_n 1, 1) := dk_27 (dk_at dksX1_road_0 5 rfl rfl)
theorem dX1_road_6 : decode cX1_road 6 = .ok (.invokevirtual 122, 3) := dk_182 0 122 (dk_at dksX1_road_0 6 rfl rfl)
theorem dX1_road_9 : decode cX1_road 9 = .ok (.ifCond .ne 9, 3) := dk_154 0 9 (dk_at dksX1_road_0 9 rfl rfl)
theorem dX1_road_12 : decode cX1_road 12 = .ok (.aload_n 0, 1) := dk_42 (dk_at dksX1_road_0 12 rfl rfl)
theorem dX1_road_13 : decode cX1_road 13 = .ok (.iconst 1, 1) := dk_4 (dk_at dksX1_road_0 13 rfl rfl)
theorem dX1_road_14 : decode cX1_road 14 = .ok (.invokevirtual 84, 3) := dk_182 0 84 (dk_at dksX1_road_0 14 rfl rfl)
theorem dX1_road_17 : decode cX1_road 17 = .ok (.ireturn, 1) := dk_172 (dk_at dksX1_road_0 17 rfl rfl)
theorem dX1_road_18 : decode cX1_road 18 = .ok (.aload_n 0, 1) := dk_42 (dk_at dksX1_road_0 18 rfl rfl)
theorem dX1_road_19 : decode cX1_road 19 = .ok (.getfield 95, 3) := dk_180 0 95 (dk_at dksX1_road_0 19 rfl rfl)
theorem dX1_road_22 : decode cX1_road 22 = .ok (.getfield 144, 3) := dk_180 0 144 (dk_at dksX1_road_1 0 rfl rfl)
theorem dX1_road_25 : decode cX1_road 25 = .ok (.iload_n 1, 1) := dk_27 (dk_at dksX1_road_1 3 rfl rfl)
theorem dX1_road_26 : decode cX1_road 26 = .ok (.aaload, 1) := dk_50 (dk_at dksX1_road_1 4 rfl rfl)
theorem dX1_road_27 : decode cX1_road 27 = .ok (.astore_n 3, 1) := dk_78 (dk_at dksX1_road_1 5 rfl rfl)
theorem dX1_road_28 : decode cX1_road 28 = .ok (.iload_n 2, 1) := dk_28 (dk_at dksX1_road_1 6 rfl rfl)
theorem dX1_road_29 : decode cX1_road 29 = .ok (.tableswitch 60 0 4 #[35, 40, 45, 50, 55], 35) := by decide +kernel
theorem dX1_road_64 : decode cX1_road 64 = .ok (.aload_n 3, 1) := dk_45 (dk_at dksX1_road_3 0 rfl rfl)
theorem dX1_road_65 : decode cX1_road 65 = .ok (.getfield 371, 3) := dk_180 1 115 (dk_at dksX1_road_3 1 rfl rfl)
theorem dX1_road_68 : decode cX1_road 68 = .ok (.ireturn, 1) := dk_172 (dk_at dksX1_road_3 4 rfl rfl)
theorem dX1_road_69 : decode cX1_road 69 = .ok (.aload_n 3, 1) := dk_45 (dk_at dksX1_road_3 5 rfl rfl)
theorem dX1_road_70 : decode cX1_road 70 = .ok (.getfield 374, 3) := dk_180 1 118 (dk_at dksX1_road_3 6 rfl rfl)
theorem dX1_road_73 : decode cX1_road 73 = .ok (.ireturn, 1) := dk_172 (dk_at dksX1_road_3 9 rfl rfl)
theorem dX1_road_74 : decode cX1_road 74 = .ok (.aload_n 3, 1) := dk_45 (dk_at dksX1_road_3 10 rfl rfl)
theorem dX1_road_75 : decode cX1_road 75 = .ok (.getfield 377, 3) := dk_180 1 121 (dk_at dksX1_road_3 11 rfl rfl)
theorem dX1_road_78 : decode cX1_road 78 = .ok (.ireturn, 1) := dk_172 (dk_at dksX1_road_3 14 rfl rfl)
theorem dX1_road_79 : decode cX1_road 79 = .ok (.aload_n 3, 1) := dk_45 (dk_at dksX1_road_3 15 rfl rfl)
theorem dX1_road_80 : decode cX1_road 80 = .ok (.getfield 379, 3) := dk_180 1 123 (dk_at dksX1_road_3 16 rfl rfl)
theorem dX1_road_83 : decode cX1_road 83 = .ok (.ireturn, 1) := dk_172 (dk_at dksX1_road_3 19 rfl rfl)
theorem dX1_road_84 : decode cX1_road 84 = .ok (.aload_n 3, 1) := dk_45 (dk_at dksX1_road_3 20 rfl rfl)
theorem dX1_road_85 : decode cX1_road 85 = .ok (.getfield 382, 3) := dk_180 1 126 (dk_at dksX1_road_3 21 rfl rfl)
theorem dX1_road_88 : decode cX1_road 88 = .ok (.ireturn, 1) := dk_172 (dk_at dksX1_road_4 0 rfl rfl)
theorem dX1_road_89 : decode cX1_road 89 = .ok (.aload_n 0, 1) := dk_42 (dk_at dksX1_road_4 1 rfl rfl)
theorem dX1_road_90 : decode cX1_road 90 = .ok (.iconst 1, 1) := dk_4 (dk_at dksX1_road_4 2 rfl rfl)
theorem dX1_road_91 : decode cX1_road 91 = .ok (.invokevirtual 84, 3) := dk_182 0 84 (dk_at dksX1_road_4 3 rfl rfl)
theorem dX1_road_94 : decode cX1_road 94 = .ok (.ireturn, 1) := dk_172 (dk_at dksX1_road_4 6 rfl rfl)
abbrev cX1_size : ByteArray := prog_1_method_66_code
def yX1_size : MethodName := ⟨RX1, "size", "(I)I"⟩
def dkwX1_size_7 : List UInt8 := [172, 42, 180, 0, 108, 172, 2, 172]
abbrev dktX1_size_7 : List UInt8 := dkwX1_size_7 ++ []
def dkwX1_size_6 : List UInt8 := [172, 42, 182, 1, 50, 153, 0, 13, 42, 180, 0, 53, 180, 1, 30, 167, 0, 4, 3, 172, 42, 180, 0, 105]
abbrev dktX1_size_6 : List UInt8 := dkwX1_size_6 ++ dktX1_size_7
def dkwX1_size_5 : List UInt8 := [42, 180, 0, 30, 172, 42, 182, 1, 50, 153, 0, 13, 42, 180, 0, 53, 180, 1, 29, 167, 0, 5, 16, 254]
abbrev dktX1_size_5 : List UInt8 := dkwX1_size_5 ++ dktX1_size_6
def dkwX1_size_4 : List UInt8 := [42, 180, 0, 95, 180, 0, 116, 172, 42, 180, 0, 95, 180, 0, 111, 172, 42, 180, 0, 95, 180, 1, 18, 172]
abbrev dktX1_size_4 : List UInt8 := dkwX1_size_4 ++ dktX1_size_5
def dkwX1_size_3 : List UInt8 := [42, 180, 0, 95, 180, 1, 132, 172, 42, 180, 0, 95, 180, 0, 126, 172, 42, 180, 0, 95, 180, 0, 119, 172]
abbrev dktX1_size_3 : List UInt8 := dkwX1_size_3 ++ dktX1_size_4
def dkwX1_size_2 : List UInt8 := [170, 0, 0, 0, 159, 0, 0, 0, 0, 0, 0, 0, 10, 0, 0, 0, 57, 0, 0, 0, 65, 0, 0, 0, 73, 0, 0, 0, 81, 0, 0, 0, 89, 0, 0, 0, 97, 0, 0, 0, 105, 0, 0, 0, 110, 0, 0, 0, 130, 0, 0, 0, 149, 0, 0, 0, 154]
abbrev dktX1_size_2 : List UInt8 := dkwX1_size_2 ++ dktX1_size_3
def dkwX1_size_1 : List UInt8 := [184, 0, 80, 153, 0, 7, 3, 167, 0, 4, 2, 172, 27]
abbrev dktX1_size_1 : List UInt8 := dkwX1_size_1 ++ dktX1_size_2
def dkwX1_size_0 : List UInt8 := [27, 16, 11, 160, 0, 8, 42, 180, 0, 73, 172, 42, 180, 0, 95, 199, 0, 19, 27, 3, 16, 10]
abbrev dktX1_size_0 : List UInt8 := dkwX1_size_0 ++ dktX1_size_1
theorem dksX1_size_0 : cX1_size.data.toList.drop 0 = dktX1_size_0 := by decide +kernel
theorem dksX1_size_1 : cX1_size.data.toList.drop 22 = dktX1_size_1 := dk_seg dksX1_size_0 22 rfl rfl
theorem dksX1_size_2 : cX1_size.data.toList.drop 35 = dktX1_size_2 := dk_seg dksX1_size_1 13 rfl rfl
theorem dksX1_size_3 : cX1_size.data.toList.drop 92 = dktX1_size_3 := dk_seg dksX1_size_2 57 rfl rfl
theorem dksX1_size_4 : cX1_size.data.toList.drop 116 = dktX1_size_4 := dk_seg dksX1_size_3 24 rfl rfl
theorem dksX1_size_5 : cX1_size.data.toList.drop 140 = dktX1_size_5 := dk_seg dksX1_size_4 24 rfl rfl
theorem dksX1_size_6 : cX1_size.data.toList.drop 164 = dktX1_size_6 := dk_seg dksX1_size_5 24 rfl rfl
theorem dksX1_size_7 : cX1_size.data.toList.drop 188 = dktX1_size_7 := dk_seg dksX1_size_6 24 rfl rfl
theorem dX1_size_0 : decode cX1_size 0 = .ok (.iload_n 1, 1) := dk_27 (dk_at dksX1_size_0 0 rfl rfl)
theorem dX1_size_1 : decode cX1_size 1 = .ok (.bipush 11, 2) := dk_16 11 (dk_at dksX1_size_0 1 rfl rfl)
theorem dX1_size_3 : decode cX1_size 3 = .ok (.if_icmp .ne 8, 3) := dk_160 0 8 (dk_at dksX1_size_0 3 rfl rfl)
theorem dX1_size_6 : decode cX1_size 6 = .ok (.aload_n 0, 1) := dk_42 (dk_at dksX1_size_0 6 rfl rfl)
theorem dX1_size_7 : decode cX1_size 7 = .ok (.getfield 73, 3) := dk_180 0 73 (dk_at dksX1_size_0 7 rfl rfl)
theorem dX1_size_10 : decode cX1_size 10 = .ok (.ireturn, 1) := dk_172 (dk_at dksX1_size_0 10 rfl rfl)
theorem dX1_size_11 : decode cX1_size 11 = .ok (.aload_n 0, 1) := dk_42 (dk_at dksX1_size_0 11 rfl rfl)
theorem dX1_size_12 : decode cX1_size 12 = .ok (.getfield 95, 3) := dk_180 0 95 (dk_at dksX1_size_0 12 rfl rfl)
theorem dX1_size_15 : decode cX1_size 15 = .ok (.ifnonnull 19, 3) := dk_199 0 19 (dk_at dksX1_size_0 15 rfl rfl)
theorem dX1_size_18 : decode cX1_size 18 = .ok (.iload_n 1, 1) := dk_27 (dk_at dksX1_size_0 18 rfl rfl)
theorem dX1_size_19 : decode cX1_size 19 = .ok (.iconst 0, 1) := dk_3 (dk_at dksX1_size_0 19 rfl rfl)
theorem dX1_size_20 : decode cX1_size 20 = .ok (.bipush 10, 2) := dk_16 10 (dk_at dksX1_size_0 20 rfl rfl)
theorem dX1_size_22 : decode cX1_size 22 = .ok (.invokestatic 80, 3) := dk_184 0 80 (dk_at dksX1_size_1 0 rfl rfl)
theorem dX1_size_25 : decode cX1_size 25 = .ok (.ifCond .eq 7, 3) := dk_153 0 7 (dk_at dksX1_size_1 3 rfl rfl)
theorem dX1_size_28 : decode cX1_size 28 = .ok (.iconst 0, 1) := dk_3 (dk_at dksX1_size_1 6 rfl rfl)
theorem dX1_size_29 : decode cX1_size 29 = .ok (.goto 4, 3) := dk_167 0 4 (dk_at dksX1_size_1 7 rfl rfl)
theorem dX1_size_32 : decode cX1_size 32 = .ok (.iconst (-1), 1) := dk_2 (dk_at dksX1_size_1 10 rfl rfl)
theorem dX1_size_33 : decode cX1_size 33 = .ok (.ireturn, 1) := dk_172 (dk_at dksX1_size_1 11 rfl rfl)
theorem dX1_size_34 : decode cX1_size 34 = .ok (.iload_n 1, 1) := dk_27 (dk_at dksX1_size_1 12 rfl rfl)
theorem dX1_size_35 : decode cX1_size 35 = .ok (.tableswitch 159 0 10 #[57, 65, 73, 81, 89, 97, 105, 110, 130, 149, 154], 57) := by decide +kernel
theorem dX1_size_92 : decode cX1_size 92 = .ok (.aload_n 0, 1) := dk_42 (dk_at dksX1_size_3 0 rfl rfl)
theorem dX1_size_93 : decode cX1_size 93 = .ok (.getfield 95, 3) := dk_180 0 95 (dk_at dksX1_size_3 1 rfl rfl)
theorem dX1_size_96 : decode cX1_size 96 = .ok (.getfield 388, 3) := dk_180 1 132 (dk_at dksX1_size_3 4 rfl rfl)
theorem dX1_size_99 : decode cX1_size 99 = .ok (.ireturn, 1) := dk_172 (dk_at dksX1_size_3 7 rfl rfl)
theorem dX1_size_100 : decode cX1_size 100 = .ok (.aload_n 0, 1) := dk_42 (dk_at dksX1_size_3 8 rfl rfl)
theorem dX1_size_101 : decode cX1_size 101 = .ok (.getfield 95, 3) := dk_180 0 95 (dk_at dksX1_size_3 9 rfl rfl)
theorem dX1_size_104 : decode cX1_size 104 = .ok (.getfield 126, 3) := dk_180 0 126 (dk_at dksX1_size_3 12 rfl rfl)
theorem dX1_size_107 : decode cX1_size 107 = .ok (.ireturn, 1) := dk_172 (dk_at dksX1_size_3 15 rfl rfl)
theorem dX1_size_108 : decode cX1_size 108 = .ok (.aload_n 0, 1) := dk_42 (dk_at dksX1_size_3 16 rfl rfl)
theorem dX1_size_109 : decode cX1_size 109 = .ok (.getfield 95, 3) := dk_180 0 95 (dk_at dksX1_size_3 17 rfl rfl)
theorem dX1_size_112 : decode cX1_size 112 = .ok (.getfield 119, 3) := dk_180 0 119 (dk_at dksX1_size_3 20 rfl rfl)
theorem dX1_size_115 : decode cX1_size 115 = .ok (.ireturn, 1) := dk_172 (dk_at dksX1_size_3 23 rfl rfl)
theorem dX1_size_116 : decode cX1_size 116 = .ok (.aload_n 0, 1) := dk_42 (dk_at dksX1_size_4 0 rfl rfl)
theorem dX1_size_117 : decode cX1_size 117 = .ok (.getfield 95, 3) := dk_180 0 95 (dk_at dksX1_size_4 1 rfl rfl)
theorem dX1_size_120 : decode cX1_size 120 = .ok (.getfield 116, 3) := dk_180 0 116 (dk_at dksX1_size_4 4 rfl rfl)
theorem dX1_size_123 : decode cX1_size 123 = .ok (.ireturn, 1) := dk_172 (dk_at dksX1_size_4 7 rfl rfl)
theorem dX1_size_124 : decode cX1_size 124 = .ok (.aload_n 0, 1) := dk_42 (dk_at dksX1_size_4 8 rfl rfl)
theorem dX1_size_125 : decode cX1_size 125 = .ok (.getfield 95, 3) := dk_180 0 95 (dk_at dksX1_size_4 9 rfl rfl)
theorem dX1_size_128 : decode cX1_size 128 = .ok (.getfield 111, 3) := dk_180 0 111 (dk_at dksX1_size_4 12 rfl rfl)
theorem dX1_size_131 : decode cX1_size 131 = .ok (.ireturn, 1) := dk_172 (dk_at dksX1_size_4 15 rfl rfl)
theorem dX1_size_132 : decode cX1_size 132 = .ok (.aload_n 0, 1) := dk_42 (dk_at dksX1_size_4 16 rfl rfl)
theorem dX1_size_133 : decode cX1_size 133 = .ok (.getfield 95, 3) := dk_180 0 95 (dk_at dksX1_size_4 17 rfl rfl)
theorem dX1_size_136 : decode cX1_size 136 = .ok (.getfield 274, 3) := dk_180 1 18 (dk_at dksX1_size_4 20 rfl rfl)
theorem dX1_size_139 : decode cX1_size 139 = .ok (.ireturn, 1) := dk_172 (dk_at dksX1_size_4 23 rfl rfl)
theorem dX1_size_140 : decode cX1_size 140 = .ok (.aload_n 0, 1) := dk_42 (dk_at dksX1_size_5 0 rfl rfl)
theorem dX1_size_141 : decode cX1_size 141 = .ok (.getfield 30, 3) := dk_180 0 30 (dk_at dksX1_size_5 1 rfl rfl)
theorem dX1_size_144 : decode cX1_size 144 = .ok (.ireturn, 1) := dk_172 (dk_at dksX1_size_5 4 rfl rfl)
theorem dX1_size_145 : decode cX1_size 145 = .ok (.aload_n 0, 1) := dk_42 (dk_at dksX1_size_5 5 rfl rfl)
theorem dX1_size_146 : decode cX1_size 146 = .ok (.invokevirtual 306, 3) := dk_182 1 50 (dk_at dksX1_size_5 6 rfl rfl)
theorem dX1_size_149 : decode cX1_size 149 = .ok (.ifCond .eq 13, 3) := dk_153 0 13 (dk_at dksX1_size_5 9 rfl rfl)
theorem dX1_size_152 : decode cX1_size 152 = .ok (.aload_n 0, 1) := dk_42 (dk_at dksX1_size_5 12 rfl rfl)
theorem dX1_size_153 : decode cX1_size 153 = .ok (.getfield 53, 3) := dk_180 0 53 (dk_at dksX1_size_5 13 rfl rfl)
theorem dX1_size_156 : decode cX1_size 156 = .ok (.getfield 285, 3) := dk_180 1 29 (dk_at dksX1_size_5 16 rfl rfl)
theorem dX1_size_159 : decode cX1_size 159 = .ok (.goto 5, 3) := dk_167 0 5 (dk_at dksX1_size_5 19 rfl rfl)
theorem dX1_size_162 : decode cX1_size 162 = .ok (.bipush (-2), 2) := dk_16 254 (dk_at dksX1_size_5 22 rfl rfl)
theorem dX1_size_164 : decode cX1_size 164 = .ok (.ireturn, 1) := dk_172 (dk_at dksX1_size_6 0 rfl rfl)
theorem dX1_size_165 : decode cX1_size 165 = .ok (.aload_n 0, 1) := dk_42 (dk_at dksX1_size_6 1 rfl rfl)
theorem dX1_size_166 : decode cX1_size 166 = .ok (.invokevirtual 306, 3) := dk_182 1 50 (dk_at dksX1_size_6 2 rfl rfl)
theorem dX1_size_169 : decode cX1_size 169 = .ok (.ifCond .eq 13, 3) := dk_153 0 13 (dk_at dksX1_size_6 5 rfl rfl)
theorem dX1_size_172 : decode cX1_size 172 = .ok (.aload_n 0, 1) := dk_42 (dk_at dksX1_size_6 8 rfl rfl)
theorem dX1_size_173 : decode cX1_size 173 = .ok (.getfield 53, 3) := dk_180 0 53 (dk_at dksX1_size_6 9 rfl rfl)
theorem dX1_size_176 : decode cX1_size 176 = .ok (.getfield 286, 3) := dk_180 1 30 (dk_at dksX1_size_6 12 rfl rfl)
theorem dX1_size_179 : decode cX1_size 179 = .ok (.goto 4, 3) := dk_167 0 4 (dk_at dksX1_size_6 15 rfl rfl)
theorem dX1_size_182 : decode cX1_size 182 = .ok (.iconst 0, 1) := dk_3 (dk_at dksX1_size_6 18 rfl rfl)
theorem dX1_size_183 : decode cX1_size 183 = .ok (.ireturn, 1) := dk_172 (dk_at dksX1_size_6 19 rfl rfl)
theorem dX1_size_184 : decode cX1_size 184 = .ok (.aload_n 0, 1) := dk_42 (dk_at dksX1_size_6 20 rfl rfl)
theorem dX1_size_185 : decode cX1_size 185 = .ok (.getfield 105, 3) := dk_180 0 105 (dk_at dksX1_size_6 21 rfl rfl)
theorem dX1_size_188 : decode cX1_size 188 = .ok (.ireturn, 1) := dk_172 (dk_at dksX1_size_7 0 rfl rfl)
theorem dX1_size_189 : decode cX1_size 189 = .ok (.aload_n 0, 1) := dk_42 (dk_at dksX1_size_7 1 rfl rfl)
theorem dX1_size_190 : decode cX1_size 190 = .ok (.getfield 108, 3) := dk_180 0 108 (dk_at dksX1_size_7 2 rfl rfl)
theorem dX1_size_193 : decode cX1_size 193 = .ok (.ireturn, 1) := dk_172 (dk_at dksX1_size_7 5 rfl rfl)
theorem dX1_size_194 : decode cX1_size 194 = .ok (.iconst (-1), 1) := dk_2 (dk_at dksX1_size_7 6 rfl rfl)
theorem dX1_size_195 : decode cX1_size 195 = .ok (.ireturn, 1) := dk_172 (dk_at dksX1_size_7 7 rfl rfl)
abbrev cX1_trouble : ByteArray := prog_1_method_67_code
def yX1_trouble : MethodName := ⟨RX1, "trouble", "()I"⟩
theorem dX1_trouble_0 : decode cX1_trouble 0 = .ok (.aload_n 0, 1) := by decide +kernel
theorem dX1_trouble_1 : decode cX1_trouble 1 = .ok (.getfield 67, 3) := by decide +kernel
theorem dX1_trouble_4 : decode cX1_trouble 4 = .ok (.ireturn, 1) := by decide +kernel
abbrev cX1_led : ByteArray := prog_1_method_65_code
def yX1_led : MethodName := ⟨RX1, "led", "(I)I"⟩
def dkwX1_led_3 : List UInt8 := [28, 27, 160, 0, 5, 29, 172, 132, 2, 1, 132, 3, 1, 167, 255, 178, 187, 1, 129, 89, 183, 1, 131, 191]
abbrev dktX1_led_3 : List UInt8 := dkwX1_led_3 ++ []
def dkwX1_led_2 : List UInt8 := [180, 0, 95, 180, 0, 144, 29, 50, 180, 1, 118, 42, 180, 0, 53, 180, 1, 29, 159, 0, 6, 167, 0, 13]
abbrev dktX1_led_2 : List UInt8 := dkwX1_led_2 ++ dktX1_led_3
def dkwX1_led_1 : List UInt8 := [180, 0, 95, 180, 0, 144, 29, 50, 180, 1, 115, 42, 180, 0, 53, 180, 1, 29, 159, 0, 28, 42]
abbrev dktX1_led_1 : List UInt8 := dkwX1_led_1 ++ dktX1_led_2
def dkwX1_led_0 : List UInt8 := [3, 61, 3, 62, 42, 182, 1, 50, 153, 0, 77, 29, 42, 180, 0, 95, 180, 0, 116, 162, 0, 66, 42]
abbrev dktX1_led_0 : List UInt8 := dkwX1_led_0 ++ dktX1_led_1
theorem dksX1_led_0 : cX1_led.data.toList.drop 0 = dktX1_led_0 := by decide +kernel
theorem dksX1_led_1 : cX1_led.data.toList.drop 23 = dktX1_led_1 := dk_seg dksX1_led_0 23 rfl rfl
theorem dksX1_led_2 : cX1_led.data.toList.drop 45 = dktX1_led_2 := dk_seg dksX1_led_1 22 rfl rfl
theorem dksX1_led_3 : cX1_led.data.toList.drop 69 = dktX1_led_3 := dk_seg dksX1_led_2 24 rfl rfl
theorem dX1_led_0 : decode cX1_led 0 = .ok (.iconst 0, 1) := dk_3 (dk_at dksX1_led_0 0 rfl rfl)
theorem dX1_led_1 : decode cX1_led 1 = .ok (.istore_n 2, 1) := dk_61 (dk_at dksX1_led_0 1 rfl rfl)
theorem dX1_led_2 : decode cX1_led 2 = .ok (.iconst 0, 1) := dk_3 (dk_at dksX1_led_0 2 rfl rfl)
theorem dX1_led_3 : decode cX1_led 3 = .ok (.istore_n 3, 1) := dk_62 (dk_at dksX1_led_0 3 rfl rfl)
theorem dX1_led_4 : decode cX1_led 4 = .ok (.aload_n 0, 1) := dk_42 (dk_at dksX1_led_0 4 rfl rfl)
theorem dX1_led_5 : decode cX1_led 5 = .ok (.invokevirtual 306, 3) := dk_182 1 50 (dk_at dksX1_led_0 5 rfl rfl)
theorem dX1_led_8 : decode cX1_led 8 = .ok (.ifCond .eq 77, 3) := dk_153 0 77 (dk_at dksX1_led_0 8 rfl rfl)
theorem dX1_led_11 : decode cX1_led 11 = .ok (.iload_n 3, 1) := dk_29 (dk_at dksX1_led_0 11 rfl rfl)
theorem dX1_led_12 : decode cX1_led 12 = .ok (.aload_n 0, 1) := dk_42 (dk_at dksX1_led_0 12 rfl rfl)
theorem dX1_led_13 : decode cX1_led 13 = .ok (.getfield 95, 3) := dk_180 0 95 (dk_at dksX1_led_0 13 rfl rfl)
theorem dX1_led_16 : decode cX1_led 16 = .ok (.getfield 116, 3) := dk_180 0 116 (dk_at dksX1_led_0 16 rfl rfl)
theorem dX1_led_19 : decode cX1_led 19 = .ok (.if_icmp .ge 66, 3) := dk_162 0 66 (dk_at dksX1_led_0 19 rfl rfl)
theorem dX1_led_22 : decode cX1_led 22 = .ok (.aload_n 0, 1) := dk_42 (dk_at dksX1_led_0 22 rfl rfl)
theorem dX1_led_23 : decode cX1_led 23 = .ok (.getfield 95, 3) := dk_180 0 95 (dk_at dksX1_led_1 0 rfl rfl)
theorem dX1_led_26 : decode cX1_led 26 = .ok (.getfield 144, 3) := dk_180 0 144 (dk_at dksX1_led_1 3 rfl rfl)
theorem dX1_led_29 : decode cX1_led 29 = .ok (.iload_n 3, 1) := dk_29 (dk_at dksX1_led_1 6 rfl rfl)
theorem dX1_led_30 : decode cX1_led 30 = .ok (.aaload, 1) := dk_50 (dk_at dksX1_led_1 7 rfl rfl)
theorem dX1_led_31 : decode cX1_led 31 = .ok (.getfield 371, 3) := dk_180 1 115 (dk_at dksX1_led_1 8 rfl rfl)
theorem dX1_led_34 : decode cX1_led 34 = .ok (.aload_n 0, 1) := dk_42 (dk_at dksX1_led_1 11 rfl rfl)
theorem dX1_led_35 : decode cX1_led 35 = .ok (.getfield 53, 3) := dk_180 0 53 (dk_at dksX1_led_1 12 rfl rfl)
theorem dX1_led_38 : decode cX1_led 38 = .ok (.getfield 285, 3) := dk_180 1 29 (dk_at dksX1_led_1 15 rfl rfl)
theorem dX1_led_41 : decode cX1_led 41 = .ok (.if_icmp .eq 28, 3) := dk_159 0 28 (dk_at dksX1_led_1 18 rfl rfl)
theorem dX1_led_44 : decode cX1_led 44 = .ok (.aload_n 0, 1) := dk_42 (dk_at dksX1_led_1 21 rfl rfl)
theorem dX1_led_45 : decode cX1_led 45 = .ok (.getfield 95, 3) := dk_180 0 95 (dk_at dksX1_led_2 0 rfl rfl)
theorem dX1_led_48 : decode cX1_led 48 = .ok (.getfield 144, 3) := dk_180 0 144 (dk_at dksX1_led_2 3 rfl rfl)
theorem dX1_led_51 : decode cX1_led 51 = .ok (.iload_n 3, 1) := dk_29 (dk_at dksX1_led_2 6 rfl rfl)
theorem dX1_led_52 : decode cX1_led 52 = .ok (.aaload, 1) := dk_50 (dk_at dksX1_led_2 7 rfl rfl)
theorem dX1_led_53 : decode cX1_led 53 = .ok (.getfield 374, 3) := dk_180 1 118 (dk_at dksX1_led_2 8 rfl rfl)
theorem dX1_led_56 : decode cX1_led 56 = .ok (.aload_n 0, 1) := dk_42 (dk_at dksX1_led_2 11 rfl rfl)
theorem dX1_led_57 : decode cX1_led 57 = .ok (.getfield 53, 3) := dk_180 0 53 (dk_at dksX1_led_2 12 rfl rfl)
theorem dX1_led_60 : decode cX1_led 60 = .ok (.getfield 285, 3) := dk_180 1 29 (dk_at dksX1_led_2 15 rfl rfl)
theorem dX1_led_63 : decode cX1_led 63 = .ok (.if_icmp .eq 6, 3) := dk_159 0 6 (dk_at dksX1_led_2 18 rfl rfl)
theorem dX1_led_66 : decode cX1_led 66 = .ok (.goto 13, 3) := dk_167 0 13 (dk_at dksX1_led_2 21 rfl rfl)
theorem dX1_led_69 : decode cX1_led 69 = .ok (.iload_n 2, 1) := dk_28 (dk_at dksX1_led_3 0 rfl rfl)
theorem dX1_led_70 : decode cX1_led 70 = .ok (.iload_n 1, 1) := dk_27 (dk_at dksX1_led_3 1 rfl rfl)
theorem dX1_led_71 : decode cX1_led 71 = .ok (.if_icmp .ne 5, 3) := dk_160 0 5 (dk_at dksX1_led_3 2 rfl rfl)
theorem dX1_led_74 : decode cX1_led 74 = .ok (.iload_n 3, 1) := dk_29 (dk_at dksX1_led_3 5 rfl rfl)
theorem dX1_led_75 : decode cX1_led 75 = .ok (.ireturn, 1) := dk_172 (dk_at dksX1_led_3 6 rfl rfl)
theorem dX1_led_76 : decode cX1_led 76 = .ok (.iinc 2 1, 3) := dk_132 2 1 (dk_at dksX1_led_3 7 rfl rfl)
theorem dX1_led_79 : decode cX1_led 79 = .ok (.iinc 3 1, 3) := dk_132 3 1 (dk_at dksX1_led_3 10 rfl rfl)
theorem dX1_led_82 : decode cX1_led 82 = .ok (.goto (-78), 3) := dk_167 255 178 (dk_at dksX1_led_3 13 rfl rfl)
theorem dX1_led_85 : decode cX1_led 85 = .ok (.new 385, 3) := dk_187 1 129 (dk_at dksX1_led_3 16 rfl rfl)
theorem dX1_led_88 : decode cX1_led 88 = .ok (.dup, 1) := dk_89 (dk_at dksX1_led_3 19 rfl rfl)
theorem dX1_led_89 : decode cX1_led 89 = .ok (.invokespecial 387, 3) := dk_183 1 131 (dk_at dksX1_led_3 20 rfl rfl)
theorem dX1_led_92 : decode cX1_led 92 = .ok (.athrow, 1) := dk_191 (dk_at dksX1_led_3 23 rfl rfl)
theorem q112 : (Jvm.Cond.initialized "RainWalk") ∈ lw_all := lw_g (lw_at lw_m1 1 rfl) rfl
theorem q143 : (Jvm.Cond.instantiable "RainWalk" (18 : Nat)) ∈ lw_all := lw_g (lw_at lw_m1 32 rfl) rfl
theorem q145 : (Jvm.Cond.instanceMethod ({ cls := "RainWalk", name := "<init>", desc := "()V" } : Jvm.MethodName)) ∈ lw_all := lw_g (lw_at lw_m1 34 rfl) rfl
theorem q146 : (Jvm.Cond.code ({ cls := "RainWalk", name := "<init>", desc := "()V" } : Jvm.MethodName) prog_1_method_5_code (2 : Nat) (Option.none : Option Jvm.ClassFile.FieldType)) ∈ lw_all := lw_g (lw_at lw_m1 35 rfl) rfl
theorem q147 : (Jvm.Cond.methodLink "RainWalk" (7 : Nat) ({ cls := "java/lang/Object", name := "<init>", desc := "()V" } : Jvm.MethodName)) ∈ lw_all := lw_g (lw_at lw_m1 36 rfl) rfl
theorem q150 : (Jvm.Cond.classLink "RainWalk" (17 : Nat) "RainWalk$Reader") ∈ lw_all := lw_g (lw_at lw_m1 39 rfl) rfl
theorem q152 : (Jvm.Cond.methodLink "RainWalk" (19 : Nat) ({ cls := "RainWalk$Reader", name := "<init>", desc := "([B)V" } : Jvm.MethodName)) ∈ lw_all := lw_g (lw_at lw_m1 41 rfl) rfl
theorem q209 : (Jvm.Cond.fieldLink "RainWalk" (101 : Nat) "RainWalk$Refused" "fault" "I") ∈ lw_all := lw_g (lw_at lw_m1 98 rfl) rfl
theorem q211 : (Jvm.Cond.fieldLink "RainWalk" (102 : Nat) "RainWalk$Refused" "place" "I") ∈ lw_all := lw_g (lw_at lw_m1 100 rfl) rfl
theorem q262 : (Jvm.Cond.classLink "RainWalk" (33 : Nat) "RainWalk$Leg") ∈ lw_all := lw_g (lw_at lw_m1 151 rfl) rfl
theorem q264 : (Jvm.Cond.methodLinkNest "RainWalk" (35 : Nat) ({ cls := "RainWalk$Leg", name := "<init>", desc := "()V" } : Jvm.MethodName) "RainWalk") ∈ lw_tbl := lw_at lw_m1 153 rfl
theorem q269 : (Jvm.Cond.fieldLink "RainWalk" (160 : Nat) "RainWalk$Leg" "faces" "[J") ∈ lw_all := lw_g (lw_at lw_m1 158 rfl) rfl
theorem q271 : (Jvm.Cond.fieldLink "RainWalk" (196 : Nat) "RainWalk$Leg" "isForward" "Z") ∈ lw_all := lw_g (lw_at lw_m1 160 rfl) rfl
theorem q290 : (Jvm.Cond.classLink "RainWalk" (43 : Nat) "RainWalk$Ways") ∈ lw_all := lw_g (lw_at lw_m1 179 rfl) rfl
theorem q292 : (Jvm.Cond.methodLinkNest "RainWalk" (45 : Nat) ({ cls := "RainWalk$Ways", name := "<init>", desc := "()V" } : Jvm.MethodName) "RainWalk") ∈ lw_tbl := lw_at lw_m1 181 rfl
theorem q323 : (Jvm.Cond.classLink "RainWalk" (50 : Nat) "RainWalk$Day") ∈ lw_all := lw_g (lw_at lw_m1 212 rfl) rfl
theorem q325 : (Jvm.Cond.methodLinkNest "RainWalk" (52 : Nat) ({ cls := "RainWalk$Day", name := "<init>", desc := "()V" } : Jvm.MethodName) "RainWalk") ∈ lw_tbl := lw_at lw_m1 214 rfl
theorem q330 : (Jvm.Cond.fieldLink "RainWalk" (289 : Nat) "RainWalk$Day" "got" "[J") ∈ lw_all := lw_g (lw_at lw_m1 219 rfl) rfl
theorem q332 : (Jvm.Cond.fieldLink "RainWalk" (285 : Nat) "RainWalk$Day" "place" "I") ∈ lw_all := lw_g (lw_at lw_m1 221 rfl) rfl
theorem q334 : (Jvm.Cond.fieldLink "RainWalk" (286 : Nat) "RainWalk$Day" "minute" "I") ∈ lw_all := lw_g (lw_at lw_m1 223 rfl) rfl
theorem q343 : (Jvm.Cond.fieldLink "RainWalk" (13 : Nat) "RainWalk" "tape" "[B") ∈ lw_all := lw_g (lw_at lw_m1 232 rfl) rfl
theorem q344 : (Jvm.Cond.fieldLink "RainWalk" (73 : Nat) "RainWalk" "taped" "I") ∈ lw_all := lw_g (lw_at lw_m1 233 rfl) rfl
theorem q345 : (Jvm.Cond.fieldLink "RainWalk" (22 : Nat) "RainWalk" "reader" "LRainWalk$Reader;") ∈ lw_all := lw_g (lw_at lw_m1 234 rfl) rfl
theorem q346 : (Jvm.Cond.fieldLink "RainWalk" (95 : Nat) "RainWalk" "world" "LRainWalk$World;") ∈ lw_all := lw_g (lw_at lw_m1 235 rfl) rfl
theorem q347 : (Jvm.Cond.fieldLink "RainWalk" (67 : Nat) "RainWalk" "trouble" "I") ∈ lw_all := lw_g (lw_at lw_m1 236 rfl) rfl
theorem q348 : (Jvm.Cond.fieldLink "RainWalk" (88 : Nat) "RainWalk" "fault" "I") ∈ lw_all := lw_g (lw_at lw_m1 237 rfl) rfl
theorem q349 : (Jvm.Cond.fieldLink "RainWalk" (26 : Nat) "RainWalk" "where" "I") ∈ lw_all := lw_g (lw_at lw_m1 238 rfl) rfl
theorem q350 : (Jvm.Cond.fieldLink "RainWalk" (30 : Nat) "RainWalk" "who" "I") ∈ lw_all := lw_g (lw_at lw_m1 239 rfl) rfl
theorem q351 : (Jvm.Cond.fieldLink "RainWalk" (292 : Nat) "RainWalk" "rains" "I") ∈ lw_all := lw_g (lw_at lw_m2 0 rfl) rfl
theorem q352 : (Jvm.Cond.fieldLink "RainWalk" (108 : Nat) "RainWalk" "markMany" "I") ∈ lw_all := lw_g (lw_at lw_m2 1 rfl) rfl
theorem q353 : (Jvm.Cond.fieldLink "RainWalk" (105 : Nat) "RainWalk" "undoMany" "I") ∈ lw_all := lw_g (lw_at lw_m2 2 rfl) rfl
theorem q354 : (Jvm.Cond.fieldLink "RainWalk" (36 : Nat) "RainWalk" "leg" "LRainWalk$Leg;") ∈ lw_all := lw_g (lw_at lw_m2 3 rfl) rfl
theorem q355 : (Jvm.Cond.fieldLink "RainWalk" (40 : Nat) "RainWalk" "otherLeg" "LRainWalk$Leg;") ∈ lw_all := lw_g (lw_at lw_m2 4 rfl) rfl
theorem q356 : (Jvm.Cond.fieldLink "RainWalk" (46 : Nat) "RainWalk" "ways" "LRainWalk$Ways;") ∈ lw_all := lw_g (lw_at lw_m2 5 rfl) rfl
theorem q357 : (Jvm.Cond.fieldLink "RainWalk" (53 : Nat) "RainWalk" "day" "LRainWalk$Day;") ∈ lw_all := lw_g (lw_at lw_m2 6 rfl) rfl
theorem q358 : (Jvm.Cond.fieldLink "RainWalk" (57 : Nat) "RainWalk" "was" "LRainWalk$Day;") ∈ lw_all := lw_g (lw_at lw_m2 7 rfl) rfl
theorem q359 : (Jvm.Cond.fieldLink "RainWalk" (60 : Nat) "RainWalk" "undone" "[LRainWalk$Day;") ∈ lw_all := lw_g (lw_at lw_m2 8 rfl) rfl
theorem q360 : (Jvm.Cond.fieldLink "RainWalk" (64 : Nat) "RainWalk" "marks" "[LRainWalk$Day;") ∈ lw_all := lw_g (lw_at lw_m2 9 rfl) rfl
theorem q361 : (Jvm.Cond.laysFinal "RainWalk" "RainWalk" "tape" "[B") ∈ lw_all := lw_g (lw_at lw_m2 10 rfl) rfl
theorem q362 : (Jvm.Cond.soleField "RainWalk" "tape") ∈ lw_all := lw_g (lw_at lw_m2 11 rfl) rfl
theorem q363 : (Jvm.Cond.lays "RainWalk" "RainWalk" "taped" "I") ∈ lw_all := lw_g (lw_at lw_m2 12 rfl) rfl
theorem q364 : (Jvm.Cond.soleField "RainWalk" "taped") ∈ lw_all := lw_g (lw_at lw_m2 13 rfl) rfl
theorem q365 : (Jvm.Cond.laysFinal "RainWalk" "RainWalk" "reader" "LRainWalk$Reader;") ∈ lw_all := lw_g (lw_at lw_m2 14 rfl) rfl
theorem q366 : (Jvm.Cond.soleField "RainWalk" "reader") ∈ lw_all := lw_g (lw_at lw_m2 15 rfl) rfl
theorem q367 : (Jvm.Cond.lays "RainWalk" "RainWalk" "world" "LRainWalk$World;") ∈ lw_all := lw_g (lw_at lw_m2 16 rfl) rfl
theorem q368 : (Jvm.Cond.soleField "RainWalk" "world") ∈ lw_all := lw_g (lw_at lw_m2 17 rfl) rfl
theorem q369 : (Jvm.Cond.lays "RainWalk" "RainWalk" "trouble" "I") ∈ lw_all := lw_g (lw_at lw_m2 18 rfl) rfl
theorem q370 : (Jvm.Cond.soleField "RainWalk" "trouble") ∈ lw_all := lw_g (lw_at lw_m2 19 rfl) rfl
theorem q371 : (Jvm.Cond.lays "RainWalk" "RainWalk" "fault" "I") ∈ lw_all := lw_g (lw_at lw_m2 20 rfl) rfl
theorem q372 : (Jvm.Cond.soleField "RainWalk" "fault") ∈ lw_all := lw_g (lw_at lw_m2 21 rfl) rfl
theorem q373 : (Jvm.Cond.lays "RainWalk" "RainWalk" "where" "I") ∈ lw_all := lw_g (lw_at lw_m2 22 rfl) rfl
theorem q374 : (Jvm.Cond.soleField "RainWalk" "where") ∈ lw_all := lw_g (lw_at lw_m2 23 rfl) rfl
theorem q375 : (Jvm.Cond.lays "RainWalk" "RainWalk" "who" "I") ∈ lw_all := lw_g (lw_at lw_m2 24 rfl) rfl
theorem q376 : (Jvm.Cond.soleField "RainWalk" "who") ∈ lw_all := lw_g (lw_at lw_m2 25 rfl) rfl
theorem q377 : (Jvm.Cond.lays "RainWalk" "RainWalk" "rains" "I") ∈ lw_all := lw_g (lw_at lw_m2 26 rfl) rfl
theorem q378 : (Jvm.Cond.soleField "RainWalk" "rains") ∈ lw_all := lw_g (lw_at lw_m2 27 rfl) rfl
theorem q379 : (Jvm.Cond.lays "RainWalk" "RainWalk" "markMany" "I") ∈ lw_all := lw_g (lw_at lw_m2 28 rfl) rfl
theorem q380 : (Jvm.Cond.soleField "RainWalk" "markMany") ∈ lw_all := lw_g (lw_at lw_m2 29 rfl) rfl
theorem q381 : (Jvm.Cond.lays "RainWalk" "RainWalk" "undoMany" "I") ∈ lw_all := lw_g (lw_at lw_m2 30 rfl) rfl
theorem q382 : (Jvm.Cond.soleField "RainWalk" "undoMany") ∈ lw_all := lw_g (lw_at lw_m2 31 rfl) rfl
theorem q383 : (Jvm.Cond.laysFinal "RainWalk" "RainWalk" "leg" "LRainWalk$Leg;") ∈ lw_all := lw_g (lw_at lw_m2 32 rfl) rfl
theorem q384 : (Jvm.Cond.soleField "RainWalk" "leg") ∈ lw_all := lw_g (lw_at lw_m2 33 rfl) rfl
theorem q385 : (Jvm.Cond.laysFinal "RainWalk" "RainWalk" "otherLeg" "LRainWalk$Leg;") ∈ lw_all := lw_g (lw_at lw_m2 34 rfl) rfl
theorem q386 : (Jvm.Cond.soleField "RainWalk" "otherLeg") ∈ lw_all := lw_g (lw_at lw_m2 35 rfl) rfl
theorem q387 : (Jvm.Cond.laysFinal "RainWalk" "RainWalk" "ways" "LRainWalk$Ways;") ∈ lw_all := lw_g (lw_at lw_m2 36 rfl) rfl
theorem q388 : (Jvm.Cond.soleField "RainWalk" "ways") ∈ lw_all := lw_g (lw_at lw_m2 37 rfl) rfl
theorem q389 : (Jvm.Cond.laysFinal "RainWalk" "RainWalk" "day" "LRainWalk$Day;") ∈ lw_all := lw_g (lw_at lw_m2 38 rfl) rfl
theorem q390 : (Jvm.Cond.soleField "RainWalk" "day") ∈ lw_all := lw_g (lw_at lw_m2 39 rfl) rfl
theorem q391 : (Jvm.Cond.laysFinal "RainWalk" "RainWalk" "was" "LRainWalk$Day;") ∈ lw_all := lw_g (lw_at lw_m2 40 rfl) rfl
theorem q392 : (Jvm.Cond.soleField "RainWalk" "was") ∈ lw_all := lw_g (lw_at lw_m2 41 rfl) rfl
theorem q393 : (Jvm.Cond.laysFinal "RainWalk" "RainWalk" "undone" "[LRainWalk$Day;") ∈ lw_all := lw_g (lw_at lw_m2 42 rfl) rfl
theorem q394 : (Jvm.Cond.soleField "RainWalk" "undone") ∈ lw_all := lw_g (lw_at lw_m2 43 rfl) rfl
theorem q395 : (Jvm.Cond.laysFinal "RainWalk" "RainWalk" "marks" "[LRainWalk$Day;") ∈ lw_all := lw_g (lw_at lw_m2 44 rfl) rfl
theorem q396 : (Jvm.Cond.soleField "RainWalk" "marks") ∈ lw_all := lw_g (lw_at lw_m2 45 rfl) rfl
theorem q397 : (Jvm.Cond.superclass "RainWalk" "java/lang/Object") ∈ lw_all := lw_g (lw_at lw_m2 46 rfl) rfl
theorem q399 : (Jvm.Cond.instanceMethod ({ cls := "RainWalk", name := "feed", desc := "(IIIII)I" } : Jvm.MethodName)) ∈ lw_all := lw_g (lw_at lw_m2 48 rfl) rfl
theorem q400 : (Jvm.Cond.selects "RainWalk" ({ cls := "RainWalk", name := "feed", desc := "(IIIII)I" } : Jvm.MethodName) ({ cls := "RainWalk", name := "feed", desc := "(IIIII)I" } : Jvm.MethodName)) ∈ lw_all := lw_g (lw_at lw_m2 49 rfl) rfl
theorem q401 : (Jvm.Cond.code ({ cls := "RainWalk", name := "feed", desc := "(IIIII)I" } : Jvm.MethodName) prog_1_method_9_code (6 : Nat) (Option.some Jvm.ClassFile.FieldType.int)) ∈ lw_all := lw_g (lw_at lw_m2 50 rfl) rfl
theorem q402 : (Jvm.Cond.methodLink "RainWalk" (76 : Nat) ({ cls := "RainWalk", name := "bytes", desc := "(I)V" } : Jvm.MethodName)) ∈ lw_all := lw_g (lw_at lw_m2 51 rfl) rfl
theorem q403 : (Jvm.Cond.privateMethod ({ cls := "RainWalk", name := "bytes", desc := "(I)V" } : Jvm.MethodName)) ∈ lw_tbl := lw_at lw_m2 52 rfl
theorem q404 : (Jvm.Cond.instanceMethod ({ cls := "RainWalk", name := "bytes", desc := "(I)V" } : Jvm.MethodName)) ∈ lw_all := lw_g (lw_at lw_m2 53 rfl) rfl
theorem q405 : (Jvm.Cond.code ({ cls := "RainWalk", name := "bytes", desc := "(I)V" } : Jvm.MethodName) prog_1_method_10_code (3 : Nat) (Option.none : Option Jvm.ClassFile.FieldType)) ∈ lw_all := lw_g (lw_at lw_m2 54 rfl) rfl
theorem q407 : (Jvm.Cond.instanceMethod ({ cls := "RainWalk", name := "world", desc := "(I)I" } : Jvm.MethodName)) ∈ lw_all := lw_g (lw_at lw_m2 56 rfl) rfl
theorem q408 : (Jvm.Cond.selects "RainWalk" ({ cls := "RainWalk", name := "world", desc := "(I)I" } : Jvm.MethodName) ({ cls := "RainWalk", name := "world", desc := "(I)I" } : Jvm.MethodName)) ∈ lw_all := lw_g (lw_at lw_m2 57 rfl) rfl
theorem q409 : (Jvm.Cond.codeWith ({ cls := "RainWalk", name := "world", desc := "(I)I" } : Jvm.MethodName) prog_1_method_11_code (3 : Nat) (Option.some Jvm.ClassFile.FieldType.int) [((32 : Nat), (44 : Nat), (47 : Nat), (99 : Nat))]) ∈ lw_all := lw_g (lw_at lw_m2 58 rfl) rfl
theorem q410 : (Jvm.Cond.classLink "RainWalk" (99 : Nat) "RainWalk$Refused") ∈ lw_all := lw_g (lw_at lw_m2 59 rfl) rfl
theorem q411 : (Jvm.Cond.methodLink "RainWalk" (70 : Nat) ({ cls := "RainWalk", name := "anew", desc := "()V" } : Jvm.MethodName)) ∈ lw_all := lw_g (lw_at lw_m2 60 rfl) rfl
theorem q412 : (Jvm.Cond.privateMethod ({ cls := "RainWalk", name := "anew", desc := "()V" } : Jvm.MethodName)) ∈ lw_tbl := lw_at lw_m2 61 rfl
theorem q413 : (Jvm.Cond.instanceMethod ({ cls := "RainWalk", name := "anew", desc := "()V" } : Jvm.MethodName)) ∈ lw_all := lw_g (lw_at lw_m2 62 rfl) rfl
theorem q414 : (Jvm.Cond.code ({ cls := "RainWalk", name := "anew", desc := "()V" } : Jvm.MethodName) prog_1_method_6_code (1 : Nat) (Option.none : Option Jvm.ClassFile.FieldType)) ∈ lw_all := lw_g (lw_at lw_m2 63 rfl) rfl
theorem q415 : (Jvm.Cond.methodLink "RainWalk" (80 : Nat) ({ cls := "RainWalk", name := "in", desc := "(III)Z" } : Jvm.MethodName)) ∈ lw_all := lw_g (lw_at lw_m2 64 rfl) rfl
theorem q416 : (Jvm.Cond.static ({ cls := "RainWalk", name := "in", desc := "(III)Z" } : Jvm.MethodName)) ∈ lw_all := lw_g (lw_at lw_m2 65 rfl) rfl
theorem q417 : (Jvm.Cond.code ({ cls := "RainWalk", name := "in", desc := "(III)Z" } : Jvm.MethodName) prog_1_method_1_code (3 : Nat) (Option.some Jvm.ClassFile.FieldType.boolean)) ∈ lw_all := lw_g (lw_at lw_m2 66 rfl) rfl
theorem q418 : (Jvm.Cond.methodLink "RainWalk" (84 : Nat) ({ cls := "RainWalk", name := "no", desc := "(I)I" } : Jvm.MethodName)) ∈ lw_all := lw_g (lw_at lw_m2 67 rfl) rfl
theorem q419 : (Jvm.Cond.privateMethod ({ cls := "RainWalk", name := "no", desc := "(I)I" } : Jvm.MethodName)) ∈ lw_tbl := lw_at lw_m2 68 rfl
theorem q420 : (Jvm.Cond.instanceMethod ({ cls := "RainWalk", name := "no", desc := "(I)I" } : Jvm.MethodName)) ∈ lw_all := lw_g (lw_at lw_m2 69 rfl) rfl
theorem q421 : (Jvm.Cond.code ({ cls := "RainWalk", name := "no", desc := "(I)I" } : Jvm.MethodName) prog_1_method_7_code (2 : Nat) (Option.some Jvm.ClassFile.FieldType.int)) ∈ lw_all := lw_g (lw_at lw_m2 70 rfl) rfl
theorem q422 : (Jvm.Cond.methodLink "RainWalk" (91 : Nat) ({ cls := "RainWalk$Reader", name := "read", desc := "(I)LRainWalk$World;" } : Jvm.MethodName)) ∈ lw_all := lw_g (lw_at lw_m2 71 rfl) rfl
theorem q444 : (Jvm.Cond.fieldLink "RainWalk" (148 : Nat) "RainWalk$World" "hours" "[LRainWalk$Rain;") ∈ lw_all := lw_g (lw_at lw_m2 93 rfl) rfl
theorem q449 : (Jvm.Cond.fieldLink "RainWalk" (325 : Nat) "RainWalk$World" "places" "[LRainWalk$Place;") ∈ lw_all := lw_g (lw_at lw_m2 98 rfl) rfl
theorem q452 : (Jvm.Cond.fieldLink "RainWalk" (144 : Nat) "RainWalk$World" "roads" "[LRainWalk$Road;") ∈ lw_all := lw_g (lw_at lw_m2 101 rfl) rfl
theorem q455 : (Jvm.Cond.fieldLink "RainWalk" (135 : Nat) "RainWalk$World" "walkers" "[LRainWalk$Walker;") ∈ lw_all := lw_g (lw_at lw_m2 104 rfl) rfl
theorem q459 : (Jvm.Cond.fieldLink "RainWalk" (257 : Nat) "RainWalk$World" "seen" "[LRainWalk$Seen;") ∈ lw_all := lw_g (lw_at lw_m2 108 rfl) rfl
theorem q462 : (Jvm.Cond.fieldLink "RainWalk" (388 : Nat) "RainWalk$World" "hour" "I") ∈ lw_all := lw_g (lw_at lw_m2 111 rfl) rfl
theorem q465 : (Jvm.Cond.fieldLink "RainWalk" (126 : Nat) "RainWalk$World" "hourMany" "I") ∈ lw_all := lw_g (lw_at lw_m2 114 rfl) rfl
theorem q469 : (Jvm.Cond.fieldLink "RainWalk" (119 : Nat) "RainWalk$World" "placeMany" "I") ∈ lw_all := lw_g (lw_at lw_m2 118 rfl) rfl
theorem q472 : (Jvm.Cond.fieldLink "RainWalk" (116 : Nat) "RainWalk$World" "roadMany" "I") ∈ lw_all := lw_g (lw_at lw_m2 121 rfl) rfl
theorem q475 : (Jvm.Cond.fieldLink "RainWalk" (111 : Nat) "RainWalk$World" "walkerMany" "I") ∈ lw_all := lw_g (lw_at lw_m2 124 rfl) rfl
theorem q478 : (Jvm.Cond.fieldLink "RainWalk" (274 : Nat) "RainWalk$World" "seenMany" "I") ∈ lw_all := lw_g (lw_at lw_m2 127 rfl) rfl
theorem q731 : (Jvm.Cond.fieldLink "RainWalk" (174 : Nat) "RainWalk$Rain" "chance" "I") ∈ lw_all := lw_g (lw_at lw_m3 140 rfl) rfl
theorem q781 : (Jvm.Cond.fieldLink "RainWalk" (337 : Nat) "RainWalk$Place" "drips" "I") ∈ lw_all := lw_g (lw_at lw_m3 190 rfl) rfl
theorem q814 : (Jvm.Cond.fieldLink "RainWalk" (371 : Nat) "RainWalk$Road" "from" "I") ∈ lw_all := lw_g (lw_at lw_m3 223 rfl) rfl
theorem q816 : (Jvm.Cond.fieldLink "RainWalk" (374 : Nat) "RainWalk$Road" "to" "I") ∈ lw_all := lw_g (lw_at lw_m3 225 rfl) rfl
theorem q818 : (Jvm.Cond.fieldLink "RainWalk" (377 : Nat) "RainWalk$Road" "side" "I") ∈ lw_all := lw_g (lw_at lw_m3 227 rfl) rfl
theorem q820 : (Jvm.Cond.fieldLink "RainWalk" (379 : Nat) "RainWalk$Road" "length" "I") ∈ lw_all := lw_g (lw_at lw_m3 229 rfl) rfl
theorem q823 : (Jvm.Cond.fieldLink "RainWalk" (382 : Nat) "RainWalk$Road" "awning" "I") ∈ lw_all := lw_g (lw_at lw_m3 232 rfl) rfl
theorem q860 : (Jvm.Cond.fieldLink "RainWalk" (359 : Nat) "RainWalk$Walker" "by" "I") ∈ lw_all := lw_g (lw_at lw_m4 29 rfl) rfl
theorem q870 : (Jvm.Cond.fieldLink "RainWalk" (200 : Nat) "RainWalk$Walker" "slowest" "I") ∈ lw_all := lw_g (lw_at lw_m4 39 rfl) rfl
theorem q874 : (Jvm.Cond.fieldLink "RainWalk" (203 : Nat) "RainWalk$Walker" "fastest" "I") ∈ lw_all := lw_g (lw_at lw_m4 43 rfl) rfl
theorem q966 : (Jvm.Cond.fieldLink "RainWalk" (271 : Nat) "RainWalk$Seen" "faces" "[I") ∈ lw_all := lw_g (lw_at lw_m4 135 rfl) rfl
theorem q968 : (Jvm.Cond.fieldLink "RainWalk" (261 : Nat) "RainWalk$Seen" "walker" "I") ∈ lw_all := lw_g (lw_at lw_m4 137 rfl) rfl
theorem q976 : (Jvm.Cond.instanceMethod ({ cls := "RainWalk", name := "fault", desc := "()I" } : Jvm.MethodName)) ∈ lw_all := lw_g (lw_at lw_m4 145 rfl) rfl
theorem q977 : (Jvm.Cond.selects "RainWalk" ({ cls := "RainWalk", name := "fault", desc := "()I" } : Jvm.MethodName) ({ cls := "RainWalk", name := "fault", desc := "()I" } : Jvm.MethodName)) ∈ lw_all := lw_g (lw_at lw_m4 146 rfl) rfl
theorem q978 : (Jvm.Cond.code ({ cls := "RainWalk", name := "fault", desc := "()I" } : Jvm.MethodName) prog_1_method_12_code (1 : Nat) (Option.some Jvm.ClassFile.FieldType.int)) ∈ lw_all := lw_g (lw_at lw_m4 147 rfl) rfl
theorem q980 : (Jvm.Cond.instanceMethod ({ cls := "RainWalk", name := "where", desc := "()I" } : Jvm.MethodName)) ∈ lw_all := lw_g (lw_at lw_m4 149 rfl) rfl
theorem q981 : (Jvm.Cond.selects "RainWalk" ({ cls := "RainWalk", name := "where", desc := "()I" } : Jvm.MethodName) ({ cls := "RainWalk", name := "where", desc := "()I" } : Jvm.MethodName)) ∈ lw_all := lw_g (lw_at lw_m4 150 rfl) rfl
theorem q982 : (Jvm.Cond.code ({ cls := "RainWalk", name := "where", desc := "()I" } : Jvm.MethodName) prog_1_method_13_code (1 : Nat) (Option.some Jvm.ClassFile.FieldType.int)) ∈ lw_all := lw_g (lw_at lw_m4 151 rfl) rfl
theorem q984 : (Jvm.Cond.instanceMethod ({ cls := "RainWalk", name := "face", desc := "(IIIIIIZ)J" } : Jvm.MethodName)) ∈ lw_all := lw_g (lw_at lw_m4 153 rfl) rfl
theorem q985 : (Jvm.Cond.selects "RainWalk" ({ cls := "RainWalk", name := "face", desc := "(IIIIIIZ)J" } : Jvm.MethodName) ({ cls := "RainWalk", name := "face", desc := "(IIIIIIZ)J" } : Jvm.MethodName)) ∈ lw_all := lw_g (lw_at lw_m4 154 rfl) rfl
theorem q986 : (Jvm.Cond.code ({ cls := "RainWalk", name := "face", desc := "(IIIIIIZ)J" } : Jvm.MethodName) prog_1_method_19_code (9 : Nat) (Option.some Jvm.ClassFile.FieldType.long)) ∈ lw_all := lw_g (lw_at lw_m4 155 rfl) rfl
theorem q987 : (Jvm.Cond.methodLink "RainWalk" (156 : Nat) ({ cls := "RainWalk", name := "legWhy", desc := "(IIIII)I" } : Jvm.MethodName)) ∈ lw_all := lw_g (lw_at lw_m4 156 rfl) rfl
theorem q988 : (Jvm.Cond.privateMethod ({ cls := "RainWalk", name := "legWhy", desc := "(IIIII)I" } : Jvm.MethodName)) ∈ lw_tbl := lw_at lw_m4 157 rfl
theorem q989 : (Jvm.Cond.instanceMethod ({ cls := "RainWalk", name := "legWhy", desc := "(IIIII)I" } : Jvm.MethodName)) ∈ lw_all := lw_g (lw_at lw_m4 158 rfl) rfl
theorem q990 : (Jvm.Cond.code ({ cls := "RainWalk", name := "legWhy", desc := "(IIIII)I" } : Jvm.MethodName) prog_1_method_18_code (6 : Nat) (Option.some Jvm.ClassFile.FieldType.int)) ∈ lw_all := lw_g (lw_at lw_m4 159 rfl) rfl
theorem q991 : (Jvm.Cond.methodLink "RainWalk" (129 : Nat) ({ cls := "RainWalk", name := "isWalker", desc := "(I)Z" } : Jvm.MethodName)) ∈ lw_all := lw_g (lw_at lw_m4 160 rfl) rfl
theorem q992 : (Jvm.Cond.privateMethod ({ cls := "RainWalk", name := "isWalker", desc := "(I)Z" } : Jvm.MethodName)) ∈ lw_tbl := lw_at lw_m4 161 rfl
theorem q993 : (Jvm.Cond.instanceMethod ({ cls := "RainWalk", name := "isWalker", desc := "(I)Z" } : Jvm.MethodName)) ∈ lw_all := lw_g (lw_at lw_m4 162 rfl) rfl
theorem q994 : (Jvm.Cond.code ({ cls := "RainWalk", name := "isWalker", desc := "(I)Z" } : Jvm.MethodName) prog_1_method_14_code (2 : Nat) (Option.some Jvm.ClassFile.FieldType.boolean)) ∈ lw_all := lw_g (lw_at lw_m4 163 rfl) rfl
theorem q995 : (Jvm.Cond.methodLink "RainWalk" (132 : Nat) ({ cls := "RainWalk", name := "isLeg", desc := "(III)Z" } : Jvm.MethodName)) ∈ lw_all := lw_g (lw_at lw_m4 164 rfl) rfl
theorem q996 : (Jvm.Cond.privateMethod ({ cls := "RainWalk", name := "isLeg", desc := "(III)Z" } : Jvm.MethodName)) ∈ lw_tbl := lw_at lw_m4 165 rfl
theorem q997 : (Jvm.Cond.instanceMethod ({ cls := "RainWalk", name := "isLeg", desc := "(III)Z" } : Jvm.MethodName)) ∈ lw_all := lw_g (lw_at lw_m4 166 rfl) rfl
theorem q998 : (Jvm.Cond.code ({ cls := "RainWalk", name := "isLeg", desc := "(III)Z" } : Jvm.MethodName) prog_1_method_17_code (4 : Nat) (Option.some Jvm.ClassFile.FieldType.boolean)) ∈ lw_all := lw_g (lw_at lw_m4 167 rfl) rfl
theorem q999 : (Jvm.Cond.methodLink "RainWalk" (122 : Nat) ({ cls := "RainWalk", name := "isRoad", desc := "(I)Z" } : Jvm.MethodName)) ∈ lw_all := lw_g (lw_at lw_m4 168 rfl) rfl
theorem q1000 : (Jvm.Cond.privateMethod ({ cls := "RainWalk", name := "isRoad", desc := "(I)Z" } : Jvm.MethodName)) ∈ lw_tbl := lw_at lw_m4 169 rfl
theorem q1001 : (Jvm.Cond.instanceMethod ({ cls := "RainWalk", name := "isRoad", desc := "(I)Z" } : Jvm.MethodName)) ∈ lw_all := lw_g (lw_at lw_m4 170 rfl) rfl
theorem q1002 : (Jvm.Cond.code ({ cls := "RainWalk", name := "isRoad", desc := "(I)Z" } : Jvm.MethodName) prog_1_method_15_code (2 : Nat) (Option.some Jvm.ClassFile.FieldType.boolean)) ∈ lw_all := lw_g (lw_at lw_m4 171 rfl) rfl
theorem q1003 : (Jvm.Cond.methodLink "RainWalk" (139 : Nat) ({ cls := "RainWalk$Walker", name := "hasSpeed", desc := "(I)Z" } : Jvm.MethodName)) ∈ lw_all := lw_g (lw_at lw_m4 172 rfl) rfl
theorem q1012 : (Jvm.Cond.methodLink "RainWalk" (152 : Nat) ({ cls := "RainWalk$Leg", name := "lay", desc := "(LRainWalk$Walker;LRainWalk$Road;ILRainWalk$Rain;I)V" } : Jvm.MethodName)) ∈ lw_all := lw_g (lw_at lw_m4 181 rfl) rfl
theorem q1100 : (Jvm.Cond.constantLong "RainWalk" (164 : Nat) (2520 : Int64)) ∈ lw_all := lw_g (lw_at lw_m5 29 rfl) rfl
theorem q1101 : (Jvm.Cond.methodLink "RainWalk" (166 : Nat) ({ cls := "RainWalk", name := "part", desc := "(JJZ)J" } : Jvm.MethodName)) ∈ lw_all := lw_g (lw_at lw_m5 30 rfl) rfl
theorem q1102 : (Jvm.Cond.static ({ cls := "RainWalk", name := "part", desc := "(JJZ)J" } : Jvm.MethodName)) ∈ lw_all := lw_g (lw_at lw_m5 31 rfl) rfl
theorem q1103 : (Jvm.Cond.code ({ cls := "RainWalk", name := "part", desc := "(JJZ)J" } : Jvm.MethodName) prog_1_method_4_code (7 : Nat) (Option.some Jvm.ClassFile.FieldType.long)) ∈ lw_all := lw_g (lw_at lw_m5 32 rfl) rfl
theorem q1104 : (Jvm.Cond.methodLink "RainWalk" (1 : Nat) ({ cls := "RainWalk", name := "common", desc := "(JJ)J" } : Jvm.MethodName)) ∈ lw_all := lw_g (lw_at lw_m5 33 rfl) rfl
theorem q1105 : (Jvm.Cond.static ({ cls := "RainWalk", name := "common", desc := "(JJ)J" } : Jvm.MethodName)) ∈ lw_all := lw_g (lw_at lw_m5 34 rfl) rfl
theorem q1106 : (Jvm.Cond.code ({ cls := "RainWalk", name := "common", desc := "(JJ)J" } : Jvm.MethodName) prog_1_method_3_code (10 : Nat) (Option.some Jvm.ClassFile.FieldType.long)) ∈ lw_all := lw_g (lw_at lw_m5 35 rfl) rfl
theorem q1108 : (Jvm.Cond.instanceMethod ({ cls := "RainWalk", name := "wet", desc := "(IIIIIZ)J" } : Jvm.MethodName)) ∈ lw_all := lw_g (lw_at lw_m5 37 rfl) rfl
theorem q1109 : (Jvm.Cond.selects "RainWalk" ({ cls := "RainWalk", name := "wet", desc := "(IIIIIZ)J" } : Jvm.MethodName) ({ cls := "RainWalk", name := "wet", desc := "(IIIIIZ)J" } : Jvm.MethodName)) ∈ lw_all := lw_g (lw_at lw_m5 38 rfl) rfl
theorem q1110 : (Jvm.Cond.code ({ cls := "RainWalk", name := "wet", desc := "(IIIIIZ)J" } : Jvm.MethodName) prog_1_method_20_code (8 : Nat) (Option.some Jvm.ClassFile.FieldType.long)) ∈ lw_all := lw_g (lw_at lw_m5 39 rfl) rfl
theorem q1111 : (Jvm.Cond.methodLink "RainWalk" (170 : Nat) ({ cls := "RainWalk$Leg", name := "wet", desc := "()J" } : Jvm.MethodName)) ∈ lw_all := lw_g (lw_at lw_m5 40 rfl) rfl
theorem q1116 : (Jvm.Cond.instanceMethod ({ cls := "RainWalk", name := "mean", desc := "(IIIIIZ)J" } : Jvm.MethodName)) ∈ lw_all := lw_g (lw_at lw_m5 45 rfl) rfl
theorem q1117 : (Jvm.Cond.selects "RainWalk" ({ cls := "RainWalk", name := "mean", desc := "(IIIIIZ)J" } : Jvm.MethodName) ({ cls := "RainWalk", name := "mean", desc := "(IIIIIZ)J" } : Jvm.MethodName)) ∈ lw_all := lw_g (lw_at lw_m5 46 rfl) rfl
theorem q1118 : (Jvm.Cond.code ({ cls := "RainWalk", name := "mean", desc := "(IIIIIZ)J" } : Jvm.MethodName) prog_1_method_21_code (8 : Nat) (Option.some Jvm.ClassFile.FieldType.long)) ∈ lw_all := lw_g (lw_at lw_m5 47 rfl) rfl
theorem q1119 : (Jvm.Cond.constantLong "RainWalk" (179 : Nat) (252000 : Int64)) ∈ lw_all := lw_g (lw_at lw_m5 48 rfl) rfl
theorem q1121 : (Jvm.Cond.instanceMethod ({ cls := "RainWalk", name := "minutes", desc := "(III)I" } : Jvm.MethodName)) ∈ lw_all := lw_g (lw_at lw_m5 50 rfl) rfl
theorem q1122 : (Jvm.Cond.selects "RainWalk" ({ cls := "RainWalk", name := "minutes", desc := "(III)I" } : Jvm.MethodName) ({ cls := "RainWalk", name := "minutes", desc := "(III)I" } : Jvm.MethodName)) ∈ lw_all := lw_g (lw_at lw_m5 51 rfl) rfl
theorem q1123 : (Jvm.Cond.code ({ cls := "RainWalk", name := "minutes", desc := "(III)I" } : Jvm.MethodName) prog_1_method_22_code (4 : Nat) (Option.some Jvm.ClassFile.FieldType.int)) ∈ lw_all := lw_g (lw_at lw_m5 52 rfl) rfl
theorem q1124 : (Jvm.Cond.methodLink "RainWalk" (181 : Nat) ({ cls := "RainWalk$Road", name := "minutes", desc := "(I)I" } : Jvm.MethodName)) ∈ lw_all := lw_g (lw_at lw_m5 53 rfl) rfl
theorem q1129 : (Jvm.Cond.instanceMethod ({ cls := "RainWalk", name := "air", desc := "(III)I" } : Jvm.MethodName)) ∈ lw_all := lw_g (lw_at lw_m5 58 rfl) rfl
theorem q1130 : (Jvm.Cond.selects "RainWalk" ({ cls := "RainWalk", name := "air", desc := "(III)I" } : Jvm.MethodName) ({ cls := "RainWalk", name := "air", desc := "(III)I" } : Jvm.MethodName)) ∈ lw_all := lw_g (lw_at lw_m5 59 rfl) rfl
theorem q1131 : (Jvm.Cond.code ({ cls := "RainWalk", name := "air", desc := "(III)I" } : Jvm.MethodName) prog_1_method_23_code (4 : Nat) (Option.some Jvm.ClassFile.FieldType.int)) ∈ lw_all := lw_g (lw_at lw_m5 60 rfl) rfl
theorem q1132 : (Jvm.Cond.methodLink "RainWalk" (186 : Nat) ({ cls := "RainWalk$Road", name := "toSide", desc := "(I)I" } : Jvm.MethodName)) ∈ lw_all := lw_g (lw_at lw_m5 61 rfl) rfl
theorem q1133 : (Jvm.Cond.methodLink "RainWalk" (189 : Nat) ({ cls := "RainWalk$Rain", name := "along", desc := "(I)I" } : Jvm.MethodName)) ∈ lw_all := lw_g (lw_at lw_m5 62 rfl) rfl
theorem q1135 : (Jvm.Cond.instanceMethod ({ cls := "RainWalk", name := "held", desc := "(IIIII)I" } : Jvm.MethodName)) ∈ lw_all := lw_g (lw_at lw_m5 64 rfl) rfl
theorem q1136 : (Jvm.Cond.selects "RainWalk" ({ cls := "RainWalk", name := "held", desc := "(IIIII)I" } : Jvm.MethodName) ({ cls := "RainWalk", name := "held", desc := "(IIIII)I" } : Jvm.MethodName)) ∈ lw_all := lw_g (lw_at lw_m5 65 rfl) rfl
theorem q1137 : (Jvm.Cond.code ({ cls := "RainWalk", name := "held", desc := "(IIIII)I" } : Jvm.MethodName) prog_1_method_24_code (7 : Nat) (Option.some Jvm.ClassFile.FieldType.int)) ∈ lw_all := lw_g (lw_at lw_m5 66 rfl) rfl
theorem q1138 : (Jvm.Cond.methodLink "RainWalk" (192 : Nat) ({ cls := "RainWalk$Walker", name := "shield", desc := "()I" } : Jvm.MethodName)) ∈ lw_all := lw_g (lw_at lw_m5 67 rfl) rfl
theorem q1140 : (Jvm.Cond.instanceMethod ({ cls := "RainWalk", name := "best", desc := "(IIII)I" } : Jvm.MethodName)) ∈ lw_all := lw_g (lw_at lw_m5 69 rfl) rfl
theorem q1141 : (Jvm.Cond.selects "RainWalk" ({ cls := "RainWalk", name := "best", desc := "(IIII)I" } : Jvm.MethodName) ({ cls := "RainWalk", name := "best", desc := "(IIII)I" } : Jvm.MethodName)) ∈ lw_all := lw_g (lw_at lw_m5 70 rfl) rfl
theorem q1142 : (Jvm.Cond.code ({ cls := "RainWalk", name := "best", desc := "(IIII)I" } : Jvm.MethodName) prog_1_method_26_code (5 : Nat) (Option.some Jvm.ClassFile.FieldType.int)) ∈ lw_all := lw_g (lw_at lw_m5 71 rfl) rfl
theorem q1143 : (Jvm.Cond.methodLink "RainWalk" (206 : Nat) ({ cls := "RainWalk", name := "bestSpeed", desc := "(IIII)I" } : Jvm.MethodName)) ∈ lw_all := lw_g (lw_at lw_m5 72 rfl) rfl
theorem q1144 : (Jvm.Cond.privateMethod ({ cls := "RainWalk", name := "bestSpeed", desc := "(IIII)I" } : Jvm.MethodName)) ∈ lw_tbl := lw_at lw_m5 73 rfl
theorem q1145 : (Jvm.Cond.instanceMethod ({ cls := "RainWalk", name := "bestSpeed", desc := "(IIII)I" } : Jvm.MethodName)) ∈ lw_all := lw_g (lw_at lw_m5 74 rfl) rfl
theorem q1146 : (Jvm.Cond.code ({ cls := "RainWalk", name := "bestSpeed", desc := "(IIII)I" } : Jvm.MethodName) prog_1_method_25_code (10 : Nat) (Option.some Jvm.ClassFile.FieldType.int)) ∈ lw_all := lw_g (lw_at lw_m5 75 rfl) rfl
theorem q1148 : (Jvm.Cond.instanceMethod ({ cls := "RainWalk", name := "saves", desc := "(IIIIZ)J" } : Jvm.MethodName)) ∈ lw_all := lw_g (lw_at lw_m5 77 rfl) rfl
theorem q1149 : (Jvm.Cond.selects "RainWalk" ({ cls := "RainWalk", name := "saves", desc := "(IIIIZ)J" } : Jvm.MethodName) ({ cls := "RainWalk", name := "saves", desc := "(IIIIZ)J" } : Jvm.MethodName)) ∈ lw_all := lw_g (lw_at lw_m5 78 rfl) rfl
theorem q1150 : (Jvm.Cond.code ({ cls := "RainWalk", name := "saves", desc := "(IIIIZ)J" } : Jvm.MethodName) prog_1_method_27_code (8 : Nat) (Option.some Jvm.ClassFile.FieldType.long)) ∈ lw_all := lw_g (lw_at lw_m5 79 rfl) rfl
theorem q1152 : (Jvm.Cond.instanceMethod ({ cls := "RainWalk", name := "worst", desc := "(IIII)I" } : Jvm.MethodName)) ∈ lw_all := lw_g (lw_at lw_m5 81 rfl) rfl
theorem q1153 : (Jvm.Cond.selects "RainWalk" ({ cls := "RainWalk", name := "worst", desc := "(IIII)I" } : Jvm.MethodName) ({ cls := "RainWalk", name := "worst", desc := "(IIII)I" } : Jvm.MethodName)) ∈ lw_all := lw_g (lw_at lw_m5 82 rfl) rfl
theorem q1154 : (Jvm.Cond.code ({ cls := "RainWalk", name := "worst", desc := "(IIII)I" } : Jvm.MethodName) prog_1_method_29_code (5 : Nat) (Option.some Jvm.ClassFile.FieldType.int)) ∈ lw_all := lw_g (lw_at lw_m5 83 rfl) rfl
theorem q1155 : (Jvm.Cond.methodLink "RainWalk" (210 : Nat) ({ cls := "RainWalk", name := "worstSpeed", desc := "(IIII)I" } : Jvm.MethodName)) ∈ lw_all := lw_g (lw_at lw_m5 84 rfl) rfl
theorem q1156 : (Jvm.Cond.privateMethod ({ cls := "RainWalk", name := "worstSpeed", desc := "(IIII)I" } : Jvm.MethodName)) ∈ lw_tbl := lw_at lw_m5 85 rfl
theorem q1157 : (Jvm.Cond.instanceMethod ({ cls := "RainWalk", name := "worstSpeed", desc := "(IIII)I" } : Jvm.MethodName)) ∈ lw_all := lw_g (lw_at lw_m5 86 rfl) rfl
theorem q1158 : (Jvm.Cond.code ({ cls := "RainWalk", name := "worstSpeed", desc := "(IIII)I" } : Jvm.MethodName) prog_1_method_28_code (10 : Nat) (Option.some Jvm.ClassFile.FieldType.int)) ∈ lw_all := lw_g (lw_at lw_m5 87 rfl) rfl
theorem q1160 : (Jvm.Cond.instanceMethod ({ cls := "RainWalk", name := "even", desc := "(IIII)I" } : Jvm.MethodName)) ∈ lw_all := lw_g (lw_at lw_m5 89 rfl) rfl
theorem q1161 : (Jvm.Cond.selects "RainWalk" ({ cls := "RainWalk", name := "even", desc := "(IIII)I" } : Jvm.MethodName) ({ cls := "RainWalk", name := "even", desc := "(IIII)I" } : Jvm.MethodName)) ∈ lw_all := lw_g (lw_at lw_m5 90 rfl) rfl
theorem q1162 : (Jvm.Cond.code ({ cls := "RainWalk", name := "even", desc := "(IIII)I" } : Jvm.MethodName) prog_1_method_31_code (7 : Nat) (Option.some Jvm.ClassFile.FieldType.int)) ∈ lw_all := lw_g (lw_at lw_m5 91 rfl) rfl
theorem q1163 : (Jvm.Cond.methodLink "RainWalk" (213 : Nat) ({ cls := "RainWalk", name := "wetAtBest", desc := "(IIII)J" } : Jvm.MethodName)) ∈ lw_all := lw_g (lw_at lw_m5 92 rfl) rfl
theorem q1164 : (Jvm.Cond.privateMethod ({ cls := "RainWalk", name := "wetAtBest", desc := "(IIII)J" } : Jvm.MethodName)) ∈ lw_tbl := lw_at lw_m5 93 rfl
theorem q1165 : (Jvm.Cond.instanceMethod ({ cls := "RainWalk", name := "wetAtBest", desc := "(IIII)J" } : Jvm.MethodName)) ∈ lw_all := lw_g (lw_at lw_m5 94 rfl) rfl
theorem q1166 : (Jvm.Cond.code ({ cls := "RainWalk", name := "wetAtBest", desc := "(IIII)J" } : Jvm.MethodName) prog_1_method_30_code (5 : Nat) (Option.some Jvm.ClassFile.FieldType.long)) ∈ lw_all := lw_g (lw_at lw_m5 95 rfl) rfl
theorem q1168 : (Jvm.Cond.instanceMethod ({ cls := "RainWalk", name := "round", desc := "(IIIZ)J" } : Jvm.MethodName)) ∈ lw_all := lw_g (lw_at lw_m5 97 rfl) rfl
theorem q1169 : (Jvm.Cond.selects "RainWalk" ({ cls := "RainWalk", name := "round", desc := "(IIIZ)J" } : Jvm.MethodName) ({ cls := "RainWalk", name := "round", desc := "(IIIZ)J" } : Jvm.MethodName)) ∈ lw_all := lw_g (lw_at lw_m5 98 rfl) rfl
theorem q1170 : (Jvm.Cond.code ({ cls := "RainWalk", name := "round", desc := "(IIIZ)J" } : Jvm.MethodName) prog_1_method_32_code (5 : Nat) (Option.some Jvm.ClassFile.FieldType.long)) ∈ lw_all := lw_g (lw_at lw_m5 99 rfl) rfl
theorem q1172 : (Jvm.Cond.instanceMethod ({ cls := "RainWalk", name := "driest", desc := "(III)I" } : Jvm.MethodName)) ∈ lw_all := lw_g (lw_at lw_m5 101 rfl) rfl
theorem q1173 : (Jvm.Cond.selects "RainWalk" ({ cls := "RainWalk", name := "driest", desc := "(III)I" } : Jvm.MethodName) ({ cls := "RainWalk", name := "driest", desc := "(III)I" } : Jvm.MethodName)) ∈ lw_all := lw_g (lw_at lw_m5 102 rfl) rfl
theorem q1174 : (Jvm.Cond.code ({ cls := "RainWalk", name := "driest", desc := "(III)I" } : Jvm.MethodName) prog_1_method_33_code (10 : Nat) (Option.some Jvm.ClassFile.FieldType.int)) ∈ lw_all := lw_g (lw_at lw_m5 103 rfl) rfl
theorem q1176 : (Jvm.Cond.instanceMethod ({ cls := "RainWalk", name := "lee", desc := "(IIIIIIZ)J" } : Jvm.MethodName)) ∈ lw_all := lw_g (lw_at lw_m5 105 rfl) rfl
theorem q1177 : (Jvm.Cond.selects "RainWalk" ({ cls := "RainWalk", name := "lee", desc := "(IIIIIIZ)J" } : Jvm.MethodName) ({ cls := "RainWalk", name := "lee", desc := "(IIIIIIZ)J" } : Jvm.MethodName)) ∈ lw_all := lw_g (lw_at lw_m5 106 rfl) rfl
theorem q1178 : (Jvm.Cond.code ({ cls := "RainWalk", name := "lee", desc := "(IIIIIIZ)J" } : Jvm.MethodName) prog_1_method_36_code (9 : Nat) (Option.some Jvm.ClassFile.FieldType.long)) ∈ lw_all := lw_g (lw_at lw_m5 107 rfl) rfl
theorem q1179 : (Jvm.Cond.methodLink "RainWalk" (221 : Nat) ({ cls := "RainWalk", name := "pairWhy", desc := "(IIIIII)I" } : Jvm.MethodName)) ∈ lw_all := lw_g (lw_at lw_m5 108 rfl) rfl
theorem q1180 : (Jvm.Cond.privateMethod ({ cls := "RainWalk", name := "pairWhy", desc := "(IIIIII)I" } : Jvm.MethodName)) ∈ lw_tbl := lw_at lw_m5 109 rfl
theorem q1181 : (Jvm.Cond.instanceMethod ({ cls := "RainWalk", name := "pairWhy", desc := "(IIIIII)I" } : Jvm.MethodName)) ∈ lw_all := lw_g (lw_at lw_m5 110 rfl) rfl
theorem q1182 : (Jvm.Cond.code ({ cls := "RainWalk", name := "pairWhy", desc := "(IIIIII)I" } : Jvm.MethodName) prog_1_method_34_code (7 : Nat) (Option.some Jvm.ClassFile.FieldType.int)) ∈ lw_all := lw_g (lw_at lw_m5 111 rfl) rfl
theorem q1183 : (Jvm.Cond.methodLink "RainWalk" (225 : Nat) ({ cls := "RainWalk", name := "together", desc := "(IIIIII)J" } : Jvm.MethodName)) ∈ lw_all := lw_g (lw_at lw_m5 112 rfl) rfl
theorem q1184 : (Jvm.Cond.privateMethod ({ cls := "RainWalk", name := "together", desc := "(IIIIII)J" } : Jvm.MethodName)) ∈ lw_tbl := lw_at lw_m5 113 rfl
theorem q1185 : (Jvm.Cond.instanceMethod ({ cls := "RainWalk", name := "together", desc := "(IIIIII)J" } : Jvm.MethodName)) ∈ lw_all := lw_g (lw_at lw_m5 114 rfl) rfl
theorem q1186 : (Jvm.Cond.code ({ cls := "RainWalk", name := "together", desc := "(IIIIII)J" } : Jvm.MethodName) prog_1_method_35_code (9 : Nat) (Option.some Jvm.ClassFile.FieldType.long)) ∈ lw_all := lw_g (lw_at lw_m5 115 rfl) rfl
theorem q1187 : (Jvm.Cond.methodLink "RainWalk" (217 : Nat) ({ cls := "RainWalk$Leg", name := "inLee", desc := "(LRainWalk$Walker;LRainWalk$Walker;Z)V" } : Jvm.MethodName)) ∈ lw_all := lw_g (lw_at lw_m5 116 rfl) rfl
theorem q1193 : (Jvm.Cond.instanceMethod ({ cls := "RainWalk", name := "first", desc := "(IIIIII)I" } : Jvm.MethodName)) ∈ lw_all := lw_g (lw_at lw_m5 122 rfl) rfl
theorem q1194 : (Jvm.Cond.selects "RainWalk" ({ cls := "RainWalk", name := "first", desc := "(IIIIII)I" } : Jvm.MethodName) ({ cls := "RainWalk", name := "first", desc := "(IIIIII)I" } : Jvm.MethodName)) ∈ lw_all := lw_g (lw_at lw_m5 123 rfl) rfl
theorem q1195 : (Jvm.Cond.code ({ cls := "RainWalk", name := "first", desc := "(IIIIII)I" } : Jvm.MethodName) prog_1_method_37_code (12 : Nat) (Option.some Jvm.ClassFile.FieldType.int)) ∈ lw_all := lw_g (lw_at lw_m5 124 rfl) rfl
theorem q1197 : (Jvm.Cond.instanceMethod ({ cls := "RainWalk", name := "least", desc := "(IIIIIZ)J" } : Jvm.MethodName)) ∈ lw_all := lw_g (lw_at lw_m5 126 rfl) rfl
theorem q1198 : (Jvm.Cond.selects "RainWalk" ({ cls := "RainWalk", name := "least", desc := "(IIIIIZ)J" } : Jvm.MethodName) ({ cls := "RainWalk", name := "least", desc := "(IIIIIZ)J" } : Jvm.MethodName)) ∈ lw_all := lw_g (lw_at lw_m5 127 rfl) rfl
theorem q1199 : (Jvm.Cond.code ({ cls := "RainWalk", name := "least", desc := "(IIIIIZ)J" } : Jvm.MethodName) prog_1_method_39_code (8 : Nat) (Option.some Jvm.ClassFile.FieldType.long)) ∈ lw_all := lw_g (lw_at lw_m5 128 rfl) rfl
theorem q1200 : (Jvm.Cond.methodLink "RainWalk" (239 : Nat) ({ cls := "RainWalk", name := "wayWhy", desc := "(IIIII)I" } : Jvm.MethodName)) ∈ lw_all := lw_g (lw_at lw_m5 129 rfl) rfl
theorem q1201 : (Jvm.Cond.privateMethod ({ cls := "RainWalk", name := "wayWhy", desc := "(IIIII)I" } : Jvm.MethodName)) ∈ lw_tbl := lw_at lw_m5 130 rfl
theorem q1202 : (Jvm.Cond.instanceMethod ({ cls := "RainWalk", name := "wayWhy", desc := "(IIIII)I" } : Jvm.MethodName)) ∈ lw_all := lw_g (lw_at lw_m5 131 rfl) rfl
theorem q1203 : (Jvm.Cond.code ({ cls := "RainWalk", name := "wayWhy", desc := "(IIIII)I" } : Jvm.MethodName) prog_1_method_38_code (6 : Nat) (Option.some Jvm.ClassFile.FieldType.int)) ∈ lw_all := lw_g (lw_at lw_m5 132 rfl) rfl
theorem q1204 : (Jvm.Cond.methodLink "RainWalk" (229 : Nat) ({ cls := "RainWalk", name := "isPlace", desc := "(I)Z" } : Jvm.MethodName)) ∈ lw_all := lw_g (lw_at lw_m5 133 rfl) rfl
theorem q1205 : (Jvm.Cond.privateMethod ({ cls := "RainWalk", name := "isPlace", desc := "(I)Z" } : Jvm.MethodName)) ∈ lw_tbl := lw_at lw_m5 134 rfl
theorem q1206 : (Jvm.Cond.instanceMethod ({ cls := "RainWalk", name := "isPlace", desc := "(I)Z" } : Jvm.MethodName)) ∈ lw_all := lw_g (lw_at lw_m5 135 rfl) rfl
theorem q1207 : (Jvm.Cond.code ({ cls := "RainWalk", name := "isPlace", desc := "(I)Z" } : Jvm.MethodName) prog_1_method_16_code (2 : Nat) (Option.some Jvm.ClassFile.FieldType.boolean)) ∈ lw_all := lw_g (lw_at lw_m5 136 rfl) rfl
theorem q1208 : (Jvm.Cond.methodLink "RainWalk" (232 : Nat) ({ cls := "RainWalk$Ways", name := "lay", desc := "(LRainWalk$World;LRainWalk$Walker;II)V" } : Jvm.MethodName)) ∈ lw_all := lw_g (lw_at lw_m5 137 rfl) rfl
theorem q1260 : (Jvm.Cond.methodLink "RainWalk" (235 : Nat) ({ cls := "RainWalk$Ways", name := "hasWay", desc := "(II)Z" } : Jvm.MethodName)) ∈ lw_all := lw_g (lw_at lw_m5 189 rfl) rfl
theorem q1264 : (Jvm.Cond.methodLink "RainWalk" (242 : Nat) ({ cls := "RainWalk$Ways", name := "mean", desc := "(II)J" } : Jvm.MethodName)) ∈ lw_all := lw_g (lw_at lw_m5 193 rfl) rfl
theorem q1269 : (Jvm.Cond.instanceMethod ({ cls := "RainWalk", name := "there", desc := "(IIIII)I" } : Jvm.MethodName)) ∈ lw_all := lw_g (lw_at lw_m5 198 rfl) rfl
theorem q1270 : (Jvm.Cond.selects "RainWalk" ({ cls := "RainWalk", name := "there", desc := "(IIIII)I" } : Jvm.MethodName) ({ cls := "RainWalk", name := "there", desc := "(IIIII)I" } : Jvm.MethodName)) ∈ lw_all := lw_g (lw_at lw_m5 199 rfl) rfl
theorem q1271 : (Jvm.Cond.code ({ cls := "RainWalk", name := "there", desc := "(IIIII)I" } : Jvm.MethodName) prog_1_method_40_code (7 : Nat) (Option.some Jvm.ClassFile.FieldType.int)) ∈ lw_all := lw_g (lw_at lw_m5 200 rfl) rfl
theorem q1272 : (Jvm.Cond.methodLink "RainWalk" (246 : Nat) ({ cls := "RainWalk$Ways", name := "there", desc := "(II)I" } : Jvm.MethodName)) ∈ lw_all := lw_g (lw_at lw_m5 201 rfl) rfl
theorem q1277 : (Jvm.Cond.instanceMethod ({ cls := "RainWalk", name := "steps", desc := "(IIIII)I" } : Jvm.MethodName)) ∈ lw_all := lw_g (lw_at lw_m5 206 rfl) rfl
theorem q1278 : (Jvm.Cond.selects "RainWalk" ({ cls := "RainWalk", name := "steps", desc := "(IIIII)I" } : Jvm.MethodName) ({ cls := "RainWalk", name := "steps", desc := "(IIIII)I" } : Jvm.MethodName)) ∈ lw_all := lw_g (lw_at lw_m5 207 rfl) rfl
theorem q1279 : (Jvm.Cond.code ({ cls := "RainWalk", name := "steps", desc := "(IIIII)I" } : Jvm.MethodName) prog_1_method_41_code (7 : Nat) (Option.some Jvm.ClassFile.FieldType.int)) ∈ lw_all := lw_g (lw_at lw_m5 208 rfl) rfl
theorem q1280 : (Jvm.Cond.methodLink "RainWalk" (250 : Nat) ({ cls := "RainWalk$Ways", name := "steps", desc := "(III)I" } : Jvm.MethodName)) ∈ lw_all := lw_g (lw_at lw_m5 209 rfl) rfl
theorem q1289 : (Jvm.Cond.instanceMethod ({ cls := "RainWalk", name := "step", desc := "(IIIIII)I" } : Jvm.MethodName)) ∈ lw_all := lw_g (lw_at lw_m5 218 rfl) rfl
theorem q1290 : (Jvm.Cond.selects "RainWalk" ({ cls := "RainWalk", name := "step", desc := "(IIIIII)I" } : Jvm.MethodName) ({ cls := "RainWalk", name := "step", desc := "(IIIIII)I" } : Jvm.MethodName)) ∈ lw_all := lw_g (lw_at lw_m5 219 rfl) rfl
theorem q1291 : (Jvm.Cond.code ({ cls := "RainWalk", name := "step", desc := "(IIIIII)I" } : Jvm.MethodName) prog_1_method_42_code (8 : Nat) (Option.some Jvm.ClassFile.FieldType.int)) ∈ lw_all := lw_g (lw_at lw_m5 220 rfl) rfl
theorem q1292 : (Jvm.Cond.methodLink "RainWalk" (254 : Nat) ({ cls := "RainWalk$Ways", name := "step", desc := "(III)I" } : Jvm.MethodName)) ∈ lw_all := lw_g (lw_at lw_m5 221 rfl) rfl
theorem q1297 : (Jvm.Cond.instanceMethod ({ cls := "RainWalk", name := "off", desc := "(IIII)I" } : Jvm.MethodName)) ∈ lw_all := lw_g (lw_at lw_m5 226 rfl) rfl
theorem q1298 : (Jvm.Cond.selects "RainWalk" ({ cls := "RainWalk", name := "off", desc := "(IIII)I" } : Jvm.MethodName) ({ cls := "RainWalk", name := "off", desc := "(IIII)I" } : Jvm.MethodName)) ∈ lw_all := lw_g (lw_at lw_m5 227 rfl) rfl
theorem q1299 : (Jvm.Cond.code ({ cls := "RainWalk", name := "off", desc := "(IIII)I" } : Jvm.MethodName) prog_1_method_43_code (8 : Nat) (Option.some Jvm.ClassFile.FieldType.int)) ∈ lw_all := lw_g (lw_at lw_m5 228 rfl) rfl
theorem q1301 : (Jvm.Cond.instanceMethod ({ cls := "RainWalk", name := "fits", desc := "(I)I" } : Jvm.MethodName)) ∈ lw_all := lw_g (lw_at lw_m5 230 rfl) rfl
theorem q1302 : (Jvm.Cond.selects "RainWalk" ({ cls := "RainWalk", name := "fits", desc := "(I)I" } : Jvm.MethodName) ({ cls := "RainWalk", name := "fits", desc := "(I)I" } : Jvm.MethodName)) ∈ lw_all := lw_g (lw_at lw_m5 231 rfl) rfl
theorem q1303 : (Jvm.Cond.code ({ cls := "RainWalk", name := "fits", desc := "(I)I" } : Jvm.MethodName) prog_1_method_47_code (2 : Nat) (Option.some Jvm.ClassFile.FieldType.int)) ∈ lw_all := lw_g (lw_at lw_m5 232 rfl) rfl
theorem q1304 : (Jvm.Cond.methodLink "RainWalk" (277 : Nat) ({ cls := "RainWalk", name := "isSeen", desc := "(I)Z" } : Jvm.MethodName)) ∈ lw_all := lw_g (lw_at lw_m5 233 rfl) rfl
theorem q1305 : (Jvm.Cond.privateMethod ({ cls := "RainWalk", name := "isSeen", desc := "(I)Z" } : Jvm.MethodName)) ∈ lw_tbl := lw_at lw_m5 234 rfl
theorem q1306 : (Jvm.Cond.instanceMethod ({ cls := "RainWalk", name := "isSeen", desc := "(I)Z" } : Jvm.MethodName)) ∈ lw_all := lw_g (lw_at lw_m5 235 rfl) rfl
theorem q1307 : (Jvm.Cond.code ({ cls := "RainWalk", name := "isSeen", desc := "(I)Z" } : Jvm.MethodName) prog_1_method_46_code (2 : Nat) (Option.some Jvm.ClassFile.FieldType.boolean)) ∈ lw_all := lw_g (lw_at lw_m5 236 rfl) rfl
theorem q1308 : (Jvm.Cond.methodLink "RainWalk" (280 : Nat) ({ cls := "RainWalk", name := "fitOf", desc := "(II)I" } : Jvm.MethodName)) ∈ lw_all := lw_g (lw_at lw_m5 237 rfl) rfl
theorem q1309 : (Jvm.Cond.privateMethod ({ cls := "RainWalk", name := "fitOf", desc := "(II)I" } : Jvm.MethodName)) ∈ lw_tbl := lw_at lw_m5 238 rfl
theorem q1310 : (Jvm.Cond.instanceMethod ({ cls := "RainWalk", name := "fitOf", desc := "(II)I" } : Jvm.MethodName)) ∈ lw_all := lw_g (lw_at lw_m5 239 rfl) rfl
theorem q1311 : (Jvm.Cond.code ({ cls := "RainWalk", name := "fitOf", desc := "(II)I" } : Jvm.MethodName) prog_1_method_44_code (10 : Nat) (Option.some Jvm.ClassFile.FieldType.int)) ∈ lw_all := lw_g (lw_at lw_m6 0 rfl) rfl
theorem q1312 : (Jvm.Cond.methodLink "RainWalk" (266 : Nat) ({ cls := "RainWalk", name := "doesFit", desc := "(LRainWalk$Seen;LRainWalk$Walker;IIII)Z" } : Jvm.MethodName)) ∈ lw_all := lw_g (lw_at lw_m6 1 rfl) rfl
theorem q1313 : (Jvm.Cond.privateMethod ({ cls := "RainWalk", name := "doesFit", desc := "(LRainWalk$Seen;LRainWalk$Walker;IIII)Z" } : Jvm.MethodName)) ∈ lw_tbl := lw_at lw_m6 2 rfl
theorem q1314 : (Jvm.Cond.instanceMethod ({ cls := "RainWalk", name := "doesFit", desc := "(LRainWalk$Seen;LRainWalk$Walker;IIII)Z" } : Jvm.MethodName)) ∈ lw_all := lw_g (lw_at lw_m6 3 rfl) rfl
theorem q1315 : (Jvm.Cond.code ({ cls := "RainWalk", name := "doesFit", desc := "(LRainWalk$Seen;LRainWalk$Walker;IIII)Z" } : Jvm.MethodName) prog_1_method_45_code (9 : Nat) (Option.some Jvm.ClassFile.FieldType.boolean)) ∈ lw_all := lw_g (lw_at lw_m6 4 rfl) rfl
theorem q1316 : (Jvm.Cond.constant "RainWalk" (270 : Nat) (1000000 : Int32)) ∈ lw_all := lw_g (lw_at lw_m6 5 rfl) rfl
theorem q1318 : (Jvm.Cond.instanceMethod ({ cls := "RainWalk", name := "fit", desc := "(II)I" } : Jvm.MethodName)) ∈ lw_all := lw_g (lw_at lw_m6 7 rfl) rfl
theorem q1319 : (Jvm.Cond.selects "RainWalk" ({ cls := "RainWalk", name := "fit", desc := "(II)I" } : Jvm.MethodName) ({ cls := "RainWalk", name := "fit", desc := "(II)I" } : Jvm.MethodName)) ∈ lw_all := lw_g (lw_at lw_m6 8 rfl) rfl
theorem q1320 : (Jvm.Cond.code ({ cls := "RainWalk", name := "fit", desc := "(II)I" } : Jvm.MethodName) prog_1_method_48_code (4 : Nat) (Option.some Jvm.ClassFile.FieldType.int)) ∈ lw_all := lw_g (lw_at lw_m6 9 rfl) rfl
theorem q1322 : (Jvm.Cond.instanceMethod ({ cls := "RainWalk", name := "lies", desc := "()I" } : Jvm.MethodName)) ∈ lw_all := lw_g (lw_at lw_m6 11 rfl) rfl
theorem q1323 : (Jvm.Cond.selects "RainWalk" ({ cls := "RainWalk", name := "lies", desc := "()I" } : Jvm.MethodName) ({ cls := "RainWalk", name := "lies", desc := "()I" } : Jvm.MethodName)) ∈ lw_all := lw_g (lw_at lw_m6 12 rfl) rfl
theorem q1324 : (Jvm.Cond.code ({ cls := "RainWalk", name := "lies", desc := "()I" } : Jvm.MethodName) prog_1_method_49_code (3 : Nat) (Option.some Jvm.ClassFile.FieldType.int)) ∈ lw_all := lw_g (lw_at lw_m6 13 rfl) rfl
theorem q1325 : (Jvm.Cond.constant "RainWalk" (283 : Nat) (-1000000 : Int32)) ∈ lw_all := lw_g (lw_at lw_m6 14 rfl) rfl
theorem q1327 : (Jvm.Cond.instanceMethod ({ cls := "RainWalk", name := "day", desc := "(IIII)I" } : Jvm.MethodName)) ∈ lw_all := lw_g (lw_at lw_m6 16 rfl) rfl
theorem q1328 : (Jvm.Cond.selects "RainWalk" ({ cls := "RainWalk", name := "day", desc := "(IIII)I" } : Jvm.MethodName) ({ cls := "RainWalk", name := "day", desc := "(IIII)I" } : Jvm.MethodName)) ∈ lw_all := lw_g (lw_at lw_m6 17 rfl) rfl
theorem q1329 : (Jvm.Cond.code ({ cls := "RainWalk", name := "day", desc := "(IIII)I" } : Jvm.MethodName) prog_1_method_51_code (7 : Nat) (Option.some Jvm.ClassFile.FieldType.int)) ∈ lw_all := lw_g (lw_at lw_m6 18 rfl) rfl
theorem q1330 : (Jvm.Cond.constant "RainWalk" (284 : Nat) (65536 : Int32)) ∈ lw_all := lw_g (lw_at lw_m6 19 rfl) rfl
theorem q1331 : (Jvm.Cond.constant "RainWalk" (295 : Nat) (65537 : Int32)) ∈ lw_all := lw_g (lw_at lw_m6 20 rfl) rfl
theorem q1333 : (Jvm.Cond.instanceMethod ({ cls := "RainWalk", name := "go", desc := "(III)I" } : Jvm.MethodName)) ∈ lw_all := lw_g (lw_at lw_m6 22 rfl) rfl
theorem q1334 : (Jvm.Cond.selects "RainWalk" ({ cls := "RainWalk", name := "go", desc := "(III)I" } : Jvm.MethodName) ({ cls := "RainWalk", name := "go", desc := "(III)I" } : Jvm.MethodName)) ∈ lw_all := lw_g (lw_at lw_m6 23 rfl) rfl
theorem q1335 : (Jvm.Cond.code ({ cls := "RainWalk", name := "go", desc := "(III)I" } : Jvm.MethodName) prog_1_method_55_code (9 : Nat) (Option.some Jvm.ClassFile.FieldType.int)) ∈ lw_all := lw_g (lw_at lw_m6 24 rfl) rfl
theorem q1336 : (Jvm.Cond.methodLink "RainWalk" (306 : Nat) ({ cls := "RainWalk", name := "hasDay", desc := "()Z" } : Jvm.MethodName)) ∈ lw_all := lw_g (lw_at lw_m6 25 rfl) rfl
theorem q1337 : (Jvm.Cond.privateMethod ({ cls := "RainWalk", name := "hasDay", desc := "()Z" } : Jvm.MethodName)) ∈ lw_tbl := lw_at lw_m6 26 rfl
theorem q1338 : (Jvm.Cond.instanceMethod ({ cls := "RainWalk", name := "hasDay", desc := "()Z" } : Jvm.MethodName)) ∈ lw_all := lw_g (lw_at lw_m6 27 rfl) rfl
theorem q1339 : (Jvm.Cond.code ({ cls := "RainWalk", name := "hasDay", desc := "()Z" } : Jvm.MethodName) prog_1_method_50_code (1 : Nat) (Option.some Jvm.ClassFile.FieldType.boolean)) ∈ lw_all := lw_g (lw_at lw_m6 28 rfl) rfl
theorem q1340 : (Jvm.Cond.methodLink "RainWalk" (310 : Nat) ({ cls := "RainWalk$Road", name := "begin", desc := "(I)I" } : Jvm.MethodName)) ∈ lw_all := lw_g (lw_at lw_m6 29 rfl) rfl
theorem q1341 : (Jvm.Cond.methodLink "RainWalk" (313 : Nat) ({ cls := "RainWalk", name := "note", desc := "()V" } : Jvm.MethodName)) ∈ lw_all := lw_g (lw_at lw_m6 30 rfl) rfl
theorem q1342 : (Jvm.Cond.privateMethod ({ cls := "RainWalk", name := "note", desc := "()V" } : Jvm.MethodName)) ∈ lw_tbl := lw_at lw_m6 31 rfl
theorem q1343 : (Jvm.Cond.instanceMethod ({ cls := "RainWalk", name := "note", desc := "()V" } : Jvm.MethodName)) ∈ lw_all := lw_g (lw_at lw_m6 32 rfl) rfl
theorem q1344 : (Jvm.Cond.code ({ cls := "RainWalk", name := "note", desc := "()V" } : Jvm.MethodName) prog_1_method_53_code (1 : Nat) (Option.none : Option Jvm.ClassFile.FieldType)) ∈ lw_all := lw_g (lw_at lw_m6 33 rfl) rfl
theorem q1345 : (Jvm.Cond.methodLink "RainWalk" (302 : Nat) ({ cls := "RainWalk$Day", name := "become", desc := "(LRainWalk$Day;)V" } : Jvm.MethodName)) ∈ lw_all := lw_g (lw_at lw_m6 34 rfl) rfl
theorem q1352 : (Jvm.Cond.methodLink "RainWalk" (316 : Nat) ({ cls := "RainWalk", name := "rainHour", desc := "(I)I" } : Jvm.MethodName)) ∈ lw_all := lw_g (lw_at lw_m6 41 rfl) rfl
theorem q1353 : (Jvm.Cond.privateMethod ({ cls := "RainWalk", name := "rainHour", desc := "(I)I" } : Jvm.MethodName)) ∈ lw_tbl := lw_at lw_m6 42 rfl
theorem q1354 : (Jvm.Cond.instanceMethod ({ cls := "RainWalk", name := "rainHour", desc := "(I)I" } : Jvm.MethodName)) ∈ lw_all := lw_g (lw_at lw_m6 43 rfl) rfl
theorem q1355 : (Jvm.Cond.code ({ cls := "RainWalk", name := "rainHour", desc := "(I)I" } : Jvm.MethodName) prog_1_method_52_code (3 : Nat) (Option.some Jvm.ClassFile.FieldType.int)) ∈ lw_all := lw_g (lw_at lw_m6 44 rfl) rfl
theorem q1356 : (Jvm.Cond.methodLink "RainWalk" (296 : Nat) ({ cls := "RainWalk$World", name := "hourOf", desc := "(I)I" } : Jvm.MethodName)) ∈ lw_all := lw_g (lw_at lw_m6 45 rfl) rfl
theorem q1357 : (Jvm.Cond.methodLink "RainWalk" (299 : Nat) ({ cls := "RainWalk", name := "has", desc := "(II)Z" } : Jvm.MethodName)) ∈ lw_all := lw_g (lw_at lw_m6 46 rfl) rfl
theorem q1358 : (Jvm.Cond.static ({ cls := "RainWalk", name := "has", desc := "(II)Z" } : Jvm.MethodName)) ∈ lw_all := lw_g (lw_at lw_m6 47 rfl) rfl
theorem q1359 : (Jvm.Cond.code ({ cls := "RainWalk", name := "has", desc := "(II)Z" } : Jvm.MethodName) prog_1_method_2_code (2 : Nat) (Option.some Jvm.ClassFile.FieldType.boolean)) ∈ lw_all := lw_g (lw_at lw_m6 48 rfl) rfl
theorem q1360 : (Jvm.Cond.methodLink "RainWalk" (319 : Nat) ({ cls := "RainWalk$Road", name := "end", desc := "(I)I" } : Jvm.MethodName)) ∈ lw_all := lw_g (lw_at lw_m6 49 rfl) rfl
theorem q1361 : (Jvm.Cond.methodLink "RainWalk" (322 : Nat) ({ cls := "RainWalk", name := "done", desc := "()Z" } : Jvm.MethodName)) ∈ lw_all := lw_g (lw_at lw_m6 50 rfl) rfl
theorem q1362 : (Jvm.Cond.privateMethod ({ cls := "RainWalk", name := "done", desc := "()Z" } : Jvm.MethodName)) ∈ lw_tbl := lw_at lw_m6 51 rfl
theorem q1363 : (Jvm.Cond.instanceMethod ({ cls := "RainWalk", name := "done", desc := "()Z" } : Jvm.MethodName)) ∈ lw_all := lw_g (lw_at lw_m6 52 rfl) rfl
theorem q1364 : (Jvm.Cond.code ({ cls := "RainWalk", name := "done", desc := "()Z" } : Jvm.MethodName) prog_1_method_54_code (3 : Nat) (Option.some Jvm.ClassFile.FieldType.boolean)) ∈ lw_all := lw_g (lw_at lw_m6 53 rfl) rfl
theorem q1366 : (Jvm.Cond.instanceMethod ({ cls := "RainWalk", name := "stay", desc := "(I)Z" } : Jvm.MethodName)) ∈ lw_all := lw_g (lw_at lw_m6 55 rfl) rfl
theorem q1367 : (Jvm.Cond.selects "RainWalk" ({ cls := "RainWalk", name := "stay", desc := "(I)Z" } : Jvm.MethodName) ({ cls := "RainWalk", name := "stay", desc := "(I)Z" } : Jvm.MethodName)) ∈ lw_all := lw_g (lw_at lw_m6 56 rfl) rfl
theorem q1368 : (Jvm.Cond.code ({ cls := "RainWalk", name := "stay", desc := "(I)Z" } : Jvm.MethodName) prog_1_method_56_code (5 : Nat) (Option.some Jvm.ClassFile.FieldType.boolean)) ∈ lw_all := lw_g (lw_at lw_m6 57 rfl) rfl
theorem q1369 : (Jvm.Cond.methodLink "RainWalk" (329 : Nat) ({ cls := "RainWalk$Place", name := "isShelter", desc := "()Z" } : Jvm.MethodName)) ∈ lw_all := lw_g (lw_at lw_m6 58 rfl) rfl
theorem q1370 : (Jvm.Cond.methodLink "RainWalk" (334 : Nat) ({ cls := "RainWalk", name := "yes", desc := "(I)Z" } : Jvm.MethodName)) ∈ lw_all := lw_g (lw_at lw_m6 59 rfl) rfl
theorem q1371 : (Jvm.Cond.privateMethod ({ cls := "RainWalk", name := "yes", desc := "(I)Z" } : Jvm.MethodName)) ∈ lw_tbl := lw_at lw_m6 60 rfl
theorem q1372 : (Jvm.Cond.instanceMethod ({ cls := "RainWalk", name := "yes", desc := "(I)Z" } : Jvm.MethodName)) ∈ lw_all := lw_g (lw_at lw_m6 61 rfl) rfl
theorem q1373 : (Jvm.Cond.code ({ cls := "RainWalk", name := "yes", desc := "(I)Z" } : Jvm.MethodName) prog_1_method_8_code (2 : Nat) (Option.some Jvm.ClassFile.FieldType.boolean)) ∈ lw_all := lw_g (lw_at lw_m6 62 rfl) rfl
theorem q1374 : (Jvm.Cond.methodLink "RainWalk" (340 : Nat) ({ cls := "RainWalk$Walker", name := "topLeft", desc := "()I" } : Jvm.MethodName)) ∈ lw_all := lw_g (lw_at lw_m6 63 rfl) rfl
theorem q1376 : (Jvm.Cond.instanceMethod ({ cls := "RainWalk", name := "got", desc := "(IZ)J" } : Jvm.MethodName)) ∈ lw_all := lw_g (lw_at lw_m6 65 rfl) rfl
theorem q1377 : (Jvm.Cond.selects "RainWalk" ({ cls := "RainWalk", name := "got", desc := "(IZ)J" } : Jvm.MethodName) ({ cls := "RainWalk", name := "got", desc := "(IZ)J" } : Jvm.MethodName)) ∈ lw_all := lw_g (lw_at lw_m6 66 rfl) rfl
theorem q1378 : (Jvm.Cond.code ({ cls := "RainWalk", name := "got", desc := "(IZ)J" } : Jvm.MethodName) prog_1_method_57_code (3 : Nat) (Option.some Jvm.ClassFile.FieldType.long)) ∈ lw_all := lw_g (lw_at lw_m6 67 rfl) rfl
theorem q1380 : (Jvm.Cond.instanceMethod ({ cls := "RainWalk", name := "wetness", desc := "(Z)J" } : Jvm.MethodName)) ∈ lw_all := lw_g (lw_at lw_m6 69 rfl) rfl
theorem q1381 : (Jvm.Cond.selects "RainWalk" ({ cls := "RainWalk", name := "wetness", desc := "(Z)J" } : Jvm.MethodName) ({ cls := "RainWalk", name := "wetness", desc := "(Z)J" } : Jvm.MethodName)) ∈ lw_all := lw_g (lw_at lw_m6 70 rfl) rfl
theorem q1382 : (Jvm.Cond.code ({ cls := "RainWalk", name := "wetness", desc := "(Z)J" } : Jvm.MethodName) prog_1_method_58_code (4 : Nat) (Option.some Jvm.ClassFile.FieldType.long)) ∈ lw_all := lw_g (lw_at lw_m6 71 rfl) rfl
theorem q1383 : (Jvm.Cond.methodLink "RainWalk" (343 : Nat) ({ cls := "RainWalk$Walker", name := "holds", desc := "()I" } : Jvm.MethodName)) ∈ lw_all := lw_g (lw_at lw_m6 72 rfl) rfl
theorem q1393 : (Jvm.Cond.methodLink "RainWalk" (346 : Nat) ({ cls := "java/lang/Math", name := "max", desc := "(II)I" } : Jvm.MethodName)) ∈ lw_all := lw_g (lw_at lw_m6 82 rfl) rfl
theorem q1394 : (Jvm.Cond.methodLink "RainWalk" (351 : Nat) ({ cls := "RainWalk$Day", name := "all", desc := "()J" } : Jvm.MethodName)) ∈ lw_all := lw_g (lw_at lw_m6 83 rfl) rfl
theorem q1398 : (Jvm.Cond.methodLink "RainWalk" (354 : Nat) ({ cls := "java/lang/Math", name := "max", desc := "(JJ)J" } : Jvm.MethodName)) ∈ lw_all := lw_g (lw_at lw_m6 87 rfl) rfl
theorem q1402 : (Jvm.Cond.instanceMethod ({ cls := "RainWalk", name := "soaked", desc := "()I" } : Jvm.MethodName)) ∈ lw_all := lw_g (lw_at lw_m6 91 rfl) rfl
theorem q1403 : (Jvm.Cond.selects "RainWalk" ({ cls := "RainWalk", name := "soaked", desc := "()I" } : Jvm.MethodName) ({ cls := "RainWalk", name := "soaked", desc := "()I" } : Jvm.MethodName)) ∈ lw_all := lw_g (lw_at lw_m6 92 rfl) rfl
theorem q1404 : (Jvm.Cond.code ({ cls := "RainWalk", name := "soaked", desc := "()I" } : Jvm.MethodName) prog_1_method_59_code (2 : Nat) (Option.some Jvm.ClassFile.FieldType.int)) ∈ lw_all := lw_g (lw_at lw_m6 93 rfl) rfl
theorem q1406 : (Jvm.Cond.instanceMethod ({ cls := "RainWalk", name := "undo", desc := "()Z" } : Jvm.MethodName)) ∈ lw_all := lw_g (lw_at lw_m6 95 rfl) rfl
theorem q1407 : (Jvm.Cond.selects "RainWalk" ({ cls := "RainWalk", name := "undo", desc := "()Z" } : Jvm.MethodName) ({ cls := "RainWalk", name := "undo", desc := "()Z" } : Jvm.MethodName)) ∈ lw_all := lw_g (lw_at lw_m6 96 rfl) rfl
theorem q1408 : (Jvm.Cond.code ({ cls := "RainWalk", name := "undo", desc := "()Z" } : Jvm.MethodName) prog_1_method_60_code (1 : Nat) (Option.some Jvm.ClassFile.FieldType.boolean)) ∈ lw_all := lw_g (lw_at lw_m6 97 rfl) rfl
theorem q1410 : (Jvm.Cond.instanceMethod ({ cls := "RainWalk", name := "mark", desc := "()I" } : Jvm.MethodName)) ∈ lw_all := lw_g (lw_at lw_m6 99 rfl) rfl
theorem q1411 : (Jvm.Cond.selects "RainWalk" ({ cls := "RainWalk", name := "mark", desc := "()I" } : Jvm.MethodName) ({ cls := "RainWalk", name := "mark", desc := "()I" } : Jvm.MethodName)) ∈ lw_all := lw_g (lw_at lw_m6 100 rfl) rfl
theorem q1412 : (Jvm.Cond.code ({ cls := "RainWalk", name := "mark", desc := "()I" } : Jvm.MethodName) prog_1_method_61_code (1 : Nat) (Option.some Jvm.ClassFile.FieldType.int)) ∈ lw_all := lw_g (lw_at lw_m6 101 rfl) rfl
theorem q1414 : (Jvm.Cond.instanceMethod ({ cls := "RainWalk", name := "back", desc := "(I)Z" } : Jvm.MethodName)) ∈ lw_all := lw_g (lw_at lw_m6 103 rfl) rfl
theorem q1415 : (Jvm.Cond.selects "RainWalk" ({ cls := "RainWalk", name := "back", desc := "(I)Z" } : Jvm.MethodName) ({ cls := "RainWalk", name := "back", desc := "(I)Z" } : Jvm.MethodName)) ∈ lw_all := lw_g (lw_at lw_m6 104 rfl) rfl
theorem q1416 : (Jvm.Cond.code ({ cls := "RainWalk", name := "back", desc := "(I)Z" } : Jvm.MethodName) prog_1_method_62_code (2 : Nat) (Option.some Jvm.ClassFile.FieldType.boolean)) ∈ lw_all := lw_g (lw_at lw_m6 105 rfl) rfl
theorem q1418 : (Jvm.Cond.instanceMethod ({ cls := "RainWalk", name := "walker", desc := "(II)I" } : Jvm.MethodName)) ∈ lw_all := lw_g (lw_at lw_m6 107 rfl) rfl
theorem q1419 : (Jvm.Cond.selects "RainWalk" ({ cls := "RainWalk", name := "walker", desc := "(II)I" } : Jvm.MethodName) ({ cls := "RainWalk", name := "walker", desc := "(II)I" } : Jvm.MethodName)) ∈ lw_all := lw_g (lw_at lw_m6 108 rfl) rfl
theorem q1420 : (Jvm.Cond.code ({ cls := "RainWalk", name := "walker", desc := "(II)I" } : Jvm.MethodName) prog_1_method_63_code (4 : Nat) (Option.some Jvm.ClassFile.FieldType.int)) ∈ lw_all := lw_g (lw_at lw_m6 109 rfl) rfl
theorem q1421 : (Jvm.Cond.methodLink "RainWalk" (356 : Nat) ({ cls := "RainWalk$Walker", name := "kind", desc := "()I" } : Jvm.MethodName)) ∈ lw_all := lw_g (lw_at lw_m6 110 rfl) rfl
theorem q1436 : (Jvm.Cond.methodLink "RainWalk" (362 : Nat) ({ cls := "RainWalk$Walker", name := "top", desc := "()I" } : Jvm.MethodName)) ∈ lw_all := lw_g (lw_at lw_m6 125 rfl) rfl
theorem q1437 : (Jvm.Cond.methodLink "RainWalk" (365 : Nat) ({ cls := "RainWalk$Walker", name := "front", desc := "()I" } : Jvm.MethodName)) ∈ lw_all := lw_g (lw_at lw_m6 126 rfl) rfl
theorem q1438 : (Jvm.Cond.methodLink "RainWalk" (368 : Nat) ({ cls := "RainWalk$Walker", name := "side", desc := "()I" } : Jvm.MethodName)) ∈ lw_all := lw_g (lw_at lw_m6 127 rfl) rfl
theorem q1440 : (Jvm.Cond.instanceMethod ({ cls := "RainWalk", name := "road", desc := "(II)I" } : Jvm.MethodName)) ∈ lw_all := lw_g (lw_at lw_m6 129 rfl) rfl
theorem q1441 : (Jvm.Cond.selects "RainWalk" ({ cls := "RainWalk", name := "road", desc := "(II)I" } : Jvm.MethodName) ({ cls := "RainWalk", name := "road", desc := "(II)I" } : Jvm.MethodName)) ∈ lw_all := lw_g (lw_at lw_m6 130 rfl) rfl
theorem q1442 : (Jvm.Cond.code ({ cls := "RainWalk", name := "road", desc := "(II)I" } : Jvm.MethodName) prog_1_method_64_code (4 : Nat) (Option.some Jvm.ClassFile.FieldType.int)) ∈ lw_all := lw_g (lw_at lw_m6 131 rfl) rfl
theorem q1444 : (Jvm.Cond.instanceMethod ({ cls := "RainWalk", name := "size", desc := "(I)I" } : Jvm.MethodName)) ∈ lw_all := lw_g (lw_at lw_m6 133 rfl) rfl
theorem q1445 : (Jvm.Cond.selects "RainWalk" ({ cls := "RainWalk", name := "size", desc := "(I)I" } : Jvm.MethodName) ({ cls := "RainWalk", name := "size", desc := "(I)I" } : Jvm.MethodName)) ∈ lw_all := lw_g (lw_at lw_m6 134 rfl) rfl
theorem q1446 : (Jvm.Cond.code ({ cls := "RainWalk", name := "size", desc := "(I)I" } : Jvm.MethodName) prog_1_method_66_code (2 : Nat) (Option.some Jvm.ClassFile.FieldType.int)) ∈ lw_all := lw_g (lw_at lw_m6 135 rfl) rfl
theorem q1448 : (Jvm.Cond.instanceMethod ({ cls := "RainWalk", name := "trouble", desc := "()I" } : Jvm.MethodName)) ∈ lw_all := lw_g (lw_at lw_m6 137 rfl) rfl
theorem q1449 : (Jvm.Cond.selects "RainWalk" ({ cls := "RainWalk", name := "trouble", desc := "()I" } : Jvm.MethodName) ({ cls := "RainWalk", name := "trouble", desc := "()I" } : Jvm.MethodName)) ∈ lw_all := lw_g (lw_at lw_m6 138 rfl) rfl
theorem q1450 : (Jvm.Cond.code ({ cls := "RainWalk", name := "trouble", desc := "()I" } : Jvm.MethodName) prog_1_method_67_code (1 : Nat) (Option.some Jvm.ClassFile.FieldType.int)) ∈ lw_all := lw_g (lw_at lw_m6 139 rfl) rfl
theorem q1456 : (Jvm.Cond.instanceMethod ({ cls := "RainWalk", name := "led", desc := "(I)I" } : Jvm.MethodName)) ∈ lw_all := lw_g (lw_at lw_m6 145 rfl) rfl
theorem q1457 : (Jvm.Cond.selects "RainWalk" ({ cls := "RainWalk", name := "led", desc := "(I)I" } : Jvm.MethodName) ({ cls := "RainWalk", name := "led", desc := "(I)I" } : Jvm.MethodName)) ∈ lw_all := lw_g (lw_at lw_m6 146 rfl) rfl
theorem q1458 : (Jvm.Cond.code ({ cls := "RainWalk", name := "led", desc := "(I)I" } : Jvm.MethodName) prog_1_method_65_code (4 : Nat) (Option.some Jvm.ClassFile.FieldType.int)) ∈ lw_all := lw_g (lw_at lw_m6 147 rfl) rfl
theorem q1459 : (Jvm.Cond.classLink "RainWalk" (385 : Nat) "java/util/NoSuchElementException") ∈ lw_all := lw_g (lw_at lw_m6 148 rfl) rfl
theorem q1468 : (Jvm.Cond.methodLink "RainWalk" (387 : Nat) ({ cls := "java/util/NoSuchElementException", name := "<init>", desc := "()V" } : Jvm.MethodName)) ∈ lw_all := lw_g (lw_at lw_m6 157 rfl) rfl
theorem q2214 : (Jvm.Cond.castable "RainWalk" "java/lang/Object") ∈ lw_tbl := lw_at lw_m9 183 rfl
theorem in_X1 : ∀ w ∈ wsX10, w ∈ lw_all := lw_in wsX10 [361, 363, 365, 367, 369, 371, 373, 375, 377, 379, 381, 383, 385, 387, 389, 391, 393, 395] (by decide +kernel) (by decide +kernel)
