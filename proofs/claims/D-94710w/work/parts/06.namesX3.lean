/-! NotAtOnceModel -/
set_option maxRecDepth 100000
def RX3 : String := "NotAtOnceModel"
def TX3 : u_T := fun k => match k with
  | 0 => ("NotAtOnceModel", "thrown", "I", false)
  | 1 => ("NotAtOnceModel", "tape", "[I", true)
  | 2 => ("NotAtOnceModel", "taped", "I", false)
  | 3 => ("NotAtOnceModel", "size", "I", false)
  | 4 => ("NotAtOnceModel", "at", "I", false)
  | 5 => ("NotAtOnceModel", "end", "I", false)
  | 6 => ("NotAtOnceModel", "token", "I", false)
  | 7 => ("NotAtOnceModel", "whole", "I", false)
  | 8 => ("NotAtOnceModel", "nameSize", "I", false)
  | 9 => ("NotAtOnceModel", "fault", "I", false)
  | 10 => ("NotAtOnceModel", "place", "I", false)
  | 11 => ("NotAtOnceModel", "trouble", "I", false)
  | 12 => ("NotAtOnceModel", "letters", "[I", true)
  | 13 => ("NotAtOnceModel", "failed", "Z", false)
  | 14 => ("NotAtOnceModel", "hasBook", "Z", false)
  | 15 => ("NotAtOnceModel", "\x72", "[I", true)
  | 16 => ("NotAtOnceModel", "fresh", "[I", true)
  | 17 => ("NotAtOnceModel", "coins", "[I", true)
  | 18 => ("NotAtOnceModel", "was", "[I", true)
  | 19 => ("NotAtOnceModel", "undone", "[I", true)
  | 20 => ("NotAtOnceModel", "redone", "[I", true)
  | 21 => ("NotAtOnceModel", "marked", "[I", true)
  | 22 => ("NotAtOnceModel", "undoneActs", "[I", true)
  | 23 => ("NotAtOnceModel", "redoneActs", "[I", true)
  | 24 => ("NotAtOnceModel", "undos", "I", false)
  | 25 => ("NotAtOnceModel", "redos", "I", false)
  | 26 => ("NotAtOnceModel", "marks", "I", false)
  | 27 => ("NotAtOnceModel", "tab", "[J", true)
  | 28 => ("NotAtOnceModel", "basis", "[I", true)
  | 29 => ("NotAtOnceModel", "below", "J", false)
  | 30 => ("NotAtOnceModel", "rows", "I", false)
  | 31 => ("NotAtOnceModel", "wide", "I", false)
  | 32 => ("NotAtOnceModel", "corne\x72", "[I", true)
  | 33 => ("NotAtOnceModel", "squares", "[I", true)
  | 34 => ("NotAtOnceModel", "cornerMany", "I", false)
  | 35 => ("NotAtOnceModel", "chosen", "[I", true)
  | 36 => ("NotAtOnceModel", "colourMany", "I", false)
  | 37 => ("NotAtOnceModel", "mostOnes", "I", false)
  | 38 => ("NotAtOnceModel", "tells", "[I", true)
  | _ => ("NotAtOnceModel", "goes", "[I", true)
def tyX3 : Nat → FieldType := fun k => match k with
  | 0 => .int
  | 1 => .array .int
  | 2 => .int
  | 3 => .int
  | 4 => .int
  | 5 => .int
  | 6 => .int
  | 7 => .int
  | 8 => .int
  | 9 => .int
  | 10 => .int
  | 11 => .int
  | 12 => .array .int
  | 13 => .boolean
  | 14 => .boolean
  | 15 => .array .int
  | 16 => .array .int
  | 17 => .array .int
  | 18 => .array .int
  | 19 => .array .int
  | 20 => .array .int
  | 21 => .array .int
  | 22 => .array .int
  | 23 => .array .int
  | 24 => .int
  | 25 => .int
  | 26 => .int
  | 27 => .array .long
  | 28 => .array .int
  | 29 => .long
  | 30 => .int
  | 31 => .int
  | 32 => .array .int
  | 33 => .array .int
  | 34 => .int
  | 35 => .array .int
  | 36 => .int
  | 37 => .int
  | 38 => .array .int
  | _ => .array .int
abbrev wsX30 : List Cond := u_ws RX3 TX3 40
set_option maxRecDepth 100000 in
theorem nmX3 : ∀ a, a < 40 → ∀ b, b < 40 → a ≠ b → (TX3 a).2.1 ≠ (TX3 b).2.1 := by decide +kernel
set_option maxRecDepth 100000 in
theorem tyX3_ok : ∀ k, k < 40 → parseFieldDescriptor (TX3 k).2.2.1 = some (tyX3 k) := by decide +kernel
abbrev cX3_init : ByteArray := prog_18_method_1_code
def yX3_init : MethodName := ⟨RX3, "<init>", "()V"⟩
def dkwX3_init_6 : List UInt8 := [16, 19, 188, 10, 181, 0, 60, 42, 16, 18, 188, 10, 181, 0, 63, 42, 16, 18, 188, 10, 181, 0, 66, 177]
abbrev dktX3_init_6 : List UInt8 := dkwX3_init_6 ++ []
def dkwX3_init_5 : List UInt8 := [188, 10, 181, 0, 51, 42, 17, 11, 244, 188, 10, 181, 0, 54, 42, 16, 18, 188, 10, 181, 0, 57, 42]
abbrev dktX3_init_5 : List UInt8 := dkwX3_init_5 ++ dktX3_init_6
def dkwX3_init_4 : List UInt8 := [181, 0, 41, 42, 16, 100, 188, 10, 181, 0, 44, 42, 17, 12, 226, 188, 11, 181, 0, 47, 42, 16, 32]
abbrev dktX3_init_4 : List UInt8 := dkwX3_init_4 ++ dktX3_init_5
def dkwX3_init_3 : List UInt8 := [17, 3, 212, 188, 10, 181, 0, 35, 42, 17, 0, 196, 188, 10, 181, 0, 38, 42, 16, 100, 188, 10]
abbrev dktX3_init_3 : List UInt8 := dkwX3_init_3 ++ dktX3_init_4
def dkwX3_init_2 : List UInt8 := [188, 10, 181, 0, 26, 42, 16, 49, 188, 10, 181, 0, 29, 42, 17, 3, 212, 188, 10, 181, 0, 32, 42]
abbrev dktX3_init_2 : List UInt8 := dkwX3_init_2 ++ dktX3_init_3
def dkwX3_init_1 : List UInt8 := [181, 0, 17, 42, 17, 1, 90, 188, 10, 181, 0, 20, 42, 17, 1, 90, 188, 10, 181, 0, 23, 42, 16, 32]
abbrev dktX3_init_1 : List UInt8 := dkwX3_init_1 ++ dktX3_init_2
def dkwX3_init_0 : List UInt8 := [42, 183, 0, 1, 42, 17, 3, 132, 188, 10, 181, 0, 7, 42, 2, 181, 0, 13, 42, 16, 8, 188, 10]
abbrev dktX3_init_0 : List UInt8 := dkwX3_init_0 ++ dktX3_init_1
theorem dksX3_init_0 : cX3_init.data.toList.drop 0 = dktX3_init_0 := by decide +kernel
theorem dksX3_init_1 : cX3_init.data.toList.drop 23 = dktX3_init_1 := dk_seg dksX3_init_0 23 rfl rfl
theorem dksX3_init_2 : cX3_init.data.toList.drop 47 = dktX3_init_2 := dk_seg dksX3_init_1 24 rfl rfl
theorem dksX3_init_3 : cX3_init.data.toList.drop 70 = dktX3_init_3 := dk_seg dksX3_init_2 23 rfl rfl
theorem dksX3_init_4 : cX3_init.data.toList.drop 92 = dktX3_init_4 := dk_seg dksX3_init_3 22 rfl rfl
theorem dksX3_init_5 : cX3_init.data.toList.drop 115 = dktX3_init_5 := dk_seg dksX3_init_4 23 rfl rfl
theorem dksX3_init_6 : cX3_init.data.toList.drop 138 = dktX3_init_6 := dk_seg dksX3_init_5 23 rfl rfl
theorem dX3_init_0 : decode cX3_init 0 = .ok (.aload_n 0, 1) := dk_42 (dk_at dksX3_init_0 0 rfl rfl)
theorem dX3_init_1 : decode cX3_init 1 = .ok (.invokespecial 1, 3) := dk_183 0 1 (dk_at dksX3_init_0 1 rfl rfl)
theorem dX3_init_4 : decode cX3_init 4 = .ok (.aload_n 0, 1) := dk_42 (dk_at dksX3_init_0 4 rfl rfl)
theorem dX3_init_5 : decode cX3_init 5 = .ok (.sipush 900, 3) := dk_17 3 132 (dk_at dksX3_init_0 5 rfl rfl)
theorem dX3_init_8 : decode cX3_init 8 = .ok (.newarray .int, 2) := dk_188_10 (dk_at dksX3_init_0 8 rfl rfl)
theorem dX3_init_10 : decode cX3_init 10 = .ok (.putfield 7, 3) := dk_181 0 7 (dk_at dksX3_init_0 10 rfl rfl)
theorem dX3_init_13 : decode cX3_init 13 = .ok (.aload_n 0, 1) := dk_42 (dk_at dksX3_init_0 13 rfl rfl)
theorem dX3_init_14 : decode cX3_init 14 = .ok (.iconst (-1), 1) := dk_2 (dk_at dksX3_init_0 14 rfl rfl)
theorem dX3_init_15 : decode cX3_init 15 = .ok (.putfield 13, 3) := dk_181 0 13 (dk_at dksX3_init_0 15 rfl rfl)
theorem dX3_init_18 : decode cX3_init 18 = .ok (.aload_n 0, 1) := dk_42 (dk_at dksX3_init_0 18 rfl rfl)
theorem dX3_init_19 : decode cX3_init 19 = .ok (.bipush 8, 2) := dk_16 8 (dk_at dksX3_init_0 19 rfl rfl)
theorem dX3_init_21 : decode cX3_init 21 = .ok (.newarray .int, 2) := dk_188_10 (dk_at dksX3_init_0 21 rfl rfl)
theorem dX3_init_23 : decode cX3_init 23 = .ok (.putfield 17, 3) := dk_181 0 17 (dk_at dksX3_init_1 0 rfl rfl)
theorem dX3_init_26 : decode cX3_init 26 = .ok (.aload_n 0, 1) := dk_42 (dk_at dksX3_init_1 3 rfl rfl)
theorem dX3_init_27 : decode cX3_init 27 = .ok (.sipush 346, 3) := dk_17 1 90 (dk_at dksX3_init_1 4 rfl rfl)
theorem dX3_init_30 : decode cX3_init 30 = .ok (.newarray .int, 2) := dk_188_10 (dk_at dksX3_init_1 7 rfl rfl)
theorem dX3_init_32 : decode cX3_init 32 = .ok (.putfield 20, 3) := dk_181 0 20 (dk_at dksX3_init_1 9 rfl rfl)
theorem dX3_init_35 : decode cX3_init 35 = .ok (.aload_n 0, 1) := dk_42 (dk_at dksX3_init_1 12 rfl rfl)
theorem dX3_init_36 : decode cX3_init 36 = .ok (.sipush 346, 3) := dk_17 1 90 (dk_at dksX3_init_1 13 rfl rfl)
theorem dX3_init_39 : decode cX3_init 39 = .ok (.newarray .int, 2) := dk_188_10 (dk_at dksX3_init_1 16 rfl rfl)
theorem dX3_init_41 : decode cX3_init 41 = .ok (.putfield 23, 3) := dk_181 0 23 (dk_at dksX3_init_1 18 rfl rfl)
theorem dX3_init_44 : decode cX3_init 44 = .ok (.aload_n 0, 1) := dk_42 (dk_at dksX3_init_1 21 rfl rfl)
theorem dX3_init_45 : decode cX3_init 45 = .ok (.bipush 32, 2) := dk_16 32 (dk_at dksX3_init_1 22 rfl rfl)
theorem dX3_init_47 : decode cX3_init 47 = .ok (.newarray .int, 2) := dk_188_10 (dk_at dksX3_init_2 0 rfl rfl)
theorem dX3_init_49 : decode cX3_init 49 = .ok (.putfield 26, 3) := dk_181 0 26 (dk_at dksX3_init_2 2 rfl rfl)
theorem dX3_init_52 : decode cX3_init 52 = .ok (.aload_n 0, 1) := dk_42 (dk_at dksX3_init_2 5 rfl rfl)
theorem dX3_init_53 : decode cX3_init 53 = .ok (.bipush 49, 2) := dk_16 49 (dk_at dksX3_init_2 6 rfl rfl)
theorem dX3_init_55 : decode cX3_init 55 = .ok (.newarray .int, 2) := dk_188_10 (dk_at dksX3_init_2 8 rfl rfl)
theorem dX3_init_57 : decode cX3_init 57 = .ok (.putfield 29, 3) := dk_181 0 29 (dk_at dksX3_init_2 10 rfl rfl)
theorem dX3_init_60 : decode cX3_init 60 = .ok (.aload_n 0, 1) := dk_42 (dk_at dksX3_init_2 13 rfl rfl)
theorem dX3_init_61 : decode cX3_init 61 = .ok (.sipush 980, 3) := dk_17 3 212 (dk_at dksX3_init_2 14 rfl rfl)
theorem dX3_init_64 : decode cX3_init 64 = .ok (.newarray .int, 2) := dk_188_10 (dk_at dksX3_init_2 17 rfl rfl)
theorem dX3_init_66 : decode cX3_init 66 = .ok (.putfield 32, 3) := dk_181 0 32 (dk_at dksX3_init_2 19 rfl rfl)
theorem dX3_init_69 : decode cX3_init 69 = .ok (.aload_n 0, 1) := dk_42 (dk_at dksX3_init_2 22 rfl rfl)
theorem dX3_init_70 : decode cX3_init 70 = .ok (.sipush 980, 3) := dk_17 3 212 (dk_at dksX3_init_3 0 rfl rfl)
theorem dX3_init_73 : decode cX3_init 73 = .ok (.newarray .int, 2) := dk_188_10 (dk_at dksX3_init_3 3 rfl rfl)
theorem dX3_init_75 : decode cX3_init 75 = .ok (.putfield 35, 3) := dk_181 0 35 (dk_at dksX3_init_3 5 rfl rfl)
theorem dX3_init_78 : decode cX3_init 78 = .ok (.aload_n 0, 1) := dk_42 (dk_at dksX3_init_3 8 rfl rfl)
theorem dX3_init_79 : decode cX3_init 79 = .ok (.sipush 196, 3) := dk_17 0 196 (dk_at dksX3_init_3 9 rfl rfl)
theorem dX3_init_82 : decode cX3_init 82 = .ok (.newarray .int, 2) := dk_188_10 (dk_at dksX3_init_3 12 rfl rfl)
theorem dX3_init_84 : decode cX3_init 84 = .ok (.putfield 38, 3) := dk_181 0 38 (dk_at dksX3_init_3 14 rfl rfl)
theorem dX3_init_87 : decode cX3_init 87 = .ok (.aload_n 0, 1) := dk_42 (dk_at dksX3_init_3 17 rfl rfl)
theorem dX3_init_88 : decode cX3_init 88 = .ok (.bipush 100, 2) := dk_16 100 (dk_at dksX3_init_3 18 rfl rfl)
theorem dX3_init_90 : decode cX3_init 90 = .ok (.newarray .int, 2) := dk_188_10 (dk_at dksX3_init_3 20 rfl rfl)
theorem dX3_init_92 : decode cX3_init 92 = .ok (.putfield 41, 3) := dk_181 0 41 (dk_at dksX3_init_4 0 rfl rfl)
theorem dX3_init_95 : decode cX3_init 95 = .ok (.aload_n 0, 1) := dk_42 (dk_at dksX3_init_4 3 rfl rfl)
theorem dX3_init_96 : decode cX3_init 96 = .ok (.bipush 100, 2) := dk_16 100 (dk_at dksX3_init_4 4 rfl rfl)
theorem dX3_init_98 : decode cX3_init 98 = .ok (.newarray .int, 2) := dk_188_10 (dk_at dksX3_init_4 6 rfl rfl)
theorem dX3_init_100 : decode cX3_init 100 = .ok (.putfield 44, 3) := dk_181 0 44 (dk_at dksX3_init_4 8 rfl rfl)
theorem dX3_init_103 : decode cX3_init 103 = .ok (.aload_n 0, 1) := dk_42 (dk_at dksX3_init_4 11 rfl rfl)
theorem dX3_init_104 : decode cX3_init 104 = .ok (.sipush 3298, 3) := dk_17 12 226 (dk_at dksX3_init_4 12 rfl rfl)
theorem dX3_init_107 : decode cX3_init 107 = .ok (.newarray .long, 2) := dk_188_11 (dk_at dksX3_init_4 15 rfl rfl)
theorem dX3_init_109 : decode cX3_init 109 = .ok (.putfield 47, 3) := dk_181 0 47 (dk_at dksX3_init_4 17 rfl rfl)
theorem dX3_init_112 : decode cX3_init 112 = .ok (.aload_n 0, 1) := dk_42 (dk_at dksX3_init_4 20 rfl rfl)
theorem dX3_init_113 : decode cX3_init 113 = .ok (.bipush 32, 2) := dk_16 32 (dk_at dksX3_init_4 21 rfl rfl)
theorem dX3_init_115 : decode cX3_init 115 = .ok (.newarray .int, 2) := dk_188_10 (dk_at dksX3_init_5 0 rfl rfl)
theorem dX3_init_117 : decode cX3_init 117 = .ok (.putfield 51, 3) := dk_181 0 51 (dk_at dksX3_init_5 2 rfl rfl)
theorem dX3_init_120 : decode cX3_init 120 = .ok (.aload_n 0, 1) := dk_42 (dk_at dksX3_init_5 5 rfl rfl)
theorem dX3_init_121 : decode cX3_init 121 = .ok (.sipush 3060, 3) := dk_17 11 244 (dk_at dksX3_init_5 6 rfl rfl)
theorem dX3_init_124 : decode cX3_init 124 = .ok (.newarray .int, 2) := dk_188_10 (dk_at dksX3_init_5 9 rfl rfl)
theorem dX3_init_126 : decode cX3_init 126 = .ok (.putfield 54, 3) := dk_181 0 54 (dk_at dksX3_init_5 11 rfl rfl)
theorem dX3_init_129 : decode cX3_init 129 = .ok (.aload_n 0, 1) := dk_42 (dk_at dksX3_init_5 14 rfl rfl)
theorem dX3_init_130 : decode cX3_init 130 = .ok (.bipush 18, 2) := dk_16 18 (dk_at dksX3_init_5 15 rfl rfl)
theorem dX3_init_132 : decode cX3_init 132 = .ok (.newarray .int, 2) := dk_188_10 (dk_at dksX3_init_5 17 rfl rfl)
theorem dX3_init_134 : decode cX3_init 134 = .ok (.putfield 57, 3) := dk_181 0 57 (dk_at dksX3_init_5 19 rfl rfl)
theorem dX3_init_137 : decode cX3_init 137 = .ok (.aload_n 0, 1) := dk_42 (dk_at dksX3_init_5 22 rfl rfl)
theorem dX3_init_138 : decode cX3_init 138 = .ok (.bipush 19, 2) := dk_16 19 (dk_at dksX3_init_6 0 rfl rfl)
theorem dX3_init_140 : decode cX3_init 140 = .ok (.newarray .int, 2) := dk_188_10 (dk_at dksX3_init_6 2 rfl rfl)
theorem dX3_init_142 : decode cX3_init 142 = .ok (.putfield 60, 3) := dk_181 0 60 (dk_at dksX3_init_6 4 rfl rfl)
theorem dX3_init_145 : decode cX3_init 145 = .ok (.aload_n 0, 1) := dk_42 (dk_at dksX3_init_6 7 rfl rfl)
theorem dX3_init_146 : decode cX3_init 146 = .ok (.bipush 18, 2) := dk_16 18 (dk_at dksX3_init_6 8 rfl rfl)
theorem dX3_init_148 : decode cX3_init 148 = .ok (.newarray .int, 2) := dk_188_10 (dk_at dksX3_init_6 10 rfl rfl)
theorem dX3_init_150 : decode cX3_init 150 = .ok (.putfield 63, 3) := dk_181 0 63 (dk_at dksX3_init_6 12 rfl rfl)
theorem dX3_init_153 : decode cX3_init 153 = .ok (.aload_n 0, 1) := dk_42 (dk_at dksX3_init_6 15 rfl rfl)
theorem dX3_init_154 : decode cX3_init 154 = .ok (.bipush 18, 2) := dk_16 18 (dk_at dksX3_init_6 16 rfl rfl)
theorem dX3_init_156 : decode cX3_init 156 = .ok (.newarray .int, 2) := dk_188_10 (dk_at dksX3_init_6 18 rfl rfl)
theorem dX3_init_158 : decode cX3_init 158 = .ok (.putfield 66, 3) := dk_181 0 66 (dk_at dksX3_init_6 20 rfl rfl)
theorem dX3_init_161 : decode cX3_init 161 = .ok (.return_, 1) := dk_177 (dk_at dksX3_init_6 23 rfl rfl)
abbrev cX3_thrown : ByteArray := prog_18_method_2_code
def yX3_thrown : MethodName := ⟨RX3, "thrown", "()I"⟩
theorem dX3_thrown_0 : decode cX3_thrown 0 = .ok (.aload_n 0, 1) := by decide +kernel
theorem dX3_thrown_1 : decode cX3_thrown 1 = .ok (.getfield 69, 3) := by decide +kernel
theorem dX3_thrown_4 : decode cX3_thrown 4 = .ok (.ireturn, 1) := by decide +kernel
abbrev cX3_feed : ByteArray := prog_18_method_10_code
def yX3_feed : MethodName := ⟨RX3, "feed", "(IIIII)I"⟩
def dkwX3_feed_5 : List UInt8 := [167, 255, 162, 42, 180, 0, 75, 172]
abbrev dktX3_feed_5 : List UInt8 := dkwX3_feed_5 ++ []
def dkwX3_feed_4 : List UInt8 := [112, 104, 100, 122, 17, 0, 255, 126, 79, 42, 89, 180, 0, 75, 4, 96, 181, 0, 75, 132, 6, 1]
abbrev dktX3_feed_4 : List UInt8 := dkwX3_feed_4 ++ dktX3_feed_5
def dkwX3_feed_3 : List UInt8 := [167, 0, 5, 21, 5, 54, 7, 42, 180, 0, 7, 42, 180, 0, 75, 21, 7, 16, 24, 16, 8, 21, 6, 7]
abbrev dktX3_feed_3 : List UInt8 := dkwX3_feed_3 ++ dktX3_feed_4
def dkwX3_feed_2 : List UInt8 := [28, 167, 0, 28, 21, 6, 16, 12, 162, 0, 7, 29, 167, 0, 17, 21, 6, 16, 16, 162, 0, 8, 21, 4]
abbrev dktX3_feed_2 : List UInt8 := dkwX3_feed_2 ++ dktX3_feed_3
def dkwX3_feed_1 : List UInt8 := [21, 6, 16, 20, 162, 0, 93, 21, 6, 7, 162, 0, 7, 27, 167, 0, 39, 21, 6, 16, 8, 162, 0, 7]
abbrev dktX3_feed_1 : List UInt8 := dkwX3_feed_1 ++ dktX3_feed_2
def dkwX3_feed_0 : List UInt8 := [42, 3, 181, 0, 69, 42, 180, 0, 75, 16, 20, 96, 17, 3, 132, 164, 0, 5, 2, 172, 3, 54, 6]
abbrev dktX3_feed_0 : List UInt8 := dkwX3_feed_0 ++ dktX3_feed_1
theorem dksX3_feed_0 : cX3_feed.data.toList.drop 0 = dktX3_feed_0 := by decide +kernel
theorem dksX3_feed_1 : cX3_feed.data.toList.drop 23 = dktX3_feed_1 := dk_seg dksX3_feed_0 23 rfl rfl
theorem dksX3_feed_2 : cX3_feed.data.toList.drop 47 = dktX3_feed_2 := dk_seg dksX3_feed_1 24 rfl rfl
theorem dksX3_feed_3 : cX3_feed.data.toList.drop 71 = dktX3_feed_3 := dk_seg dksX3_feed_2 24 rfl rfl
theorem dksX3_feed_4 : cX3_feed.data.toList.drop 95 = dktX3_feed_4 := dk_seg dksX3_feed_3 24 rfl rfl
theorem dksX3_feed_5 : cX3_feed.data.toList.drop 117 = dktX3_feed_5 := dk_seg dksX3_feed_4 22 rfl rfl
theorem dX3_feed_0 : decode cX3_feed 0 = .ok (.aload_n 0, 1) := dk_42 (dk_at dksX3_feed_0 0 rfl rfl)
theorem dX3_feed_1 : decode cX3_feed 1 = .ok (.iconst 0, 1) := dk_3 (dk_at dksX3_feed_0 1 rfl rfl)
theorem dX3_feed_2 : decode cX3_feed 2 = .ok (.putfield 69, 3) := dk_181 0 69 (dk_at dksX3_feed_0 2 rfl rfl)
theorem dX3_feed_5 : decode cX3_feed 5 = .ok (.aload_n 0, 1) := dk_42 (dk_at dksX3_feed_0 5 rfl rfl)
theorem dX3_feed_6 : decode cX3_feed 6 = .ok (.getfield 75, 3) := dk_180 0 75 (dk_at dksX3_feed_0 6 rfl rfl)
theorem dX3_feed_9 : decode cX3_feed 9 = .ok (.bipush 20, 2) := dk_16 20 (dk_at dksX3_feed_0 9 rfl rfl)
theorem dX3_feed_11 : decode cX3_feed 11 = .ok (.iadd, 1) := dk_96 (dk_at dksX3_feed_0 11 rfl rfl)
theorem dX3_feed_12 : decode cX3_feed 12 = .ok (.sipush 900, 3) := dk_17 3 132 (dk_at dksX3_feed_0 12 rfl rfl)
theorem dX3_feed_15 : decode cX3_feed 15 = .ok (.if_icmp .le 5, 3) := dk_164 0 5 (dk_at dksX3_feed_0 15 rfl rfl)
theorem dX3_feed_18 : decode cX3_feed 18 = .ok (.iconst (-1), 1) := dk_2 (dk_at dksX3_feed_0 18 rfl rfl)
theorem dX3_feed_19 : decode cX3_feed 19 = .ok (.ireturn, 1) := dk_172 (dk_at dksX3_feed_0 19 rfl rfl)
theorem dX3_feed_20 : decode cX3_feed 20 = .ok (.iconst 0, 1) := dk_3 (dk_at dksX3_feed_0 20 rfl rfl)
theorem dX3_feed_21 : decode cX3_feed 21 = .ok (.istore 6, 2) := dk_54 6 (dk_at dksX3_feed_0 21 rfl rfl)
theorem dX3_feed_23 : decode cX3_feed 23 = .ok (.iload 6, 2) := dk_21 6 (dk_at dksX3_feed_1 0 rfl rfl)
theorem dX3_feed_25 : decode cX3_feed 25 = .ok (.bipush 20, 2) := dk_16 20 (dk_at dksX3_feed_1 2 rfl rfl)
theorem dX3_feed_27 : decode cX3_feed 27 = .ok (.if_icmp .ge 93, 3) := dk_162 0 93 (dk_at dksX3_feed_1 4 rfl rfl)
theorem dX3_feed_30 : decode cX3_feed 30 = .ok (.iload 6, 2) := dk_21 6 (dk_at dksX3_feed_1 7 rfl rfl)
theorem dX3_feed_32 : decode cX3_feed 32 = .ok (.iconst 4, 1) := dk_7 (dk_at dksX3_feed_1 9 rfl rfl)
theorem dX3_feed_33 : decode cX3_feed 33 = .ok (.if_icmp .ge 7, 3) := dk_162 0 7 (dk_at dksX3_feed_1 10 rfl rfl)
theorem dX3_feed_36 : decode cX3_feed 36 = .ok (.iload_n 1, 1) := dk_27 (dk_at dksX3_feed_1 13 rfl rfl)
theorem dX3_feed_37 : decode cX3_feed 37 = .ok (.goto 39, 3) := dk_167 0 39 (dk_at dksX3_feed_1 14 rfl rfl)
theorem dX3_feed_40 : decode cX3_feed 40 = .ok (.iload 6, 2) := dk_21 6 (dk_at dksX3_feed_1 17 rfl rfl)
theorem dX3_feed_42 : decode cX3_feed 42 = .ok (.bipush 8, 2) := dk_16 8 (dk_at dksX3_feed_1 19 rfl rfl)
theorem dX3_feed_44 : decode cX3_feed 44 = .ok (.if_icmp .ge 7, 3) := dk_162 0 7 (dk_at dksX3_feed_1 21 rfl rfl)
theorem dX3_feed_47 : decode cX3_feed 47 = .ok (.iload_n 2, 1) := dk_28 (dk_at dksX3_feed_2 0 rfl rfl)
theorem dX3_feed_48 : decode cX3_feed 48 = .ok (.goto 28, 3) := dk_167 0 28 (dk_at dksX3_feed_2 1 rfl rfl)
theorem dX3_feed_51 : decode cX3_feed 51 = .ok (.iload 6, 2) := dk_21 6 (dk_at dksX3_feed_2 4 rfl rfl)
theorem dX3_feed_53 : decode cX3_feed 53 = .ok (.bipush 12, 2) := dk_16 12 (dk_at dksX3_feed_2 6 rfl rfl)
theorem dX3_feed_55 : decode cX3_feed 55 = .ok (.if_icmp .ge 7, 3) := dk_162 0 7 (dk_at dksX3_feed_2 8 rfl rfl)
theorem dX3_feed_58 : decode cX3_feed 58 = .ok (.iload_n 3, 1) := dk_29 (dk_at dksX3_feed_2 11 rfl rfl)
theorem dX3_feed_59 : decode cX3_feed 59 = .ok (.goto 17, 3) := dk_167 0 17 (dk_at dksX3_feed_2 12 rfl rfl)
theorem dX3_feed_62 : decode cX3_feed 62 = .ok (.iload 6, 2) := dk_21 6 (dk_at dksX3_feed_2 15 rfl rfl)
theorem dX3_feed_64 : decode cX3_feed 64 = .ok (.bipush 16, 2) := dk_16 16 (dk_at dksX3_feed_2 17 rfl rfl)
theorem dX3_feed_66 : decode cX3_feed 66 = .ok (.if_icmp .ge 8, 3) := dk_162 0 8 (dk_at dksX3_feed_2 19 rfl rfl)
theorem dX3_feed_69 : decode cX3_feed 69 = .ok (.iload 4, 2) := dk_21 4 (dk_at dksX3_feed_2 22 rfl rfl)
theorem dX3_feed_71 : decode cX3_feed 71 = .ok (.goto 5, 3) := dk_167 0 5 (dk_at dksX3_feed_3 0 rfl rfl)
theorem dX3_feed_74 : decode cX3_feed 74 = .ok (.iload 5, 2) := dk_21 5 (dk_at dksX3_feed_3 3 rfl rfl)
theorem dX3_feed_76 : decode cX3_feed 76 = .ok (.istore 7, 2) := dk_54 7 (dk_at dksX3_feed_3 5 rfl rfl)
theorem dX3_feed_78 : decode cX3_feed 78 = .ok (.aload_n 0, 1) := dk_42 (dk_at dksX3_feed_3 7 rfl rfl)
theorem dX3_feed_79 : decode cX3_feed 79 = .ok (.getfield 7, 3) := dk_180 0 7 (dk_at dksX3_feed_3 8 rfl rfl)
theorem dX3_feed_82 : decode cX3_feed 82 = .ok (.aload_n 0, 1) := dk_42 (dk_at dksX3_feed_3 11 rfl rfl)
theorem dX3_feed_83 : decode cX3_feed 83 = .ok (.getfield 75, 3) := dk_180 0 75 (dk_at dksX3_feed_3 12 rfl rfl)
theorem dX3_feed_86 : decode cX3_feed 86 = .ok (.iload 7, 2) := dk_21 7 (dk_at dksX3_feed_3 15 rfl rfl)
theorem dX3_feed_88 : decode cX3_feed 88 = .ok (.bipush 24, 2) := dk_16 24 (dk_at dksX3_feed_3 17 rfl rfl)
theorem dX3_feed_90 : decode cX3_feed 90 = .ok (.bipush 8, 2) := dk_16 8 (dk_at dksX3_feed_3 19 rfl rfl)
theorem dX3_feed_92 : decode cX3_feed 92 = .ok (.iload 6, 2) := dk_21 6 (dk_at dksX3_feed_3 21 rfl rfl)
theorem dX3_feed_94 : decode cX3_feed 94 = .ok (.iconst 4, 1) := dk_7 (dk_at dksX3_feed_3 23 rfl rfl)
theorem dX3_feed_95 : decode cX3_feed 95 = .ok (.irem, 1) := dk_112 (dk_at dksX3_feed_4 0 rfl rfl)
theorem dX3_feed_96 : decode cX3_feed 96 = .ok (.imul, 1) := dk_104 (dk_at dksX3_feed_4 1 rfl rfl)
theorem dX3_feed_97 : decode cX3_feed 97 = .ok (.isub, 1) := dk_100 (dk_at dksX3_feed_4 2 rfl rfl)
theorem dX3_feed_98 : decode cX3_feed 98 = .ok (.ishr, 1) := dk_122 (dk_at dksX3_feed_4 3 rfl rfl)
theorem dX3_feed_99 : decode cX3_feed 99 = .ok (.sipush 255, 3) := dk_17 0 255 (dk_at dksX3_feed_4 4 rfl rfl)
theorem dX3_feed_102 : decode cX3_feed 102 = .ok (.iand, 1) := dk_126 (dk_at dksX3_feed_4 7 rfl rfl)
theorem dX3_feed_103 : decode cX3_feed 103 = .ok (.iastore, 1) := dk_79 (dk_at dksX3_feed_4 8 rfl rfl)
theorem dX3_feed_104 : decode cX3_feed 104 = .ok (.aload_n 0, 1) := dk_42 (dk_at dksX3_feed_4 9 rfl rfl)
theorem dX3_feed_105 : decode cX3_feed 105 = .ok (.dup, 1) := dk_89 (dk_at dksX3_feed_4 10 rfl rfl)
theorem dX3_feed_106 : decode cX3_feed 106 = .ok (.getfield 75, 3) := dk_180 0 75 (dk_at dksX3_feed_4 11 rfl rfl)
theorem dX3_feed_109 : decode cX3_feed 109 = .ok (.iconst 1, 1) := dk_4 (dk_at dksX3_feed_4 14 rfl rfl)
theorem dX3_feed_110 : decode cX3_feed 110 = .ok (.iadd, 1) := dk_96 (dk_at dksX3_feed_4 15 rfl rfl)
theorem dX3_feed_111 : decode cX3_feed 111 = .ok (.putfield 75, 3) := dk_181 0 75 (dk_at dksX3_feed_4 16 rfl rfl)
theorem dX3_feed_114 : decode cX3_feed 114 = .ok (.iinc 6 1, 3) := dk_132 6 1 (dk_at dksX3_feed_4 19 rfl rfl)
theorem dX3_feed_117 : decode cX3_feed 117 = .ok (.goto (-94), 3) := dk_167 255 162 (dk_at dksX3_feed_5 0 rfl rfl)
theorem dX3_feed_120 : decode cX3_feed 120 = .ok (.aload_n 0, 1) := dk_42 (dk_at dksX3_feed_5 3 rfl rfl)
theorem dX3_feed_121 : decode cX3_feed 121 = .ok (.getfield 75, 3) := dk_180 0 75 (dk_at dksX3_feed_5 4 rfl rfl)
theorem dX3_feed_124 : decode cX3_feed 124 = .ok (.ireturn, 1) := dk_172 (dk_at dksX3_feed_5 7 rfl rfl)
abbrev cX3_book : ByteArray := prog_18_method_27_code
def yX3_book : MethodName := ⟨RX3, "book", "(I)I"⟩
def dkwX3_book_10 : List UInt8 := [46, 172]
abbrev dktX3_book_10 : List UInt8 := dkwX3_book_10 ++ []
def dkwX3_book_9 : List UInt8 := [182, 0, 186, 42, 3, 181, 0, 189, 42, 3, 181, 0, 192, 42, 3, 181, 0, 195, 42, 180, 0, 20, 16, 50]
abbrev dktX3_book_9 : List UInt8 := dkwX3_book_9 ++ dktX3_book_10
def dkwX3_book_8 : List UInt8 := [180, 0, 20, 28, 42, 180, 0, 23, 28, 46, 79, 132, 2, 1, 167, 255, 234, 42, 4, 181, 0, 183, 42]
abbrev dktX3_book_8 : List UInt8 := dkwX3_book_8 ++ dktX3_book_9
def dkwX3_book_7 : List UInt8 := [180, 0, 107, 153, 0, 9, 42, 7, 182, 0, 177, 172, 3, 61, 28, 17, 1, 90, 162, 0, 21, 42]
abbrev dktX3_book_7 : List UInt8 := dkwX3_book_7 ++ dktX3_book_8
def dkwX3_book_6 : List UInt8 := [153, 0, 13, 42, 180, 0, 23, 16, 50, 46, 154, 0, 13, 42, 16, 6, 42, 180, 0, 88, 182, 0, 134, 42]
abbrev dktX3_book_6 : List UInt8 := dkwX3_book_6 ++ dktX3_book_7
def dkwX3_book_5 : List UInt8 := [42, 4, 42, 180, 0, 88, 182, 0, 134, 42, 180, 0, 107, 154, 0, 33, 42, 180, 0, 23, 16, 49, 46]
abbrev dktX3_book_5 : List UInt8 := dkwX3_book_5 ++ dktX3_book_6
def dkwX3_book_4 : List UInt8 := [182, 0, 128, 42, 182, 0, 180, 167, 255, 232, 42, 180, 0, 107, 154, 0, 19, 42, 180, 0, 97, 153, 0, 12]
abbrev dktX3_book_4 : List UInt8 := dkwX3_book_4 ++ dktX3_book_5
def dkwX3_book_3 : List UInt8 := [182, 0, 128, 42, 182, 0, 180, 42, 180, 0, 107, 154, 0, 23, 42, 180, 0, 97, 16, 59, 160, 0, 14, 42]
abbrev dktX3_book_3 : List UInt8 := dkwX3_book_3 ++ dktX3_book_4
def dkwX3_book_2 : List UInt8 := [180, 0, 23, 28, 3, 79, 132, 2, 1, 167, 255, 239, 42, 27, 181, 0, 78, 42, 3, 181, 0, 81, 42]
abbrev dktX3_book_2 : List UInt8 := dkwX3_book_2 ++ dktX3_book_3
def dkwX3_book_1 : List UInt8 := [181, 0, 75, 42, 3, 181, 0, 111, 42, 3, 181, 0, 107, 3, 61, 28, 17, 1, 90, 162, 0, 16, 42]
abbrev dktX3_book_1 : List UInt8 := dkwX3_book_1 ++ dktX3_book_2
def dkwX3_book_0 : List UInt8 := [42, 182, 0, 174, 27, 3, 42, 180, 0, 75, 184, 0, 170, 154, 0, 9, 42, 5, 182, 0, 177, 172, 42, 3]
abbrev dktX3_book_0 : List UInt8 := dkwX3_book_0 ++ dktX3_book_1
theorem dksX3_book_0 : cX3_book.data.toList.drop 0 = dktX3_book_0 := by decide +kernel
theorem dksX3_book_1 : cX3_book.data.toList.drop 24 = dktX3_book_1 := dk_seg dksX3_book_0 24 rfl rfl
theorem dksX3_book_2 : cX3_book.data.toList.drop 47 = dktX3_book_2 := dk_seg dksX3_book_1 23 rfl rfl
theorem dksX3_book_3 : cX3_book.data.toList.drop 70 = dktX3_book_3 := dk_seg dksX3_book_2 23 rfl rfl
theorem dksX3_book_4 : cX3_book.data.toList.drop 94 = dktX3_book_4 := dk_seg dksX3_book_3 24 rfl rfl
theorem dksX3_book_5 : cX3_book.data.toList.drop 118 = dktX3_book_5 := dk_seg dksX3_book_4 24 rfl rfl
theorem dksX3_book_6 : cX3_book.data.toList.drop 141 = dktX3_book_6 := dk_seg dksX3_book_5 23 rfl rfl
theorem dksX3_book_7 : cX3_book.data.toList.drop 165 = dktX3_book_7 := dk_seg dksX3_book_6 24 rfl rfl
theorem dksX3_book_8 : cX3_book.data.toList.drop 187 = dktX3_book_8 := dk_seg dksX3_book_7 22 rfl rfl
theorem dksX3_book_9 : cX3_book.data.toList.drop 210 = dktX3_book_9 := dk_seg dksX3_book_8 23 rfl rfl
theorem dksX3_book_10 : cX3_book.data.toList.drop 234 = dktX3_book_10 := dk_seg dksX3_book_9 24 rfl rfl
theorem dX3_book_0 : decode cX3_book 0 = .ok (.aload_n 0, 1) := dk_42 (dk_at dksX3_book_0 0 rfl rfl)
theorem dX3_book_1 : decode cX3_book 1 = .ok (.invokevirtual 174, 3) := dk_182 0 174 (dk_at dksX3_book_0 1 rfl rfl)
theorem dX3_book_4 : decode cX3_book 4 = .ok (.iload_n 1, 1) := dk_27 (dk_at dksX3_book_0 4 rfl rfl)
theorem dX3_book_5 : decode cX3_book 5 = .ok (.iconst 0, 1) := dk_3 (dk_at dksX3_book_0 5 rfl rfl)
theorem dX3_book_6 : decode cX3_book 6 = .ok (.aload_n 0, 1) := dk_42 (dk_at dksX3_book_0 6 rfl rfl)
theorem dX3_book_7 : decode cX3_book 7 = .ok (.getfield 75, 3) := dk_180 0 75 (dk_at dksX3_book_0 7 rfl rfl)
theorem dX3_book_10 : decode cX3_book 10 = .ok (.invokestatic 170, 3) := dk_184 0 170 (dk_at dksX3_book_0 10 rfl rfl)
theorem dX3_book_13 : decode cX3_book 13 = .ok (.ifCond .ne 9, 3) := dk_154 0 9 (dk_at dksX3_book_0 13 rfl rfl)
theorem dX3_book_16 : decode cX3_book 16 = .ok (.aload_n 0, 1) := dk_42 (dk_at dksX3_book_0 16 rfl rfl)
theorem dX3_book_17 : decode cX3_book 17 = .ok (.iconst 2, 1) := dk_5 (dk_at dksX3_book_0 17 rfl rfl)
theorem dX3_book_18 : decode cX3_book 18 = .ok (.invokevirtual 177, 3) := dk_182 0 177 (dk_at dksX3_book_0 18 rfl rfl)
theorem dX3_book_21 : decode cX3_book 21 = .ok (.ireturn, 1) := dk_172 (dk_at dksX3_book_0 21 rfl rfl)
theorem dX3_book_22 : decode cX3_book 22 = .ok (.aload_n 0, 1) := dk_42 (dk_at dksX3_book_0 22 rfl rfl)
theorem dX3_book_23 : decode cX3_book 23 = .ok (.iconst 0, 1) := dk_3 (dk_at dksX3_book_0 23 rfl rfl)
theorem dX3_book_24 : decode cX3_book 24 = .ok (.putfield 75, 3) := dk_181 0 75 (dk_at dksX3_book_1 0 rfl rfl)
theorem dX3_book_27 : decode cX3_book 27 = .ok (.aload_n 0, 1) := dk_42 (dk_at dksX3_book_1 3 rfl rfl)
theorem dX3_book_28 : decode cX3_book 28 = .ok (.iconst 0, 1) := dk_3 (dk_at dksX3_book_1 4 rfl rfl)
theorem dX3_book_29 : decode cX3_book 29 = .ok (.putfield 111, 3) := dk_181 0 111 (dk_at dksX3_book_1 5 rfl rfl)
theorem dX3_book_32 : decode cX3_book 32 = .ok (.aload_n 0, 1) := dk_42 (dk_at dksX3_book_1 8 rfl rfl)
theorem dX3_book_33 : decode cX3_book 33 = .ok (.iconst 0, 1) := dk_3 (dk_at dksX3_book_1 9 rfl rfl)
theorem dX3_book_34 : decode cX3_book 34 = .ok (.putfield 107, 3) := dk_181 0 107 (dk_at dksX3_book_1 10 rfl rfl)
theorem dX3_book_37 : decode cX3_book 37 = .ok (.iconst 0, 1) := dk_3 (dk_at dksX3_book_1 13 rfl rfl)
theorem dX3_book_38 : decode cX3_book 38 = .ok (.istore_n 2, 1) := dk_61 (dk_at dksX3_book_1 14 rfl rfl)
theorem dX3_book_39 : decode cX3_book 39 = .ok (.iload_n 2, 1) := dk_28 (dk_at dksX3_book_1 15 rfl rfl)
theorem dX3_book_40 : decode cX3_book 40 = .ok (.sipush 346, 3) := dk_17 1 90 (dk_at dksX3_book_1 16 rfl rfl)
theorem dX3_book_43 : decode cX3_book 43 = .ok (.if_icmp .ge 16, 3) := dk_162 0 16 (dk_at dksX3_book_1 19 rfl rfl)
theorem dX3_book_46 : decode cX3_book 46 = .ok (.aload_n 0, 1) := dk_42 (dk_at dksX3_book_1 22 rfl rfl)
theorem dX3_book_47 : decode cX3_book 47 = .ok (.getfield 23, 3) := dk_180 0 23 (dk_at dksX3_book_2 0 rfl rfl)
theorem dX3_book_50 : decode cX3_book 50 = .ok (.iload_n 2, 1) := dk_28 (dk_at dksX3_book_2 3 rfl rfl)
theorem dX3_book_51 : decode cX3_book 51 = .ok (.iconst 0, 1) := dk_3 (dk_at dksX3_book_2 4 rfl rfl)
theorem dX3_book_52 : decode cX3_book 52 = .ok (.iastore, 1) := dk_79 (dk_at dksX3_book_2 5 rfl rfl)
theorem dX3_book_53 : decode cX3_book 53 = .ok (.iinc 2 1, 3) := dk_132 2 1 (dk_at dksX3_book_2 6 rfl rfl)
theorem dX3_book_56 : decode cX3_book 56 = .ok (.goto (-17), 3) := dk_167 255 239 (dk_at dksX3_book_2 9 rfl rfl)
theorem dX3_book_59 : decode cX3_book 59 = .ok (.aload_n 0, 1) := dk_42 (dk_at dksX3_book_2 12 rfl rfl)
theorem dX3_book_60 : decode cX3_book 60 = .ok (.iload_n 1, 1) := dk_27 (dk_at dksX3_book_2 13 rfl rfl)
theorem dX3_book_61 : decode cX3_book 61 = .ok (.putfield 78, 3) := dk_181 0 78 (dk_at dksX3_book_2 14 rfl rfl)
theorem dX3_book_64 : decode cX3_book 64 = .ok (.aload_n 0, 1) := dk_42 (dk_at dksX3_book_2 17 rfl rfl)
theorem dX3_book_65 : decode cX3_book 65 = .ok (.iconst 0, 1) := dk_3 (dk_at dksX3_book_2 18 rfl rfl)
theorem dX3_book_66 : decode cX3_book 66 = .ok (.putfield 81, 3) := dk_181 0 81 (dk_at dksX3_book_2 19 rfl rfl)
theorem dX3_book_69 : decode cX3_book 69 = .ok (.aload_n 0, 1) := dk_42 (dk_at dksX3_book_2 22 rfl rfl)
theorem dX3_book_70 : decode cX3_book 70 = .ok (.invokevirtual 128, 3) := dk_182 0 128 (dk_at dksX3_book_3 0 rfl rfl)
theorem dX3_book_73 : decode cX3_book 73 = .ok (.aload_n 0, 1) := dk_42 (dk_at dksX3_book_3 3 rfl rfl)
theorem dX3_book_74 : decode cX3_book 74 = .ok (.invokevirtual 180, 3) := dk_182 0 180 (dk_at dksX3_book_3 4 rfl rfl)
theorem dX3_book_77 : decode cX3_book 77 = .ok (.aload_n 0, 1) := dk_42 (dk_at dksX3_book_3 7 rfl rfl)
theorem dX3_book_78 : decode cX3_book 78 = .ok (.getfield 107, 3) := dk_180 0 107 (dk_at dksX3_book_3 8 rfl rfl)
theorem dX3_book_81 : decode cX3_book 81 = .ok (.ifCond .ne 23, 3) := dk_154 0 23 (dk_at dksX3_book_3 11 rfl rfl)
theorem dX3_book_84 : decode cX3_book 84 = .ok (.aload_n 0, 1) := dk_42 (dk_at dksX3_book_3 14 rfl rfl)
theorem dX3_book_85 : decode cX3_book 85 = .ok (.getfield 97, 3) := dk_180 0 97 (dk_at dksX3_book_3 15 rfl rfl)
theorem dX3_book_88 : decode cX3_book 88 = .ok (.bipush 59, 2) := dk_16 59 (dk_at dksX3_book_3 18 rfl rfl)
theorem dX3_book_90 : decode cX3_book 90 = .ok (.if_icmp .ne 14, 3) := dk_160 0 14 (dk_at dksX3_book_3 20 rfl rfl)
theorem dX3_book_93 : decode cX3_book 93 = .ok (.aload_n 0, 1) := dk_42 (dk_at dksX3_book_3 23 rfl rfl)
theorem dX3_book_94 : decode cX3_book 94 = .ok (.invokevirtual 128, 3) := dk_182 0 128 (dk_at dksX3_book_4 0 rfl rfl)
theorem dX3_book_97 : decode cX3_book 97 = .ok (.aload_n 0, 1) := dk_42 (dk_at dksX3_book_4 3 rfl rfl)
theorem dX3_book_98 : decode cX3_book 98 = .ok (.invokevirtual 180, 3) := dk_182 0 180 (dk_at dksX3_book_4 4 rfl rfl)
theorem dX3_book_101 : decode cX3_book 101 = .ok (.goto (-24), 3) := dk_167 255 232 (dk_at dksX3_book_4 7 rfl rfl)
theorem dX3_book_104 : decode cX3_book 104 = .ok (.aload_n 0, 1) := dk_42 (dk_at dksX3_book_4 10 rfl rfl)
theorem dX3_book_105 : decode cX3_book 105 = .ok (.getfield 107, 3) := dk_180 0 107 (dk_at dksX3_book_4 11 rfl rfl)
theorem dX3_book_108 : decode cX3_book 108 = .ok (.ifCond .ne 19, 3) := dk_154 0 19 (dk_at dksX3_book_4 14 rfl rfl)
theorem dX3_book_111 : decode cX3_book 111 = .ok (.aload_n 0, 1) := dk_42 (dk_at dksX3_book_4 17 rfl rfl)
theorem dX3_book_112 : decode cX3_book 112 = .ok (.getfield 97, 3) := dk_180 0 97 (dk_at dksX3_book_4 18 rfl rfl)
theorem dX3_book_115 : decode cX3_book 115 = .ok (.ifCond .eq 12, 3) := dk_153 0 12 (dk_at dksX3_book_4 21 rfl rfl)
theorem dX3_book_118 : decode cX3_book 118 = .ok (.aload_n 0, 1) := dk_42 (dk_at dksX3_book_5 0 rfl rfl)
theorem dX3_book_119 : decode cX3_book 119 = .ok (.iconst 1, 1) := dk_4 (dk_at dksX3_book_5 1 rfl rfl)
theorem dX3_book_120 : decode cX3_book 120 = .ok (.aload_n 0, 1) := dk_42 (dk_at dksX3_book_5 2 rfl rfl)
theorem dX3_book_121 : decode cX3_book 121 = .ok (.getfield 88, 3) := dk_180 0 88 (dk_at dksX3_book_5 3 rfl rfl)
theorem dX3_book_124 : decode cX3_book 124 = .ok (.invokevirtual 134, 3) := dk_182 0 134 (dk_at dksX3_book_5 6 rfl rfl)
theorem dX3_book_127 : decode cX3_book 127 = .ok (.aload_n 0, 1) := dk_42 (dk_at dksX3_book_5 9 rfl rfl)
theorem dX3_book_128 : decode cX3_book 128 = .ok (.getfield 107, 3) := dk_180 0 107 (dk_at dksX3_book_5 10 rfl rfl)
theorem dX3_book_131 : decode cX3_book 131 = .ok (.ifCond .ne 33, 3) := dk_154 0 33 (dk_at dksX3_book_5 13 rfl rfl)
theorem dX3_book_134 : decode cX3_book 134 = .ok (.aload_n 0, 1) := dk_42 (dk_at dksX3_book_5 16 rfl rfl)
theorem dX3_book_135 : decode cX3_book 135 = .ok (.getfield 23, 3) := dk_180 0 23 (dk_at dksX3_book_5 17 rfl rfl)
theorem dX3_book_138 : decode cX3_book 138 = .ok (.bipush 49, 2) := dk_16 49 (dk_at dksX3_book_5 20 rfl rfl)
theorem dX3_book_140 : decode cX3_book 140 = .ok (.iaload, 1) := dk_46 (dk_at dksX3_book_5 22 rfl rfl)
theorem dX3_book_141 : decode cX3_book 141 = .ok (.ifCond .eq 13, 3) := dk_153 0 13 (dk_at dksX3_book_6 0 rfl rfl)
theorem dX3_book_144 : decode cX3_book 144 = .ok (.aload_n 0, 1) := dk_42 (dk_at dksX3_book_6 3 rfl rfl)
theorem dX3_book_145 : decode cX3_book 145 = .ok (.getfield 23, 3) := dk_180 0 23 (dk_at dksX3_book_6 4 rfl rfl)
theorem dX3_book_148 : decode cX3_book 148 = .ok (.bipush 50, 2) := dk_16 50 (dk_at dksX3_book_6 7 rfl rfl)
theorem dX3_book_150 : decode cX3_book 150 = .ok (.iaload, 1) := dk_46 (dk_at dksX3_book_6 9 rfl rfl)
theorem dX3_book_151 : decode cX3_book 151 = .ok (.ifCond .ne 13, 3) := dk_154 0 13 (dk_at dksX3_book_6 10 rfl rfl)
theorem dX3_book_154 : decode cX3_book 154 = .ok (.aload_n 0, 1) := dk_42 (dk_at dksX3_book_6 13 rfl rfl)
theorem dX3_book_155 : decode cX3_book 155 = .ok (.bipush 6, 2) := dk_16 6 (dk_at dksX3_book_6 14 rfl rfl)
theorem dX3_book_157 : decode cX3_book 157 = .ok (.aload_n 0, 1) := dk_42 (dk_at dksX3_book_6 16 rfl rfl)
theorem dX3_book_158 : decode cX3_book 158 = .ok (.getfield 88, 3) := dk_180 0 88 (dk_at dksX3_book_6 17 rfl rfl)
theorem dX3_book_161 : decode cX3_book 161 = .ok (.invokevirtual 134, 3) := dk_182 0 134 (dk_at dksX3_book_6 20 rfl rfl)
theorem dX3_book_164 : decode cX3_book 164 = .ok (.aload_n 0, 1) := dk_42 (dk_at dksX3_book_6 23 rfl rfl)
theorem dX3_book_165 : decode cX3_book 165 = .ok (.getfield 107, 3) := dk_180 0 107 (dk_at dksX3_book_7 0 rfl rfl)
theorem dX3_book_168 : decode cX3_book 168 = .ok (.ifCond .eq 9, 3) := dk_153 0 9 (dk_at dksX3_book_7 3 rfl rfl)
theorem dX3_book_171 : decode cX3_book 171 = .ok (.aload_n 0, 1) := dk_42 (dk_at dksX3_book_7 6 rfl rfl)
theorem dX3_book_172 : decode cX3_book 172 = .ok (.iconst 4, 1) := dk_7 (dk_at dksX3_book_7 7 rfl rfl)
theorem dX3_book_173 : decode cX3_book 173 = .ok (.invokevirtual 177, 3) := dk_182 0 177 (dk_at dksX3_book_7 8 rfl rfl)
theorem dX3_book_176 : decode cX3_book 176 = .ok (.ireturn, 1) := dk_172 (dk_at dksX3_book_7 11 rfl rfl)
theorem dX3_book_177 : decode cX3_book 177 = .ok (.iconst 0, 1) := dk_3 (dk_at dksX3_book_7 12 rfl rfl)
theorem dX3_book_178 : decode cX3_book 178 = .ok (.istore_n 2, 1) := dk_61 (dk_at dksX3_book_7 13 rfl rfl)
theorem dX3_book_179 : decode cX3_book 179 = .ok (.iload_n 2, 1) := dk_28 (dk_at dksX3_book_7 14 rfl rfl)
theorem dX3_book_180 : decode cX3_book 180 = .ok (.sipush 346, 3) := dk_17 1 90 (dk_at dksX3_book_7 15 rfl rfl)
theorem dX3_book_183 : decode cX3_book 183 = .ok (.if_icmp .ge 21, 3) := dk_162 0 21 (dk_at dksX3_book_7 18 rfl rfl)
theorem dX3_book_186 : decode cX3_book 186 = .ok (.aload_n 0, 1) := dk_42 (dk_at dksX3_book_7 21 rfl rfl)
theorem dX3_book_187 : decode cX3_book 187 = .ok (.getfield 20, 3) := dk_180 0 20 (dk_at dksX3_book_8 0 rfl rfl)
theorem dX3_book_190 : decode cX3_book 190 = .ok (.iload_n 2, 1) := dk_28 (dk_at dksX3_book_8 3 rfl rfl)
theorem dX3_book_191 : decode cX3_book 191 = .ok (.aload_n 0, 1) := dk_42 (dk_at dksX3_book_8 4 rfl rfl)
theorem dX3_book_192 : decode cX3_book 192 = .ok (.getfield 23, 3) := dk_180 0 23 (dk_at dksX3_book_8 5 rfl rfl)
theorem dX3_book_195 : decode cX3_book 195 = .ok (.iload_n 2, 1) := dk_28 (dk_at dksX3_book_8 8 rfl rfl)
theorem dX3_book_196 : decode cX3_book 196 = .ok (.iaload, 1) := dk_46 (dk_at dksX3_book_8 9 rfl rfl)
theorem dX3_book_197 : decode cX3_book 197 = .ok (.iastore, 1) := dk_79 (dk_at dksX3_book_8 10 rfl rfl)
theorem dX3_book_198 : decode cX3_book 198 = .ok (.iinc 2 1, 3) := dk_132 2 1 (dk_at dksX3_book_8 11 rfl rfl)
theorem dX3_book_201 : decode cX3_book 201 = .ok (.goto (-22), 3) := dk_167 255 234 (dk_at dksX3_book_8 14 rfl rfl)
theorem dX3_book_204 : decode cX3_book 204 = .ok (.aload_n 0, 1) := dk_42 (dk_at dksX3_book_8 17 rfl rfl)
theorem dX3_book_205 : decode cX3_book 205 = .ok (.iconst 1, 1) := dk_4 (dk_at dksX3_book_8 18 rfl rfl)
theorem dX3_book_206 : decode cX3_book 206 = .ok (.putfield 183, 3) := dk_181 0 183 (dk_at dksX3_book_8 19 rfl rfl)
theorem dX3_book_209 : decode cX3_book 209 = .ok (.aload_n 0, 1) := dk_42 (dk_at dksX3_book_8 22 rfl rfl)
theorem dX3_book_210 : decode cX3_book 210 = .ok (.invokevirtual 186, 3) := dk_182 0 186 (dk_at dksX3_book_9 0 rfl rfl)
theorem dX3_book_213 : decode cX3_book 213 = .ok (.aload_n 0, 1) := dk_42 (dk_at dksX3_book_9 3 rfl rfl)
theorem dX3_book_214 : decode cX3_book 214 = .ok (.iconst 0, 1) := dk_3 (dk_at dksX3_book_9 4 rfl rfl)
theorem dX3_book_215 : decode cX3_book 215 = .ok (.putfield 189, 3) := dk_181 0 189 (dk_at dksX3_book_9 5 rfl rfl)
theorem dX3_book_218 : decode cX3_book 218 = .ok (.aload_n 0, 1) := dk_42 (dk_at dksX3_book_9 8 rfl rfl)
theorem dX3_book_219 : decode cX3_book 219 = .ok (.iconst 0, 1) := dk_3 (dk_at dksX3_book_9 9 rfl rfl)
theorem dX3_book_220 : decode cX3_book 220 = .ok (.putfield 192, 3) := dk_181 0 192 (dk_at dksX3_book_9 10 rfl rfl)
theorem dX3_book_223 : decode cX3_book 223 = .ok (.aload_n 0, 1) := dk_42 (dk_at dksX3_book_9 13 rfl rfl)
theorem dX3_book_224 : decode cX3_book 224 = .ok (.iconst 0, 1) := dk_3 (dk_at dksX3_book_9 14 rfl rfl)
theorem dX3_book_225 : decode cX3_book 225 = .ok (.putfield 195, 3) := dk_181 0 195 (dk_at dksX3_book_9 15 rfl rfl)
theorem dX3_book_228 : decode cX3_book 228 = .ok (.aload_n 0, 1) := dk_42 (dk_at dksX3_book_9 18 rfl rfl)
theorem dX3_book_229 : decode cX3_book 229 = .ok (.getfield 20, 3) := dk_180 0 20 (dk_at dksX3_book_9 19 rfl rfl)
theorem dX3_book_232 : decode cX3_book 232 = .ok (.bipush 50, 2) := dk_16 50 (dk_at dksX3_book_9 22 rfl rfl)
theorem dX3_book_234 : decode cX3_book 234 = .ok (.iaload, 1) := dk_46 (dk_at dksX3_book_10 0 rfl rfl)
theorem dX3_book_235 : decode cX3_book 235 = .ok (.ireturn, 1) := dk_172 (dk_at dksX3_book_10 1 rfl rfl)
abbrev cX3_good : ByteArray := prog_18_method_3_code
def yX3_good : MethodName := ⟨RX3, "good", "()V"⟩
def dkwX3_good_0 : List UInt8 := [42, 3, 181, 0, 69, 42, 3, 181, 0, 72, 177]
abbrev dktX3_good_0 : List UInt8 := dkwX3_good_0 ++ []
theorem dksX3_good_0 : cX3_good.data.toList.drop 0 = dktX3_good_0 := by decide +kernel
theorem dX3_good_0 : decode cX3_good 0 = .ok (.aload_n 0, 1) := dk_42 (dk_at dksX3_good_0 0 rfl rfl)
theorem dX3_good_1 : decode cX3_good 1 = .ok (.iconst 0, 1) := dk_3 (dk_at dksX3_good_0 1 rfl rfl)
theorem dX3_good_2 : decode cX3_good 2 = .ok (.putfield 69, 3) := dk_181 0 69 (dk_at dksX3_good_0 2 rfl rfl)
theorem dX3_good_5 : decode cX3_good 5 = .ok (.aload_n 0, 1) := dk_42 (dk_at dksX3_good_0 5 rfl rfl)
theorem dX3_good_6 : decode cX3_good 6 = .ok (.iconst 0, 1) := dk_3 (dk_at dksX3_good_0 6 rfl rfl)
theorem dX3_good_7 : decode cX3_good 7 = .ok (.putfield 72, 3) := dk_181 0 72 (dk_at dksX3_good_0 7 rfl rfl)
theorem dX3_good_10 : decode cX3_good 10 = .ok (.return_, 1) := dk_177 (dk_at dksX3_good_0 10 rfl rfl)
abbrev cX3_within : ByteArray := prog_18_method_7_code
def yX3_within : MethodName := ⟨RX3, "within", "(III)Z"⟩
def dkwX3_within_0 : List UInt8 := [26, 27, 161, 0, 12, 26, 28, 163, 0, 7, 4, 167, 0, 4, 3, 172]
abbrev dktX3_within_0 : List UInt8 := dkwX3_within_0 ++ []
theorem dksX3_within_0 : cX3_within.data.toList.drop 0 = dktX3_within_0 := by decide +kernel
theorem dX3_within_0 : decode cX3_within 0 = .ok (.iload_n 0, 1) := dk_26 (dk_at dksX3_within_0 0 rfl rfl)
theorem dX3_within_1 : decode cX3_within 1 = .ok (.iload_n 1, 1) := dk_27 (dk_at dksX3_within_0 1 rfl rfl)
theorem dX3_within_2 : decode cX3_within 2 = .ok (.if_icmp .lt 12, 3) := dk_161 0 12 (dk_at dksX3_within_0 2 rfl rfl)
theorem dX3_within_5 : decode cX3_within 5 = .ok (.iload_n 0, 1) := dk_26 (dk_at dksX3_within_0 5 rfl rfl)
theorem dX3_within_6 : decode cX3_within 6 = .ok (.iload_n 2, 1) := dk_28 (dk_at dksX3_within_0 6 rfl rfl)
theorem dX3_within_7 : decode cX3_within 7 = .ok (.if_icmp .gt 7, 3) := dk_163 0 7 (dk_at dksX3_within_0 7 rfl rfl)
theorem dX3_within_10 : decode cX3_within 10 = .ok (.iconst 1, 1) := dk_4 (dk_at dksX3_within_0 10 rfl rfl)
theorem dX3_within_11 : decode cX3_within 11 = .ok (.goto 4, 3) := dk_167 0 4 (dk_at dksX3_within_0 11 rfl rfl)
theorem dX3_within_14 : decode cX3_within 14 = .ok (.iconst 0, 1) := dk_3 (dk_at dksX3_within_0 14 rfl rfl)
theorem dX3_within_15 : decode cX3_within 15 = .ok (.ireturn, 1) := dk_172 (dk_at dksX3_within_0 15 rfl rfl)
abbrev cX3_no : ByteArray := prog_18_method_4_code
def yX3_no : MethodName := ⟨RX3, "no", "(I)I"⟩
def dkwX3_no_0 : List UInt8 := [42, 27, 181, 0, 72, 2, 172]
abbrev dktX3_no_0 : List UInt8 := dkwX3_no_0 ++ []
theorem dksX3_no_0 : cX3_no.data.toList.drop 0 = dktX3_no_0 := by decide +kernel
theorem dX3_no_0 : decode cX3_no 0 = .ok (.aload_n 0, 1) := dk_42 (dk_at dksX3_no_0 0 rfl rfl)
theorem dX3_no_1 : decode cX3_no 1 = .ok (.iload_n 1, 1) := dk_27 (dk_at dksX3_no_0 1 rfl rfl)
theorem dX3_no_2 : decode cX3_no 2 = .ok (.putfield 72, 3) := dk_181 0 72 (dk_at dksX3_no_0 2 rfl rfl)
theorem dX3_no_5 : decode cX3_no 5 = .ok (.iconst (-1), 1) := dk_2 (dk_at dksX3_no_0 5 rfl rfl)
theorem dX3_no_6 : decode cX3_no 6 = .ok (.ireturn, 1) := dk_172 (dk_at dksX3_no_0 6 rfl rfl)
abbrev cX3_next : ByteArray := prog_18_method_14_code
def yX3_next : MethodName := ⟨RX3, "next", "()V"⟩
def dkwX3_next_10 : List UInt8 := [159, 0, 15, 28, 16, 44, 159, 0, 9, 28, 16, 45, 160, 0, 7, 28, 167, 0, 4, 4, 181, 0, 97, 177]
abbrev dktX3_next_10 : List UInt8 := dkwX3_next_10 ++ []
def dkwX3_next_9 : List UInt8 := [4, 167, 0, 4, 6, 181, 0, 97, 167, 0, 37, 42, 27, 4, 96, 181, 0, 81, 42, 28, 16, 59]
abbrev dktX3_next_9 : List UInt8 := dkwX3_next_9 ++ dktX3_next_10
def dkwX3_next_8 : List UInt8 := [100, 181, 0, 94, 132, 3, 1, 132, 1, 1, 167, 255, 214, 42, 27, 181, 0, 81, 42, 29, 6, 164, 0, 7]
abbrev dktX3_next_8 : List UInt8 := dkwX3_next_8 ++ dktX3_next_9
def dkwX3_next_7 : List UInt8 := [153, 0, 37, 29, 6, 162, 0, 23, 42, 16, 10, 42, 180, 0, 94, 104, 42, 27, 182, 0, 84, 96, 16, 48]
abbrev dktX3_next_7 : List UInt8 := dkwX3_next_7 ++ dktX3_next_8
def dkwX3_next_6 : List UInt8 := [181, 0, 97, 167, 0, 113, 28, 184, 0, 104, 153, 0, 72, 3, 62, 42, 27, 182, 0, 84, 184, 0, 104]
abbrev dktX3_next_6 : List UInt8 := dkwX3_next_6 ++ dktX3_next_7
def dkwX3_next_5 : List UInt8 := [167, 255, 209, 42, 27, 181, 0, 81, 42, 42, 180, 0, 91, 16, 8, 164, 0, 7, 4, 167, 0, 4, 5]
abbrev dktX3_next_5 : List UInt8 := dkwX3_next_5 ++ dktX3_next_6
def dkwX3_next_4 : List UInt8 := [180, 0, 91, 42, 27, 182, 0, 84, 79, 42, 89, 180, 0, 91, 4, 96, 181, 0, 91, 132, 1, 1]
abbrev dktX3_next_4 : List UInt8 := dkwX3_next_4 ++ dktX3_next_5
def dkwX3_next_3 : List UInt8 := [182, 0, 84, 184, 0, 100, 153, 0, 42, 42, 180, 0, 91, 16, 8, 162, 0, 17, 42, 180, 0, 17, 42]
abbrev dktX3_next_3 : List UInt8 := dkwX3_next_3 ++ dktX3_next_4
def dkwX3_next_2 : List UInt8 := [42, 3, 181, 0, 97, 42, 27, 181, 0, 81, 167, 0, 196, 28, 184, 0, 100, 153, 0, 79, 42, 27]
abbrev dktX3_next_2 : List UInt8 := dkwX3_next_2 ++ dktX3_next_3
def dkwX3_next_1 : List UInt8 := [181, 0, 88, 42, 27, 182, 0, 84, 61, 42, 3, 181, 0, 91, 42, 3, 181, 0, 94, 28, 2, 160, 0, 16]
abbrev dktX3_next_1 : List UInt8 := dkwX3_next_1 ++ dktX3_next_2
def dkwX3_next_0 : List UInt8 := [42, 180, 0, 81, 60, 42, 27, 182, 0, 84, 16, 32, 160, 0, 9, 132, 1, 1, 167, 255, 243, 42, 27]
abbrev dktX3_next_0 : List UInt8 := dkwX3_next_0 ++ dktX3_next_1
theorem dksX3_next_0 : cX3_next.data.toList.drop 0 = dktX3_next_0 := by decide +kernel
theorem dksX3_next_1 : cX3_next.data.toList.drop 23 = dktX3_next_1 := dk_seg dksX3_next_0 23 rfl rfl
theorem dksX3_next_2 : cX3_next.data.toList.drop 47 = dktX3_next_2 := dk_seg dksX3_next_1 24 rfl rfl
theorem dksX3_next_3 : cX3_next.data.toList.drop 69 = dktX3_next_3 := dk_seg dksX3_next_2 22 rfl rfl
theorem dksX3_next_4 : cX3_next.data.toList.drop 92 = dktX3_next_4 := dk_seg dksX3_next_3 23 rfl rfl
theorem dksX3_next_5 : cX3_next.data.toList.drop 114 = dktX3_next_5 := dk_seg dksX3_next_4 22 rfl rfl
theorem dksX3_next_6 : cX3_next.data.toList.drop 137 = dktX3_next_6 := dk_seg dksX3_next_5 23 rfl rfl
theorem dksX3_next_7 : cX3_next.data.toList.drop 160 = dktX3_next_7 := dk_seg dksX3_next_6 23 rfl rfl
theorem dksX3_next_8 : cX3_next.data.toList.drop 184 = dktX3_next_8 := dk_seg dksX3_next_7 24 rfl rfl
theorem dksX3_next_9 : cX3_next.data.toList.drop 208 = dktX3_next_9 := dk_seg dksX3_next_8 24 rfl rfl
theorem dksX3_next_10 : cX3_next.data.toList.drop 230 = dktX3_next_10 := dk_seg dksX3_next_9 22 rfl rfl
theorem dX3_next_0 : decode cX3_next 0 = .ok (.aload_n 0, 1) := dk_42 (dk_at dksX3_next_0 0 rfl rfl)
theorem dX3_next_1 : decode cX3_next 1 = .ok (.getfield 81, 3) := dk_180 0 81 (dk_at dksX3_next_0 1 rfl rfl)
theorem dX3_next_4 : decode cX3_next 4 = .ok (.istore_n 1, 1) := dk_60 (dk_at dksX3_next_0 4 rfl rfl)
theorem dX3_next_5 : decode cX3_next 5 = .ok (.aload_n 0, 1) := dk_42 (dk_at dksX3_next_0 5 rfl rfl)
theorem dX3_next_6 : decode cX3_next 6 = .ok (.iload_n 1, 1) := dk_27 (dk_at dksX3_next_0 6 rfl rfl)
theorem dX3_next_7 : decode cX3_next 7 = .ok (.invokevirtual 84, 3) := dk_182 0 84 (dk_at dksX3_next_0 7 rfl rfl)
theorem dX3_next_10 : decode cX3_next 10 = .ok (.bipush 32, 2) := dk_16 32 (dk_at dksX3_next_0 10 rfl rfl)
theorem dX3_next_12 : decode cX3_next 12 = .ok (.if_icmp .ne 9, 3) := dk_160 0 9 (dk_at dksX3_next_0 12 rfl rfl)
theorem dX3_next_15 : decode cX3_next 15 = .ok (.iinc 1 1, 3) := dk_132 1 1 (dk_at dksX3_next_0 15 rfl rfl)
theorem dX3_next_18 : decode cX3_next 18 = .ok (.goto (-13), 3) := dk_167 255 243 (dk_at dksX3_next_0 18 rfl rfl)
theorem dX3_next_21 : decode cX3_next 21 = .ok (.aload_n 0, 1) := dk_42 (dk_at dksX3_next_0 21 rfl rfl)
theorem dX3_next_22 : decode cX3_next 22 = .ok (.iload_n 1, 1) := dk_27 (dk_at dksX3_next_0 22 rfl rfl)
theorem dX3_next_23 : decode cX3_next 23 = .ok (.putfield 88, 3) := dk_181 0 88 (dk_at dksX3_next_1 0 rfl rfl)
theorem dX3_next_26 : decode cX3_next 26 = .ok (.aload_n 0, 1) := dk_42 (dk_at dksX3_next_1 3 rfl rfl)
theorem dX3_next_27 : decode cX3_next 27 = .ok (.iload_n 1, 1) := dk_27 (dk_at dksX3_next_1 4 rfl rfl)
theorem dX3_next_28 : decode cX3_next 28 = .ok (.invokevirtual 84, 3) := dk_182 0 84 (dk_at dksX3_next_1 5 rfl rfl)
theorem dX3_next_31 : decode cX3_next 31 = .ok (.istore_n 2, 1) := dk_61 (dk_at dksX3_next_1 8 rfl rfl)
theorem dX3_next_32 : decode cX3_next 32 = .ok (.aload_n 0, 1) := dk_42 (dk_at dksX3_next_1 9 rfl rfl)
theorem dX3_next_33 : decode cX3_next 33 = .ok (.iconst 0, 1) := dk_3 (dk_at dksX3_next_1 10 rfl rfl)
theorem dX3_next_34 : decode cX3_next 34 = .ok (.putfield 91, 3) := dk_181 0 91 (dk_at dksX3_next_1 11 rfl rfl)
theorem dX3_next_37 : decode cX3_next 37 = .ok (.aload_n 0, 1) := dk_42 (dk_at dksX3_next_1 14 rfl rfl)
theorem dX3_next_38 : decode cX3_next 38 = .ok (.iconst 0, 1) := dk_3 (dk_at dksX3_next_1 15 rfl rfl)
theorem dX3_next_39 : decode cX3_next 39 = .ok (.putfield 94, 3) := dk_181 0 94 (dk_at dksX3_next_1 16 rfl rfl)
theorem dX3_next_42 : decode cX3_next 42 = .ok (.iload_n 2, 1) := dk_28 (dk_at dksX3_next_1 19 rfl rfl)
theorem dX3_next_43 : decode cX3_next 43 = .ok (.iconst (-1), 1) := dk_2 (dk_at dksX3_next_1 20 rfl rfl)
theorem dX3_next_44 : decode cX3_next 44 = .ok (.if_icmp .ne 16, 3) := dk_160 0 16 (dk_at dksX3_next_1 21 rfl rfl)
theorem dX3_next_47 : decode cX3_next 47 = .ok (.aload_n 0, 1) := dk_42 (dk_at dksX3_next_2 0 rfl rfl)
theorem dX3_next_48 : decode cX3_next 48 = .ok (.iconst 0, 1) := dk_3 (dk_at dksX3_next_2 1 rfl rfl)
theorem dX3_next_49 : decode cX3_next 49 = .ok (.putfield 97, 3) := dk_181 0 97 (dk_at dksX3_next_2 2 rfl rfl)
theorem dX3_next_52 : decode cX3_next 52 = .ok (.aload_n 0, 1) := dk_42 (dk_at dksX3_next_2 5 rfl rfl)
theorem dX3_next_53 : decode cX3_next 53 = .ok (.iload_n 1, 1) := dk_27 (dk_at dksX3_next_2 6 rfl rfl)
theorem dX3_next_54 : decode cX3_next 54 = .ok (.putfield 81, 3) := dk_181 0 81 (dk_at dksX3_next_2 7 rfl rfl)
theorem dX3_next_57 : decode cX3_next 57 = .ok (.goto 196, 3) := dk_167 0 196 (dk_at dksX3_next_2 10 rfl rfl)
theorem dX3_next_60 : decode cX3_next 60 = .ok (.iload_n 2, 1) := dk_28 (dk_at dksX3_next_2 13 rfl rfl)
theorem dX3_next_61 : decode cX3_next 61 = .ok (.invokestatic 100, 3) := dk_184 0 100 (dk_at dksX3_next_2 14 rfl rfl)
theorem dX3_next_64 : decode cX3_next 64 = .ok (.ifCond .eq 79, 3) := dk_153 0 79 (dk_at dksX3_next_2 17 rfl rfl)
theorem dX3_next_67 : decode cX3_next 67 = .ok (.aload_n 0, 1) := dk_42 (dk_at dksX3_next_2 20 rfl rfl)
theorem dX3_next_68 : decode cX3_next 68 = .ok (.iload_n 1, 1) := dk_27 (dk_at dksX3_next_2 21 rfl rfl)
theorem dX3_next_69 : decode cX3_next 69 = .ok (.invokevirtual 84, 3) := dk_182 0 84 (dk_at dksX3_next_3 0 rfl rfl)
theorem dX3_next_72 : decode cX3_next 72 = .ok (.invokestatic 100, 3) := dk_184 0 100 (dk_at dksX3_next_3 3 rfl rfl)
theorem dX3_next_75 : decode cX3_next 75 = .ok (.ifCond .eq 42, 3) := dk_153 0 42 (dk_at dksX3_next_3 6 rfl rfl)
theorem dX3_next_78 : decode cX3_next 78 = .ok (.aload_n 0, 1) := dk_42 (dk_at dksX3_next_3 9 rfl rfl)
theorem dX3_next_79 : decode cX3_next 79 = .ok (.getfield 91, 3) := dk_180 0 91 (dk_at dksX3_next_3 10 rfl rfl)
theorem dX3_next_82 : decode cX3_next 82 = .ok (.bipush 8, 2) := dk_16 8 (dk_at dksX3_next_3 13 rfl rfl)
theorem dX3_next_84 : decode cX3_next 84 = .ok (.if_icmp .ge 17, 3) := dk_162 0 17 (dk_at dksX3_next_3 15 rfl rfl)
theorem dX3_next_87 : decode cX3_next 87 = .ok (.aload_n 0, 1) := dk_42 (dk_at dksX3_next_3 18 rfl rfl)
theorem dX3_next_88 : decode cX3_next 88 = .ok (.getfield 17, 3) := dk_180 0 17 (dk_at dksX3_next_3 19 rfl rfl)
theorem dX3_next_91 : decode cX3_next 91 = .ok (.aload_n 0, 1) := dk_42 (dk_at dksX3_next_3 22 rfl rfl)
theorem dX3_next_92 : decode cX3_next 92 = .ok (.getfield 91, 3) := dk_180 0 91 (dk_at dksX3_next_4 0 rfl rfl)
theorem dX3_next_95 : decode cX3_next 95 = .ok (.aload_n 0, 1) := dk_42 (dk_at dksX3_next_4 3 rfl rfl)
theorem dX3_next_96 : decode cX3_next 96 = .ok (.iload_n 1, 1) := dk_27 (dk_at dksX3_next_4 4 rfl rfl)
theorem dX3_next_97 : decode cX3_next 97 = .ok (.invokevirtual 84, 3) := dk_182 0 84 (dk_at dksX3_next_4 5 rfl rfl)
theorem dX3_next_100 : decode cX3_next 100 = .ok (.iastore, 1) := dk_79 (dk_at dksX3_next_4 8 rfl rfl)
theorem dX3_next_101 : decode cX3_next 101 = .ok (.aload_n 0, 1) := dk_42 (dk_at dksX3_next_4 9 rfl rfl)
theorem dX3_next_102 : decode cX3_next 102 = .ok (.dup, 1) := dk_89 (dk_at dksX3_next_4 10 rfl rfl)
theorem dX3_next_103 : decode cX3_next 103 = .ok (.getfield 91, 3) := dk_180 0 91 (dk_at dksX3_next_4 11 rfl rfl)
theorem dX3_next_106 : decode cX3_next 106 = .ok (.iconst 1, 1) := dk_4 (dk_at dksX3_next_4 14 rfl rfl)
theorem dX3_next_107 : decode cX3_next 107 = .ok (.iadd, 1) := dk_96 (dk_at dksX3_next_4 15 rfl rfl)
theorem dX3_next_108 : decode cX3_next 108 = .ok (.putfield 91, 3) := dk_181 0 91 (dk_at dksX3_next_4 16 rfl rfl)
theorem dX3_next_111 : decode cX3_next 111 = .ok (.iinc 1 1, 3) := dk_132 1 1 (dk_at dksX3_next_4 19 rfl rfl)
theorem dX3_next_114 : decode cX3_next 114 = .ok (.goto (-47), 3) := dk_167 255 209 (dk_at dksX3_next_5 0 rfl rfl)
theorem dX3_next_117 : decode cX3_next 117 = .ok (.aload_n 0, 1) := dk_42 (dk_at dksX3_next_5 3 rfl rfl)
theorem dX3_next_118 : decode cX3_next 118 = .ok (.iload_n 1, 1) := dk_27 (dk_at dksX3_next_5 4 rfl rfl)
theorem dX3_next_119 : decode cX3_next 119 = .ok (.putfield 81, 3) := dk_181 0 81 (dk_at dksX3_next_5 5 rfl rfl)
theorem dX3_next_122 : decode cX3_next 122 = .ok (.aload_n 0, 1) := dk_42 (dk_at dksX3_next_5 8 rfl rfl)
theorem dX3_next_123 : decode cX3_next 123 = .ok (.aload_n 0, 1) := dk_42 (dk_at dksX3_next_5 9 rfl rfl)
theorem dX3_next_124 : decode cX3_next 124 = .ok (.getfield 91, 3) := dk_180 0 91 (dk_at dksX3_next_5 10 rfl rfl)
theorem dX3_next_127 : decode cX3_next 127 = .ok (.bipush 8, 2) := dk_16 8 (dk_at dksX3_next_5 13 rfl rfl)
theorem dX3_next_129 : decode cX3_next 129 = .ok (.if_icmp .le 7, 3) := dk_164 0 7 (dk_at dksX3_next_5 15 rfl rfl)
theorem dX3_next_132 : decode cX3_next 132 = .ok (.iconst 1, 1) := dk_4 (dk_at dksX3_next_5 18 rfl rfl)
theorem dX3_next_133 : decode cX3_next 133 = .ok (.goto 4, 3) := dk_167 0 4 (dk_at dksX3_next_5 19 rfl rfl)
theorem dX3_next_136 : decode cX3_next 136 = .ok (.iconst 2, 1) := dk_5 (dk_at dksX3_next_5 22 rfl rfl)
theorem dX3_next_137 : decode cX3_next 137 = .ok (.putfield 97, 3) := dk_181 0 97 (dk_at dksX3_next_6 0 rfl rfl)
theorem dX3_next_140 : decode cX3_next 140 = .ok (.goto 113, 3) := dk_167 0 113 (dk_at dksX3_next_6 3 rfl rfl)
theorem dX3_next_143 : decode cX3_next 143 = .ok (.iload_n 2, 1) := dk_28 (dk_at dksX3_next_6 6 rfl rfl)
theorem dX3_next_144 : decode cX3_next 144 = .ok (.invokestatic 104, 3) := dk_184 0 104 (dk_at dksX3_next_6 7 rfl rfl)
theorem dX3_next_147 : decode cX3_next 147 = .ok (.ifCond .eq 72, 3) := dk_153 0 72 (dk_at dksX3_next_6 10 rfl rfl)
theorem dX3_next_150 : decode cX3_next 150 = .ok (.iconst 0, 1) := dk_3 (dk_at dksX3_next_6 13 rfl rfl)
theorem dX3_next_151 : decode cX3_next 151 = .ok (.istore_n 3, 1) := dk_62 (dk_at dksX3_next_6 14 rfl rfl)
theorem dX3_next_152 : decode cX3_next 152 = .ok (.aload_n 0, 1) := dk_42 (dk_at dksX3_next_6 15 rfl rfl)
theorem dX3_next_153 : decode cX3_next 153 = .ok (.iload_n 1, 1) := dk_27 (dk_at dksX3_next_6 16 rfl rfl)
theorem dX3_next_154 : decode cX3_next 154 = .ok (.invokevirtual 84, 3) := dk_182 0 84 (dk_at dksX3_next_6 17 rfl rfl)
theorem dX3_next_157 : decode cX3_next 157 = .ok (.invokestatic 104, 3) := dk_184 0 104 (dk_at dksX3_next_6 20 rfl rfl)
theorem dX3_next_160 : decode cX3_next 160 = .ok (.ifCond .eq 37, 3) := dk_153 0 37 (dk_at dksX3_next_7 0 rfl rfl)
theorem dX3_next_163 : decode cX3_next 163 = .ok (.iload_n 3, 1) := dk_29 (dk_at dksX3_next_7 3 rfl rfl)
theorem dX3_next_164 : decode cX3_next 164 = .ok (.iconst 3, 1) := dk_6 (dk_at dksX3_next_7 4 rfl rfl)
theorem dX3_next_165 : decode cX3_next 165 = .ok (.if_icmp .ge 23, 3) := dk_162 0 23 (dk_at dksX3_next_7 5 rfl rfl)
theorem dX3_next_168 : decode cX3_next 168 = .ok (.aload_n 0, 1) := dk_42 (dk_at dksX3_next_7 8 rfl rfl)
theorem dX3_next_169 : decode cX3_next 169 = .ok (.bipush 10, 2) := dk_16 10 (dk_at dksX3_next_7 9 rfl rfl)
theorem dX3_next_171 : decode cX3_next 171 = .ok (.aload_n 0, 1) := dk_42 (dk_at dksX3_next_7 11 rfl rfl)
theorem dX3_next_172 : decode cX3_next 172 = .ok (.getfield 94, 3) := dk_180 0 94 (dk_at dksX3_next_7 12 rfl rfl)
theorem dX3_next_175 : decode cX3_next 175 = .ok (.imul, 1) := dk_104 (dk_at dksX3_next_7 15 rfl rfl)
theorem dX3_next_176 : decode cX3_next 176 = .ok (.aload_n 0, 1) := dk_42 (dk_at dksX3_next_7 16 rfl rfl)
theorem dX3_next_177 : decode cX3_next 177 = .ok (.iload_n 1, 1) := dk_27 (dk_at dksX3_next_7 17 rfl rfl)
theorem dX3_next_178 : decode cX3_next 178 = .ok (.invokevirtual 84, 3) := dk_182 0 84 (dk_at dksX3_next_7 18 rfl rfl)
theorem dX3_next_181 : decode cX3_next 181 = .ok (.iadd, 1) := dk_96 (dk_at dksX3_next_7 21 rfl rfl)
theorem dX3_next_182 : decode cX3_next 182 = .ok (.bipush 48, 2) := dk_16 48 (dk_at dksX3_next_7 22 rfl rfl)
theorem dX3_next_184 : decode cX3_next 184 = .ok (.isub, 1) := dk_100 (dk_at dksX3_next_8 0 rfl rfl)
theorem dX3_next_185 : decode cX3_next 185 = .ok (.putfield 94, 3) := dk_181 0 94 (dk_at dksX3_next_8 1 rfl rfl)
theorem dX3_next_188 : decode cX3_next 188 = .ok (.iinc 3 1, 3) := dk_132 3 1 (dk_at dksX3_next_8 4 rfl rfl)
theorem dX3_next_191 : decode cX3_next 191 = .ok (.iinc 1 1, 3) := dk_132 1 1 (dk_at dksX3_next_8 7 rfl rfl)
theorem dX3_next_194 : decode cX3_next 194 = .ok (.goto (-42), 3) := dk_167 255 214 (dk_at dksX3_next_8 10 rfl rfl)
theorem dX3_next_197 : decode cX3_next 197 = .ok (.aload_n 0, 1) := dk_42 (dk_at dksX3_next_8 13 rfl rfl)
theorem dX3_next_198 : decode cX3_next 198 = .ok (.iload_n 1, 1) := dk_27 (dk_at dksX3_next_8 14 rfl rfl)
theorem dX3_next_199 : decode cX3_next 199 = .ok (.putfield 81, 3) := dk_181 0 81 (dk_at dksX3_next_8 15 rfl rfl)
theorem dX3_next_202 : decode cX3_next 202 = .ok (.aload_n 0, 1) := dk_42 (dk_at dksX3_next_8 18 rfl rfl)
theorem dX3_next_203 : decode cX3_next 203 = .ok (.iload_n 3, 1) := dk_29 (dk_at dksX3_next_8 19 rfl rfl)
theorem dX3_next_204 : decode cX3_next 204 = .ok (.iconst 3, 1) := dk_6 (dk_at dksX3_next_8 20 rfl rfl)
theorem dX3_next_205 : decode cX3_next 205 = .ok (.if_icmp .le 7, 3) := dk_164 0 7 (dk_at dksX3_next_8 21 rfl rfl)
theorem dX3_next_208 : decode cX3_next 208 = .ok (.iconst 1, 1) := dk_4 (dk_at dksX3_next_9 0 rfl rfl)
theorem dX3_next_209 : decode cX3_next 209 = .ok (.goto 4, 3) := dk_167 0 4 (dk_at dksX3_next_9 1 rfl rfl)
theorem dX3_next_212 : decode cX3_next 212 = .ok (.iconst 3, 1) := dk_6 (dk_at dksX3_next_9 4 rfl rfl)
theorem dX3_next_213 : decode cX3_next 213 = .ok (.putfield 97, 3) := dk_181 0 97 (dk_at dksX3_next_9 5 rfl rfl)
theorem dX3_next_216 : decode cX3_next 216 = .ok (.goto 37, 3) := dk_167 0 37 (dk_at dksX3_next_9 8 rfl rfl)
theorem dX3_next_219 : decode cX3_next 219 = .ok (.aload_n 0, 1) := dk_42 (dk_at dksX3_next_9 11 rfl rfl)
theorem dX3_next_220 : decode cX3_next 220 = .ok (.iload_n 1, 1) := dk_27 (dk_at dksX3_next_9 12 rfl rfl)
theorem dX3_next_221 : decode cX3_next 221 = .ok (.iconst 1, 1) := dk_4 (dk_at dksX3_next_9 13 rfl rfl)
theorem dX3_next_222 : decode cX3_next 222 = .ok (.iadd, 1) := dk_96 (dk_at dksX3_next_9 14 rfl rfl)
theorem dX3_next_223 : decode cX3_next 223 = .ok (.putfield 81, 3) := dk_181 0 81 (dk_at dksX3_next_9 15 rfl rfl)
theorem dX3_next_226 : decode cX3_next 226 = .ok (.aload_n 0, 1) := dk_42 (dk_at dksX3_next_9 18 rfl rfl)
theorem dX3_next_227 : decode cX3_next 227 = .ok (.iload_n 2, 1) := dk_28 (dk_at dksX3_next_9 19 rfl rfl)
theorem dX3_next_228 : decode cX3_next 228 = .ok (.bipush 59, 2) := dk_16 59 (dk_at dksX3_next_9 20 rfl rfl)
theorem dX3_next_230 : decode cX3_next 230 = .ok (.if_icmp .eq 15, 3) := dk_159 0 15 (dk_at dksX3_next_10 0 rfl rfl)
theorem dX3_next_233 : decode cX3_next 233 = .ok (.iload_n 2, 1) := dk_28 (dk_at dksX3_next_10 3 rfl rfl)
theorem dX3_next_234 : decode cX3_next 234 = .ok (.bipush 44, 2) := dk_16 44 (dk_at dksX3_next_10 4 rfl rfl)
theorem dX3_next_236 : decode cX3_next 236 = .ok (.if_icmp .eq 9, 3) := dk_159 0 9 (dk_at dksX3_next_10 6 rfl rfl)
theorem dX3_next_239 : decode cX3_next 239 = .ok (.iload_n 2, 1) := dk_28 (dk_at dksX3_next_10 9 rfl rfl)
theorem dX3_next_240 : decode cX3_next 240 = .ok (.bipush 45, 2) := dk_16 45 (dk_at dksX3_next_10 10 rfl rfl)
theorem dX3_next_242 : decode cX3_next 242 = .ok (.if_icmp .ne 7, 3) := dk_160 0 7 (dk_at dksX3_next_10 12 rfl rfl)
theorem dX3_next_245 : decode cX3_next 245 = .ok (.iload_n 2, 1) := dk_28 (dk_at dksX3_next_10 15 rfl rfl)
theorem dX3_next_246 : decode cX3_next 246 = .ok (.goto 4, 3) := dk_167 0 4 (dk_at dksX3_next_10 16 rfl rfl)
theorem dX3_next_249 : decode cX3_next 249 = .ok (.iconst 1, 1) := dk_4 (dk_at dksX3_next_10 19 rfl rfl)
theorem dX3_next_250 : decode cX3_next 250 = .ok (.putfield 97, 3) := dk_181 0 97 (dk_at dksX3_next_10 20 rfl rfl)
theorem dX3_next_253 : decode cX3_next 253 = .ok (.return_, 1) := dk_177 (dk_at dksX3_next_10 23 rfl rfl)
abbrev cX3_see : ByteArray := prog_18_method_11_code
def yX3_see : MethodName := ⟨RX3, "see", "(I)I"⟩
def dkwX3_see_0 : List UInt8 := [27, 42, 180, 0, 78, 162, 0, 12, 42, 180, 0, 7, 27, 46, 167, 0, 4, 2, 172]
abbrev dktX3_see_0 : List UInt8 := dkwX3_see_0 ++ []
theorem dksX3_see_0 : cX3_see.data.toList.drop 0 = dktX3_see_0 := by decide +kernel
theorem dX3_see_0 : decode cX3_see 0 = .ok (.iload_n 1, 1) := dk_27 (dk_at dksX3_see_0 0 rfl rfl)
theorem dX3_see_1 : decode cX3_see 1 = .ok (.aload_n 0, 1) := dk_42 (dk_at dksX3_see_0 1 rfl rfl)
theorem dX3_see_2 : decode cX3_see 2 = .ok (.getfield 78, 3) := dk_180 0 78 (dk_at dksX3_see_0 2 rfl rfl)
theorem dX3_see_5 : decode cX3_see 5 = .ok (.if_icmp .ge 12, 3) := dk_162 0 12 (dk_at dksX3_see_0 5 rfl rfl)
theorem dX3_see_8 : decode cX3_see 8 = .ok (.aload_n 0, 1) := dk_42 (dk_at dksX3_see_0 8 rfl rfl)
theorem dX3_see_9 : decode cX3_see 9 = .ok (.getfield 7, 3) := dk_180 0 7 (dk_at dksX3_see_0 9 rfl rfl)
theorem dX3_see_12 : decode cX3_see 12 = .ok (.iload_n 1, 1) := dk_27 (dk_at dksX3_see_0 12 rfl rfl)
theorem dX3_see_13 : decode cX3_see 13 = .ok (.iaload, 1) := dk_46 (dk_at dksX3_see_0 13 rfl rfl)
theorem dX3_see_14 : decode cX3_see 14 = .ok (.goto 4, 3) := dk_167 0 4 (dk_at dksX3_see_0 14 rfl rfl)
theorem dX3_see_17 : decode cX3_see 17 = .ok (.iconst (-1), 1) := dk_2 (dk_at dksX3_see_0 17 rfl rfl)
theorem dX3_see_18 : decode cX3_see 18 = .ok (.ireturn, 1) := dk_172 (dk_at dksX3_see_0 18 rfl rfl)
abbrev cX3_isSmall : ByteArray := prog_18_method_12_code
def yX3_isSmall : MethodName := ⟨RX3, "isSmall", "(I)Z"⟩
def dkwX3_isSmall_0 : List UInt8 := [26, 16, 97, 161, 0, 13, 26, 16, 122, 163, 0, 7, 4, 167, 0, 4, 3, 172]
abbrev dktX3_isSmall_0 : List UInt8 := dkwX3_isSmall_0 ++ []
theorem dksX3_isSmall_0 : cX3_isSmall.data.toList.drop 0 = dktX3_isSmall_0 := by decide +kernel
theorem dX3_isSmall_0 : decode cX3_isSmall 0 = .ok (.iload_n 0, 1) := dk_26 (dk_at dksX3_isSmall_0 0 rfl rfl)
theorem dX3_isSmall_1 : decode cX3_isSmall 1 = .ok (.bipush 97, 2) := dk_16 97 (dk_at dksX3_isSmall_0 1 rfl rfl)
theorem dX3_isSmall_3 : decode cX3_isSmall 3 = .ok (.if_icmp .lt 13, 3) := dk_161 0 13 (dk_at dksX3_isSmall_0 3 rfl rfl)
theorem dX3_isSmall_6 : decode cX3_isSmall 6 = .ok (.iload_n 0, 1) := dk_26 (dk_at dksX3_isSmall_0 6 rfl rfl)
theorem dX3_isSmall_7 : decode cX3_isSmall 7 = .ok (.bipush 122, 2) := dk_16 122 (dk_at dksX3_isSmall_0 7 rfl rfl)
theorem dX3_isSmall_9 : decode cX3_isSmall 9 = .ok (.if_icmp .gt 7, 3) := dk_163 0 7 (dk_at dksX3_isSmall_0 9 rfl rfl)
theorem dX3_isSmall_12 : decode cX3_isSmall 12 = .ok (.iconst 1, 1) := dk_4 (dk_at dksX3_isSmall_0 12 rfl rfl)
theorem dX3_isSmall_13 : decode cX3_isSmall 13 = .ok (.goto 4, 3) := dk_167 0 4 (dk_at dksX3_isSmall_0 13 rfl rfl)
theorem dX3_isSmall_16 : decode cX3_isSmall 16 = .ok (.iconst 0, 1) := dk_3 (dk_at dksX3_isSmall_0 16 rfl rfl)
theorem dX3_isSmall_17 : decode cX3_isSmall 17 = .ok (.ireturn, 1) := dk_172 (dk_at dksX3_isSmall_0 17 rfl rfl)
abbrev cX3_isDigit : ByteArray := prog_18_method_13_code
def yX3_isDigit : MethodName := ⟨RX3, "isDigit", "(I)Z"⟩
def dkwX3_isDigit_0 : List UInt8 := [26, 16, 48, 161, 0, 13, 26, 16, 57, 163, 0, 7, 4, 167, 0, 4, 3, 172]
abbrev dktX3_isDigit_0 : List UInt8 := dkwX3_isDigit_0 ++ []
theorem dksX3_isDigit_0 : cX3_isDigit.data.toList.drop 0 = dktX3_isDigit_0 := by decide +kernel
theorem dX3_isDigit_0 : decode cX3_isDigit 0 = .ok (.iload_n 0, 1) := dk_26 (dk_at dksX3_isDigit_0 0 rfl rfl)
theorem dX3_isDigit_1 : decode cX3_isDigit 1 = .ok (.bipush 48, 2) := dk_16 48 (dk_at dksX3_isDigit_0 1 rfl rfl)
theorem dX3_isDigit_3 : decode cX3_isDigit 3 = .ok (.if_icmp .lt 13, 3) := dk_161 0 13 (dk_at dksX3_isDigit_0 3 rfl rfl)
theorem dX3_isDigit_6 : decode cX3_isDigit 6 = .ok (.iload_n 0, 1) := dk_26 (dk_at dksX3_isDigit_0 6 rfl rfl)
theorem dX3_isDigit_7 : decode cX3_isDigit 7 = .ok (.bipush 57, 2) := dk_16 57 (dk_at dksX3_isDigit_0 7 rfl rfl)
theorem dX3_isDigit_9 : decode cX3_isDigit 9 = .ok (.if_icmp .gt 7, 3) := dk_163 0 7 (dk_at dksX3_isDigit_0 9 rfl rfl)
theorem dX3_isDigit_12 : decode cX3_isDigit 12 = .ok (.iconst 1, 1) := dk_4 (dk_at dksX3_isDigit_0 12 rfl rfl)
theorem dX3_isDigit_13 : decode cX3_isDigit 13 = .ok (.goto 4, 3) := dk_167 0 4 (dk_at dksX3_isDigit_0 13 rfl rfl)
theorem dX3_isDigit_16 : decode cX3_isDigit 16 = .ok (.iconst 0, 1) := dk_3 (dk_at dksX3_isDigit_0 16 rfl rfl)
theorem dX3_isDigit_17 : decode cX3_isDigit 17 = .ok (.ireturn, 1) := dk_172 (dk_at dksX3_isDigit_0 17 rfl rfl)
abbrev cX3_readLine : ByteArray := prog_18_method_30_code
def yX3_readLine : MethodName := ⟨RX3, "readLine", "()V"⟩
def dkwX3_readLine_8 : List UInt8 := [153, 0, 10, 42, 182, 0, 218, 167, 0, 12, 42, 4, 42, 180, 0, 88, 182, 0, 134, 177]
abbrev dktX3_readLine_8 : List UInt8 := dkwX3_readLine_8 ++ []
def dkwX3_readLine_7 : List UInt8 := [42, 18, 150, 42, 180, 0, 23, 17, 0, 158, 46, 7, 162, 0, 7, 4, 167, 0, 4, 3, 8, 182, 0, 198]
abbrev dktX3_readLine_7 : List UInt8 := dkwX3_readLine_7 ++ dktX3_readLine_8
def dkwX3_readLine_6 : List UInt8 := [16, 18, 162, 0, 7, 4, 167, 0, 4, 3, 8, 182, 0, 198, 153, 0, 10, 42, 182, 0, 215, 167, 0, 46]
abbrev dktX3_readLine_6 : List UInt8 := dkwX3_readLine_6 ++ dktX3_readLine_7
def dkwX3_readLine_5 : List UInt8 := [182, 0, 198, 153, 0, 10, 42, 182, 0, 212, 167, 0, 80, 42, 18, 148, 42, 180, 0, 23, 16, 85, 46]
abbrev dktX3_readLine_5 : List UInt8 := dkwX3_readLine_5 ++ dktX3_readLine_6
def dkwX3_readLine_4 : List UInt8 := [167, 0, 114, 42, 18, 146, 42, 180, 0, 23, 16, 52, 46, 16, 8, 162, 0, 7, 4, 167, 0, 4, 3, 8]
abbrev dktX3_readLine_4 : List UInt8 := dkwX3_readLine_4 ++ dktX3_readLine_5
def dkwX3_readLine_3 : List UInt8 := [16, 6, 16, 9, 182, 0, 205, 167, 0, 130, 42, 18, 144, 182, 0, 124, 153, 0, 10, 42, 182, 0, 209]
abbrev dktX3_readLine_3 : List UInt8 := dkwX3_readLine_3 ++ dktX3_readLine_4
def dkwX3_readLine_2 : List UInt8 := [3, 16, 6, 182, 0, 205, 167, 0, 154, 42, 18, 142, 4, 4, 182, 0, 198, 153, 0, 16, 42, 16, 51]
abbrev dktX3_readLine_2 : List UInt8 := dkwX3_readLine_2 ++ dktX3_readLine_3
def dkwX3_readLine_1 : List UInt8 := [153, 0, 10, 42, 182, 0, 202, 167, 0, 177, 42, 18, 140, 4, 4, 182, 0, 198, 153, 0, 15, 42, 16, 50]
abbrev dktX3_readLine_1 : List UInt8 := dkwX3_readLine_1 ++ dktX3_readLine_2
def dkwX3_readLine_0 : List UInt8 := [42, 18, 138, 42, 180, 0, 23, 16, 49, 46, 154, 0, 7, 4, 167, 0, 4, 3, 6, 182, 0, 198]
abbrev dktX3_readLine_0 : List UInt8 := dkwX3_readLine_0 ++ dktX3_readLine_1
theorem dksX3_readLine_0 : cX3_readLine.data.toList.drop 0 = dktX3_readLine_0 := by decide +kernel
theorem dksX3_readLine_1 : cX3_readLine.data.toList.drop 22 = dktX3_readLine_1 := dk_seg dksX3_readLine_0 22 rfl rfl
theorem dksX3_readLine_2 : cX3_readLine.data.toList.drop 46 = dktX3_readLine_2 := dk_seg dksX3_readLine_1 24 rfl rfl
theorem dksX3_readLine_3 : cX3_readLine.data.toList.drop 69 = dktX3_readLine_3 := dk_seg dksX3_readLine_2 23 rfl rfl
theorem dksX3_readLine_4 : cX3_readLine.data.toList.drop 92 = dktX3_readLine_4 := dk_seg dksX3_readLine_3 23 rfl rfl
theorem dksX3_readLine_5 : cX3_readLine.data.toList.drop 116 = dktX3_readLine_5 := dk_seg dksX3_readLine_4 24 rfl rfl
theorem dksX3_readLine_6 : cX3_readLine.data.toList.drop 139 = dktX3_readLine_6 := dk_seg dksX3_readLine_5 23 rfl rfl
theorem dksX3_readLine_7 : cX3_readLine.data.toList.drop 163 = dktX3_readLine_7 := dk_seg dksX3_readLine_6 24 rfl rfl
theorem dksX3_readLine_8 : cX3_readLine.data.toList.drop 187 = dktX3_readLine_8 := dk_seg dksX3_readLine_7 24 rfl rfl
theorem dX3_readLine_0 : decode cX3_readLine 0 = .ok (.aload_n 0, 1) := dk_42 (dk_at dksX3_readLine_0 0 rfl rfl)
theorem dX3_readLine_1 : decode cX3_readLine 1 = .ok (.ldc 138, 2) := dk_18 138 (dk_at dksX3_readLine_0 1 rfl rfl)
theorem dX3_readLine_3 : decode cX3_readLine 3 = .ok (.aload_n 0, 1) := dk_42 (dk_at dksX3_readLine_0 3 rfl rfl)
theorem dX3_readLine_4 : decode cX3_readLine 4 = .ok (.getfield 23, 3) := dk_180 0 23 (dk_at dksX3_readLine_0 4 rfl rfl)
theorem dX3_readLine_7 : decode cX3_readLine 7 = .ok (.bipush 49, 2) := dk_16 49 (dk_at dksX3_readLine_0 7 rfl rfl)
theorem dX3_readLine_9 : decode cX3_readLine 9 = .ok (.iaload, 1) := dk_46 (dk_at dksX3_readLine_0 9 rfl rfl)
theorem dX3_readLine_10 : decode cX3_readLine 10 = .ok (.ifCond .ne 7, 3) := dk_154 0 7 (dk_at dksX3_readLine_0 10 rfl rfl)
theorem dX3_readLine_13 : decode cX3_readLine 13 = .ok (.iconst 1, 1) := dk_4 (dk_at dksX3_readLine_0 13 rfl rfl)
theorem dX3_readLine_14 : decode cX3_readLine 14 = .ok (.goto 4, 3) := dk_167 0 4 (dk_at dksX3_readLine_0 14 rfl rfl)
theorem dX3_readLine_17 : decode cX3_readLine 17 = .ok (.iconst 0, 1) := dk_3 (dk_at dksX3_readLine_0 17 rfl rfl)
theorem dX3_readLine_18 : decode cX3_readLine 18 = .ok (.iconst 3, 1) := dk_6 (dk_at dksX3_readLine_0 18 rfl rfl)
theorem dX3_readLine_19 : decode cX3_readLine 19 = .ok (.invokevirtual 198, 3) := dk_182 0 198 (dk_at dksX3_readLine_0 19 rfl rfl)
theorem dX3_readLine_22 : decode cX3_readLine 22 = .ok (.ifCond .eq 10, 3) := dk_153 0 10 (dk_at dksX3_readLine_1 0 rfl rfl)
theorem dX3_readLine_25 : decode cX3_readLine 25 = .ok (.aload_n 0, 1) := dk_42 (dk_at dksX3_readLine_1 3 rfl rfl)
theorem dX3_readLine_26 : decode cX3_readLine 26 = .ok (.invokevirtual 202, 3) := dk_182 0 202 (dk_at dksX3_readLine_1 4 rfl rfl)
theorem dX3_readLine_29 : decode cX3_readLine 29 = .ok (.goto 177, 3) := dk_167 0 177 (dk_at dksX3_readLine_1 7 rfl rfl)
theorem dX3_readLine_32 : decode cX3_readLine 32 = .ok (.aload_n 0, 1) := dk_42 (dk_at dksX3_readLine_1 10 rfl rfl)
theorem dX3_readLine_33 : decode cX3_readLine 33 = .ok (.ldc 140, 2) := dk_18 140 (dk_at dksX3_readLine_1 11 rfl rfl)
theorem dX3_readLine_35 : decode cX3_readLine 35 = .ok (.iconst 1, 1) := dk_4 (dk_at dksX3_readLine_1 13 rfl rfl)
theorem dX3_readLine_36 : decode cX3_readLine 36 = .ok (.iconst 1, 1) := dk_4 (dk_at dksX3_readLine_1 14 rfl rfl)
theorem dX3_readLine_37 : decode cX3_readLine 37 = .ok (.invokevirtual 198, 3) := dk_182 0 198 (dk_at dksX3_readLine_1 15 rfl rfl)
theorem dX3_readLine_40 : decode cX3_readLine 40 = .ok (.ifCond .eq 15, 3) := dk_153 0 15 (dk_at dksX3_readLine_1 18 rfl rfl)
theorem dX3_readLine_43 : decode cX3_readLine 43 = .ok (.aload_n 0, 1) := dk_42 (dk_at dksX3_readLine_1 21 rfl rfl)
theorem dX3_readLine_44 : decode cX3_readLine 44 = .ok (.bipush 50, 2) := dk_16 50 (dk_at dksX3_readLine_1 22 rfl rfl)
theorem dX3_readLine_46 : decode cX3_readLine 46 = .ok (.iconst 0, 1) := dk_3 (dk_at dksX3_readLine_2 0 rfl rfl)
theorem dX3_readLine_47 : decode cX3_readLine 47 = .ok (.bipush 6, 2) := dk_16 6 (dk_at dksX3_readLine_2 1 rfl rfl)
theorem dX3_readLine_49 : decode cX3_readLine 49 = .ok (.invokevirtual 205, 3) := dk_182 0 205 (dk_at dksX3_readLine_2 3 rfl rfl)
theorem dX3_readLine_52 : decode cX3_readLine 52 = .ok (.goto 154, 3) := dk_167 0 154 (dk_at dksX3_readLine_2 6 rfl rfl)
theorem dX3_readLine_55 : decode cX3_readLine 55 = .ok (.aload_n 0, 1) := dk_42 (dk_at dksX3_readLine_2 9 rfl rfl)
theorem dX3_readLine_56 : decode cX3_readLine 56 = .ok (.ldc 142, 2) := dk_18 142 (dk_at dksX3_readLine_2 10 rfl rfl)
theorem dX3_readLine_58 : decode cX3_readLine 58 = .ok (.iconst 1, 1) := dk_4 (dk_at dksX3_readLine_2 12 rfl rfl)
theorem dX3_readLine_59 : decode cX3_readLine 59 = .ok (.iconst 1, 1) := dk_4 (dk_at dksX3_readLine_2 13 rfl rfl)
theorem dX3_readLine_60 : decode cX3_readLine 60 = .ok (.invokevirtual 198, 3) := dk_182 0 198 (dk_at dksX3_readLine_2 14 rfl rfl)
theorem dX3_readLine_63 : decode cX3_readLine 63 = .ok (.ifCond .eq 16, 3) := dk_153 0 16 (dk_at dksX3_readLine_2 17 rfl rfl)
theorem dX3_readLine_66 : decode cX3_readLine 66 = .ok (.aload_n 0, 1) := dk_42 (dk_at dksX3_readLine_2 20 rfl rfl)
theorem dX3_readLine_67 : decode cX3_readLine 67 = .ok (.bipush 51, 2) := dk_16 51 (dk_at dksX3_readLine_2 21 rfl rfl)
theorem dX3_readLine_69 : decode cX3_readLine 69 = .ok (.bipush 6, 2) := dk_16 6 (dk_at dksX3_readLine_3 0 rfl rfl)
theorem dX3_readLine_71 : decode cX3_readLine 71 = .ok (.bipush 9, 2) := dk_16 9 (dk_at dksX3_readLine_3 2 rfl rfl)
theorem dX3_readLine_73 : decode cX3_readLine 73 = .ok (.invokevirtual 205, 3) := dk_182 0 205 (dk_at dksX3_readLine_3 4 rfl rfl)
theorem dX3_readLine_76 : decode cX3_readLine 76 = .ok (.goto 130, 3) := dk_167 0 130 (dk_at dksX3_readLine_3 7 rfl rfl)
theorem dX3_readLine_79 : decode cX3_readLine 79 = .ok (.aload_n 0, 1) := dk_42 (dk_at dksX3_readLine_3 10 rfl rfl)
theorem dX3_readLine_80 : decode cX3_readLine 80 = .ok (.ldc 144, 2) := dk_18 144 (dk_at dksX3_readLine_3 11 rfl rfl)
theorem dX3_readLine_82 : decode cX3_readLine 82 = .ok (.invokevirtual 124, 3) := dk_182 0 124 (dk_at dksX3_readLine_3 13 rfl rfl)
theorem dX3_readLine_85 : decode cX3_readLine 85 = .ok (.ifCond .eq 10, 3) := dk_153 0 10 (dk_at dksX3_readLine_3 16 rfl rfl)
theorem dX3_readLine_88 : decode cX3_readLine 88 = .ok (.aload_n 0, 1) := dk_42 (dk_at dksX3_readLine_3 19 rfl rfl)
theorem dX3_readLine_89 : decode cX3_readLine 89 = .ok (.invokevirtual 209, 3) := dk_182 0 209 (dk_at dksX3_readLine_3 20 rfl rfl)
theorem dX3_readLine_92 : decode cX3_readLine 92 = .ok (.goto 114, 3) := dk_167 0 114 (dk_at dksX3_readLine_4 0 rfl rfl)
theorem dX3_readLine_95 : decode cX3_readLine 95 = .ok (.aload_n 0, 1) := dk_42 (dk_at dksX3_readLine_4 3 rfl rfl)
theorem dX3_readLine_96 : decode cX3_readLine 96 = .ok (.ldc 146, 2) := dk_18 146 (dk_at dksX3_readLine_4 4 rfl rfl)
theorem dX3_readLine_98 : decode cX3_readLine 98 = .ok (.aload_n 0, 1) := dk_42 (dk_at dksX3_readLine_4 6 rfl rfl)
theorem dX3_readLine_99 : decode cX3_readLine 99 = .ok (.getfield 23, 3) := dk_180 0 23 (dk_at dksX3_readLine_4 7 rfl rfl)
theorem dX3_readLine_102 : decode cX3_readLine 102 = .ok (.bipush 52, 2) := dk_16 52 (dk_at dksX3_readLine_4 10 rfl rfl)
theorem dX3_readLine_104 : decode cX3_readLine 104 = .ok (.iaload, 1) := dk_46 (dk_at dksX3_readLine_4 12 rfl rfl)
theorem dX3_readLine_105 : decode cX3_readLine 105 = .ok (.bipush 8, 2) := dk_16 8 (dk_at dksX3_readLine_4 13 rfl rfl)
theorem dX3_readLine_107 : decode cX3_readLine 107 = .ok (.if_icmp .ge 7, 3) := dk_162 0 7 (dk_at dksX3_readLine_4 15 rfl rfl)
theorem dX3_readLine_110 : decode cX3_readLine 110 = .ok (.iconst 1, 1) := dk_4 (dk_at dksX3_readLine_4 18 rfl rfl)
theorem dX3_readLine_111 : decode cX3_readLine 111 = .ok (.goto 4, 3) := dk_167 0 4 (dk_at dksX3_readLine_4 19 rfl rfl)
theorem dX3_readLine_114 : decode cX3_readLine 114 = .ok (.iconst 0, 1) := dk_3 (dk_at dksX3_readLine_4 22 rfl rfl)
theorem dX3_readLine_115 : decode cX3_readLine 115 = .ok (.iconst 5, 1) := dk_8 (dk_at dksX3_readLine_4 23 rfl rfl)
theorem dX3_readLine_116 : decode cX3_readLine 116 = .ok (.invokevirtual 198, 3) := dk_182 0 198 (dk_at dksX3_readLine_5 0 rfl rfl)
theorem dX3_readLine_119 : decode cX3_readLine 119 = .ok (.ifCond .eq 10, 3) := dk_153 0 10 (dk_at dksX3_readLine_5 3 rfl rfl)
theorem dX3_readLine_122 : decode cX3_readLine 122 = .ok (.aload_n 0, 1) := dk_42 (dk_at dksX3_readLine_5 6 rfl rfl)
theorem dX3_readLine_123 : decode cX3_readLine 123 = .ok (.invokevirtual 212, 3) := dk_182 0 212 (dk_at dksX3_readLine_5 7 rfl rfl)
theorem dX3_readLine_126 : decode cX3_readLine 126 = .ok (.goto 80, 3) := dk_167 0 80 (dk_at dksX3_readLine_5 10 rfl rfl)
theorem dX3_readLine_129 : decode cX3_readLine 129 = .ok (.aload_n 0, 1) := dk_42 (dk_at dksX3_readLine_5 13 rfl rfl)
theorem dX3_readLine_130 : decode cX3_readLine 130 = .ok (.ldc 148, 2) := dk_18 148 (dk_at dksX3_readLine_5 14 rfl rfl)
theorem dX3_readLine_132 : decode cX3_readLine 132 = .ok (.aload_n 0, 1) := dk_42 (dk_at dksX3_readLine_5 16 rfl rfl)
theorem dX3_readLine_133 : decode cX3_readLine 133 = .ok (.getfield 23, 3) := dk_180 0 23 (dk_at dksX3_readLine_5 17 rfl rfl)
theorem dX3_readLine_136 : decode cX3_readLine 136 = .ok (.bipush 85, 2) := dk_16 85 (dk_at dksX3_readLine_5 20 rfl rfl)
theorem dX3_readLine_138 : decode cX3_readLine 138 = .ok (.iaload, 1) := dk_46 (dk_at dksX3_readLine_5 22 rfl rfl)
theorem dX3_readLine_139 : decode cX3_readLine 139 = .ok (.bipush 18, 2) := dk_16 18 (dk_at dksX3_readLine_6 0 rfl rfl)
theorem dX3_readLine_141 : decode cX3_readLine 141 = .ok (.if_icmp .ge 7, 3) := dk_162 0 7 (dk_at dksX3_readLine_6 2 rfl rfl)
theorem dX3_readLine_144 : decode cX3_readLine 144 = .ok (.iconst 1, 1) := dk_4 (dk_at dksX3_readLine_6 5 rfl rfl)
theorem dX3_readLine_145 : decode cX3_readLine 145 = .ok (.goto 4, 3) := dk_167 0 4 (dk_at dksX3_readLine_6 6 rfl rfl)
theorem dX3_readLine_148 : decode cX3_readLine 148 = .ok (.iconst 0, 1) := dk_3 (dk_at dksX3_readLine_6 9 rfl rfl)
theorem dX3_readLine_149 : decode cX3_readLine 149 = .ok (.iconst 5, 1) := dk_8 (dk_at dksX3_readLine_6 10 rfl rfl)
theorem dX3_readLine_150 : decode cX3_readLine 150 = .ok (.invokevirtual 198, 3) := dk_182 0 198 (dk_at dksX3_readLine_6 11 rfl rfl)
theorem dX3_readLine_153 : decode cX3_readLine 153 = .ok (.ifCond .eq 10, 3) := dk_153 0 10 (dk_at dksX3_readLine_6 14 rfl rfl)
theorem dX3_readLine_156 : decode cX3_readLine 156 = .ok (.aload_n 0, 1) := dk_42 (dk_at dksX3_readLine_6 17 rfl rfl)
theorem dX3_readLine_157 : decode cX3_readLine 157 = .ok (.invokevirtual 215, 3) := dk_182 0 215 (dk_at dksX3_readLine_6 18 rfl rfl)
theorem dX3_readLine_160 : decode cX3_readLine 160 = .ok (.goto 46, 3) := dk_167 0 46 (dk_at dksX3_readLine_6 21 rfl rfl)
theorem dX3_readLine_163 : decode cX3_readLine 163 = .ok (.aload_n 0, 1) := dk_42 (dk_at dksX3_readLine_7 0 rfl rfl)
theorem dX3_readLine_164 : decode cX3_readLine 164 = .ok (.ldc 150, 2) := dk_18 150 (dk_at dksX3_readLine_7 1 rfl rfl)
theorem dX3_readLine_166 : decode cX3_readLine 166 = .ok (.aload_n 0, 1) := dk_42 (dk_at dksX3_readLine_7 3 rfl rfl)
theorem dX3_readLine_167 : decode cX3_readLine 167 = .ok (.getfield 23, 3) := dk_180 0 23 (dk_at dksX3_readLine_7 4 rfl rfl)
theorem dX3_readLine_170 : decode cX3_readLine 170 = .ok (.sipush 158, 3) := dk_17 0 158 (dk_at dksX3_readLine_7 7 rfl rfl)
theorem dX3_readLine_173 : decode cX3_readLine 173 = .ok (.iaload, 1) := dk_46 (dk_at dksX3_readLine_7 10 rfl rfl)
theorem dX3_readLine_174 : decode cX3_readLine 174 = .ok (.iconst 4, 1) := dk_7 (dk_at dksX3_readLine_7 11 rfl rfl)
theorem dX3_readLine_175 : decode cX3_readLine 175 = .ok (.if_icmp .ge 7, 3) := dk_162 0 7 (dk_at dksX3_readLine_7 12 rfl rfl)
theorem dX3_readLine_178 : decode cX3_readLine 178 = .ok (.iconst 1, 1) := dk_4 (dk_at dksX3_readLine_7 15 rfl rfl)
theorem dX3_readLine_179 : decode cX3_readLine 179 = .ok (.goto 4, 3) := dk_167 0 4 (dk_at dksX3_readLine_7 16 rfl rfl)
theorem dX3_readLine_182 : decode cX3_readLine 182 = .ok (.iconst 0, 1) := dk_3 (dk_at dksX3_readLine_7 19 rfl rfl)
theorem dX3_readLine_183 : decode cX3_readLine 183 = .ok (.iconst 5, 1) := dk_8 (dk_at dksX3_readLine_7 20 rfl rfl)
theorem dX3_readLine_184 : decode cX3_readLine 184 = .ok (.invokevirtual 198, 3) := dk_182 0 198 (dk_at dksX3_readLine_7 21 rfl rfl)
theorem dX3_readLine_187 : decode cX3_readLine 187 = .ok (.ifCond .eq 10, 3) := dk_153 0 10 (dk_at dksX3_readLine_8 0 rfl rfl)
theorem dX3_readLine_190 : decode cX3_readLine 190 = .ok (.aload_n 0, 1) := dk_42 (dk_at dksX3_readLine_8 3 rfl rfl)
theorem dX3_readLine_191 : decode cX3_readLine 191 = .ok (.invokevirtual 218, 3) := dk_182 0 218 (dk_at dksX3_readLine_8 4 rfl rfl)
theorem dX3_readLine_194 : decode cX3_readLine 194 = .ok (.goto 12, 3) := dk_167 0 12 (dk_at dksX3_readLine_8 7 rfl rfl)
theorem dX3_readLine_197 : decode cX3_readLine 197 = .ok (.aload_n 0, 1) := dk_42 (dk_at dksX3_readLine_8 10 rfl rfl)
theorem dX3_readLine_198 : decode cX3_readLine 198 = .ok (.iconst 1, 1) := dk_4 (dk_at dksX3_readLine_8 11 rfl rfl)
theorem dX3_readLine_199 : decode cX3_readLine 199 = .ok (.aload_n 0, 1) := dk_42 (dk_at dksX3_readLine_8 12 rfl rfl)
theorem dX3_readLine_200 : decode cX3_readLine 200 = .ok (.getfield 88, 3) := dk_180 0 88 (dk_at dksX3_readLine_8 13 rfl rfl)
theorem dX3_readLine_203 : decode cX3_readLine 203 = .ok (.invokevirtual 134, 3) := dk_182 0 134 (dk_at dksX3_readLine_8 16 rfl rfl)
theorem dX3_readLine_206 : decode cX3_readLine 206 = .ok (.return_, 1) := dk_177 (dk_at dksX3_readLine_8 19 rfl rfl)
abbrev cX3_begins : ByteArray := prog_18_method_29_code
def yX3_begins : MethodName := ⟨RX3, "begins", "(Ljava/lang/String;ZI)Z"⟩
def dkwX3_begins_1 : List UInt8 := [180, 0, 107, 154, 0, 7, 42, 182, 0, 128, 4, 172]
abbrev dktX3_begins_1 : List UInt8 := dkwX3_begins_1 ++ []
def dkwX3_begins_0 : List UInt8 := [42, 43, 182, 0, 124, 154, 0, 5, 3, 172, 28, 154, 0, 12, 42, 29, 42, 180, 0, 88, 182, 0, 134, 42]
abbrev dktX3_begins_0 : List UInt8 := dkwX3_begins_0 ++ dktX3_begins_1
theorem dksX3_begins_0 : cX3_begins.data.toList.drop 0 = dktX3_begins_0 := by decide +kernel
theorem dksX3_begins_1 : cX3_begins.data.toList.drop 24 = dktX3_begins_1 := dk_seg dksX3_begins_0 24 rfl rfl
theorem dX3_begins_0 : decode cX3_begins 0 = .ok (.aload_n 0, 1) := dk_42 (dk_at dksX3_begins_0 0 rfl rfl)
theorem dX3_begins_1 : decode cX3_begins 1 = .ok (.aload_n 1, 1) := dk_43 (dk_at dksX3_begins_0 1 rfl rfl)
theorem dX3_begins_2 : decode cX3_begins 2 = .ok (.invokevirtual 124, 3) := dk_182 0 124 (dk_at dksX3_begins_0 2 rfl rfl)
theorem dX3_begins_5 : decode cX3_begins 5 = .ok (.ifCond .ne 5, 3) := dk_154 0 5 (dk_at dksX3_begins_0 5 rfl rfl)
theorem dX3_begins_8 : decode cX3_begins 8 = .ok (.iconst 0, 1) := dk_3 (dk_at dksX3_begins_0 8 rfl rfl)
theorem dX3_begins_9 : decode cX3_begins 9 = .ok (.ireturn, 1) := dk_172 (dk_at dksX3_begins_0 9 rfl rfl)
theorem dX3_begins_10 : decode cX3_begins 10 = .ok (.iload_n 2, 1) := dk_28 (dk_at dksX3_begins_0 10 rfl rfl)
theorem dX3_begins_11 : decode cX3_begins 11 = .ok (.ifCond .ne 12, 3) := dk_154 0 12 (dk_at dksX3_begins_0 11 rfl rfl)
theorem dX3_begins_14 : decode cX3_begins 14 = .ok (.aload_n 0, 1) := dk_42 (dk_at dksX3_begins_0 14 rfl rfl)
theorem dX3_begins_15 : decode cX3_begins 15 = .ok (.iload_n 3, 1) := dk_29 (dk_at dksX3_begins_0 15 rfl rfl)
theorem dX3_begins_16 : decode cX3_begins 16 = .ok (.aload_n 0, 1) := dk_42 (dk_at dksX3_begins_0 16 rfl rfl)
theorem dX3_begins_17 : decode cX3_begins 17 = .ok (.getfield 88, 3) := dk_180 0 88 (dk_at dksX3_begins_0 17 rfl rfl)
theorem dX3_begins_20 : decode cX3_begins 20 = .ok (.invokevirtual 134, 3) := dk_182 0 134 (dk_at dksX3_begins_0 20 rfl rfl)
theorem dX3_begins_23 : decode cX3_begins 23 = .ok (.aload_n 0, 1) := dk_42 (dk_at dksX3_begins_0 23 rfl rfl)
theorem dX3_begins_24 : decode cX3_begins 24 = .ok (.getfield 107, 3) := dk_180 0 107 (dk_at dksX3_begins_1 0 rfl rfl)
theorem dX3_begins_27 : decode cX3_begins 27 = .ok (.ifCond .ne 7, 3) := dk_154 0 7 (dk_at dksX3_begins_1 3 rfl rfl)
theorem dX3_begins_30 : decode cX3_begins 30 = .ok (.aload_n 0, 1) := dk_42 (dk_at dksX3_begins_1 6 rfl rfl)
theorem dX3_begins_31 : decode cX3_begins 31 = .ok (.invokevirtual 128, 3) := dk_182 0 128 (dk_at dksX3_begins_1 7 rfl rfl)
theorem dX3_begins_34 : decode cX3_begins 34 = .ok (.iconst 1, 1) := dk_4 (dk_at dksX3_begins_1 10 rfl rfl)
theorem dX3_begins_35 : decode cX3_begins 35 = .ok (.ireturn, 1) := dk_172 (dk_at dksX3_begins_1 11 rfl rfl)
abbrev cX3_isWord : ByteArray := prog_18_method_16_code
def yX3_isWord : MethodName := ⟨RX3, "isWord", "(Ljava/lang/String;)Z"⟩
def dkwX3_isWord_3 : List UInt8 := [167, 255, 221, 28, 172]
abbrev dktX3_isWord_3 : List UInt8 := dkwX3_isWord_3 ++ []
def dkwX3_isWord_2 : List UInt8 := [180, 0, 17, 29, 46, 43, 29, 182, 0, 120, 160, 0, 7, 4, 167, 0, 4, 3, 61, 132, 3, 1]
abbrev dktX3_isWord_2 : List UInt8 := dkwX3_isWord_2 ++ dktX3_isWord_3
def dkwX3_isWord_1 : List UInt8 := [159, 0, 5, 3, 172, 4, 61, 3, 62, 29, 42, 180, 0, 91, 162, 0, 33, 28, 153, 0, 21, 42]
abbrev dktX3_isWord_1 : List UInt8 := dkwX3_isWord_1 ++ dktX3_isWord_2
def dkwX3_isWord_0 : List UInt8 := [42, 180, 0, 107, 154, 0, 22, 42, 180, 0, 97, 5, 160, 0, 14, 42, 180, 0, 91, 43, 182, 0, 114]
abbrev dktX3_isWord_0 : List UInt8 := dkwX3_isWord_0 ++ dktX3_isWord_1
theorem dksX3_isWord_0 : cX3_isWord.data.toList.drop 0 = dktX3_isWord_0 := by decide +kernel
theorem dksX3_isWord_1 : cX3_isWord.data.toList.drop 23 = dktX3_isWord_1 := dk_seg dksX3_isWord_0 23 rfl rfl
theorem dksX3_isWord_2 : cX3_isWord.data.toList.drop 45 = dktX3_isWord_2 := dk_seg dksX3_isWord_1 22 rfl rfl
theorem dksX3_isWord_3 : cX3_isWord.data.toList.drop 67 = dktX3_isWord_3 := dk_seg dksX3_isWord_2 22 rfl rfl
theorem dX3_isWord_0 : decode cX3_isWord 0 = .ok (.aload_n 0, 1) := dk_42 (dk_at dksX3_isWord_0 0 rfl rfl)
theorem dX3_isWord_1 : decode cX3_isWord 1 = .ok (.getfield 107, 3) := dk_180 0 107 (dk_at dksX3_isWord_0 1 rfl rfl)
theorem dX3_isWord_4 : decode cX3_isWord 4 = .ok (.ifCond .ne 22, 3) := dk_154 0 22 (dk_at dksX3_isWord_0 4 rfl rfl)
theorem dX3_isWord_7 : decode cX3_isWord 7 = .ok (.aload_n 0, 1) := dk_42 (dk_at dksX3_isWord_0 7 rfl rfl)
theorem dX3_isWord_8 : decode cX3_isWord 8 = .ok (.getfield 97, 3) := dk_180 0 97 (dk_at dksX3_isWord_0 8 rfl rfl)
theorem dX3_isWord_11 : decode cX3_isWord 11 = .ok (.iconst 2, 1) := dk_5 (dk_at dksX3_isWord_0 11 rfl rfl)
theorem dX3_isWord_12 : decode cX3_isWord 12 = .ok (.if_icmp .ne 14, 3) := dk_160 0 14 (dk_at dksX3_isWord_0 12 rfl rfl)
theorem dX3_isWord_15 : decode cX3_isWord 15 = .ok (.aload_n 0, 1) := dk_42 (dk_at dksX3_isWord_0 15 rfl rfl)
theorem dX3_isWord_16 : decode cX3_isWord 16 = .ok (.getfield 91, 3) := dk_180 0 91 (dk_at dksX3_isWord_0 16 rfl rfl)
theorem dX3_isWord_19 : decode cX3_isWord 19 = .ok (.aload_n 1, 1) := dk_43 (dk_at dksX3_isWord_0 19 rfl rfl)
theorem dX3_isWord_20 : decode cX3_isWord 20 = .ok (.invokevirtual 114, 3) := dk_182 0 114 (dk_at dksX3_isWord_0 20 rfl rfl)
theorem dX3_isWord_23 : decode cX3_isWord 23 = .ok (.if_icmp .eq 5, 3) := dk_159 0 5 (dk_at dksX3_isWord_1 0 rfl rfl)
theorem dX3_isWord_26 : decode cX3_isWord 26 = .ok (.iconst 0, 1) := dk_3 (dk_at dksX3_isWord_1 3 rfl rfl)
theorem dX3_isWord_27 : decode cX3_isWord 27 = .ok (.ireturn, 1) := dk_172 (dk_at dksX3_isWord_1 4 rfl rfl)
theorem dX3_isWord_28 : decode cX3_isWord 28 = .ok (.iconst 1, 1) := dk_4 (dk_at dksX3_isWord_1 5 rfl rfl)
theorem dX3_isWord_29 : decode cX3_isWord 29 = .ok (.istore_n 2, 1) := dk_61 (dk_at dksX3_isWord_1 6 rfl rfl)
theorem dX3_isWord_30 : decode cX3_isWord 30 = .ok (.iconst 0, 1) := dk_3 (dk_at dksX3_isWord_1 7 rfl rfl)
theorem dX3_isWord_31 : decode cX3_isWord 31 = .ok (.istore_n 3, 1) := dk_62 (dk_at dksX3_isWord_1 8 rfl rfl)
theorem dX3_isWord_32 : decode cX3_isWord 32 = .ok (.iload_n 3, 1) := dk_29 (dk_at dksX3_isWord_1 9 rfl rfl)
theorem dX3_isWord_33 : decode cX3_isWord 33 = .ok (.aload_n 0, 1) := dk_42 (dk_at dksX3_isWord_1 10 rfl rfl)
theorem dX3_isWord_34 : decode cX3_isWord 34 = .ok (.getfield 91, 3) := dk_180 0 91 (dk_at dksX3_isWord_1 11 rfl rfl)
theorem dX3_isWord_37 : decode cX3_isWord 37 = .ok (.if_icmp .ge 33, 3) := dk_162 0 33 (dk_at dksX3_isWord_1 14 rfl rfl)
theorem dX3_isWord_40 : decode cX3_isWord 40 = .ok (.iload_n 2, 1) := dk_28 (dk_at dksX3_isWord_1 17 rfl rfl)
theorem dX3_isWord_41 : decode cX3_isWord 41 = .ok (.ifCond .eq 21, 3) := dk_153 0 21 (dk_at dksX3_isWord_1 18 rfl rfl)
theorem dX3_isWord_44 : decode cX3_isWord 44 = .ok (.aload_n 0, 1) := dk_42 (dk_at dksX3_isWord_1 21 rfl rfl)
theorem dX3_isWord_45 : decode cX3_isWord 45 = .ok (.getfield 17, 3) := dk_180 0 17 (dk_at dksX3_isWord_2 0 rfl rfl)
theorem dX3_isWord_48 : decode cX3_isWord 48 = .ok (.iload_n 3, 1) := dk_29 (dk_at dksX3_isWord_2 3 rfl rfl)
theorem dX3_isWord_49 : decode cX3_isWord 49 = .ok (.iaload, 1) := dk_46 (dk_at dksX3_isWord_2 4 rfl rfl)
theorem dX3_isWord_50 : decode cX3_isWord 50 = .ok (.aload_n 1, 1) := dk_43 (dk_at dksX3_isWord_2 5 rfl rfl)
theorem dX3_isWord_51 : decode cX3_isWord 51 = .ok (.iload_n 3, 1) := dk_29 (dk_at dksX3_isWord_2 6 rfl rfl)
theorem dX3_isWord_52 : decode cX3_isWord 52 = .ok (.invokevirtual 120, 3) := dk_182 0 120 (dk_at dksX3_isWord_2 7 rfl rfl)
theorem dX3_isWord_55 : decode cX3_isWord 55 = .ok (.if_icmp .ne 7, 3) := dk_160 0 7 (dk_at dksX3_isWord_2 10 rfl rfl)
theorem dX3_isWord_58 : decode cX3_isWord 58 = .ok (.iconst 1, 1) := dk_4 (dk_at dksX3_isWord_2 13 rfl rfl)
theorem dX3_isWord_59 : decode cX3_isWord 59 = .ok (.goto 4, 3) := dk_167 0 4 (dk_at dksX3_isWord_2 14 rfl rfl)
theorem dX3_isWord_62 : decode cX3_isWord 62 = .ok (.iconst 0, 1) := dk_3 (dk_at dksX3_isWord_2 17 rfl rfl)
theorem dX3_isWord_63 : decode cX3_isWord 63 = .ok (.istore_n 2, 1) := dk_61 (dk_at dksX3_isWord_2 18 rfl rfl)
theorem dX3_isWord_64 : decode cX3_isWord 64 = .ok (.iinc 3 1, 3) := dk_132 3 1 (dk_at dksX3_isWord_2 19 rfl rfl)
theorem dX3_isWord_67 : decode cX3_isWord 67 = .ok (.goto (-35), 3) := dk_167 255 221 (dk_at dksX3_isWord_3 0 rfl rfl)
theorem dX3_isWord_70 : decode cX3_isWord 70 = .ok (.iload_n 2, 1) := dk_28 (dk_at dksX3_isWord_3 3 rfl rfl)
theorem dX3_isWord_71 : decode cX3_isWord 71 = .ok (.ireturn, 1) := dk_172 (dk_at dksX3_isWord_3 4 rfl rfl)
abbrev cX3_wrong : ByteArray := prog_18_method_15_code
def yX3_wrong : MethodName := ⟨RX3, "wrong", "(II)V"⟩
def dkwX3_wrong_0 : List UInt8 := [42, 180, 0, 107, 153, 0, 4, 177, 42, 4, 181, 0, 107, 42, 27, 181, 0, 111, 42, 28, 181, 0, 13, 177]
abbrev dktX3_wrong_0 : List UInt8 := dkwX3_wrong_0 ++ []
theorem dksX3_wrong_0 : cX3_wrong.data.toList.drop 0 = dktX3_wrong_0 := by decide +kernel
theorem dX3_wrong_0 : decode cX3_wrong 0 = .ok (.aload_n 0, 1) := dk_42 (dk_at dksX3_wrong_0 0 rfl rfl)
theorem dX3_wrong_1 : decode cX3_wrong 1 = .ok (.getfield 107, 3) := dk_180 0 107 (dk_at dksX3_wrong_0 1 rfl rfl)
theorem dX3_wrong_4 : decode cX3_wrong 4 = .ok (.ifCond .eq 4, 3) := dk_153 0 4 (dk_at dksX3_wrong_0 4 rfl rfl)
theorem dX3_wrong_7 : decode cX3_wrong 7 = .ok (.return_, 1) := dk_177 (dk_at dksX3_wrong_0 7 rfl rfl)
theorem dX3_wrong_8 : decode cX3_wrong 8 = .ok (.aload_n 0, 1) := dk_42 (dk_at dksX3_wrong_0 8 rfl rfl)
theorem dX3_wrong_9 : decode cX3_wrong 9 = .ok (.iconst 1, 1) := dk_4 (dk_at dksX3_wrong_0 9 rfl rfl)
theorem dX3_wrong_10 : decode cX3_wrong 10 = .ok (.putfield 107, 3) := dk_181 0 107 (dk_at dksX3_wrong_0 10 rfl rfl)
theorem dX3_wrong_13 : decode cX3_wrong 13 = .ok (.aload_n 0, 1) := dk_42 (dk_at dksX3_wrong_0 13 rfl rfl)
theorem dX3_wrong_14 : decode cX3_wrong 14 = .ok (.iload_n 1, 1) := dk_27 (dk_at dksX3_wrong_0 14 rfl rfl)
theorem dX3_wrong_15 : decode cX3_wrong 15 = .ok (.putfield 111, 3) := dk_181 0 111 (dk_at dksX3_wrong_0 15 rfl rfl)
theorem dX3_wrong_18 : decode cX3_wrong 18 = .ok (.aload_n 0, 1) := dk_42 (dk_at dksX3_wrong_0 18 rfl rfl)
theorem dX3_wrong_19 : decode cX3_wrong 19 = .ok (.iload_n 2, 1) := dk_28 (dk_at dksX3_wrong_0 19 rfl rfl)
theorem dX3_wrong_20 : decode cX3_wrong 20 = .ok (.putfield 13, 3) := dk_181 0 13 (dk_at dksX3_wrong_0 20 rfl rfl)
theorem dX3_wrong_23 : decode cX3_wrong 23 = .ok (.return_, 1) := dk_177 (dk_at dksX3_wrong_0 23 rfl rfl)
abbrev cX3_lawLine : ByteArray := prog_18_method_31_code
def yX3_lawLine : MethodName := ⟨RX3, "lawLine", "()V"⟩
def dkwX3_lawLine_1 : List UInt8 := [180, 0, 23, 16, 49, 27, 79, 177]
abbrev dktX3_lawLine_1 : List UInt8 := dkwX3_lawLine_1 ++ []
def dkwX3_lawLine_0 : List UInt8 := [42, 18, 221, 182, 0, 223, 42, 4, 16, 60, 182, 0, 227, 60, 42, 180, 0, 107, 154, 0, 11, 42]
abbrev dktX3_lawLine_0 : List UInt8 := dkwX3_lawLine_0 ++ dktX3_lawLine_1
theorem dksX3_lawLine_0 : cX3_lawLine.data.toList.drop 0 = dktX3_lawLine_0 := by decide +kernel
theorem dksX3_lawLine_1 : cX3_lawLine.data.toList.drop 22 = dktX3_lawLine_1 := dk_seg dksX3_lawLine_0 22 rfl rfl
theorem dX3_lawLine_0 : decode cX3_lawLine 0 = .ok (.aload_n 0, 1) := dk_42 (dk_at dksX3_lawLine_0 0 rfl rfl)
theorem dX3_lawLine_1 : decode cX3_lawLine 1 = .ok (.ldc 221, 2) := dk_18 221 (dk_at dksX3_lawLine_0 1 rfl rfl)
theorem dX3_lawLine_3 : decode cX3_lawLine 3 = .ok (.invokevirtual 223, 3) := dk_182 0 223 (dk_at dksX3_lawLine_0 3 rfl rfl)
theorem dX3_lawLine_6 : decode cX3_lawLine 6 = .ok (.aload_n 0, 1) := dk_42 (dk_at dksX3_lawLine_0 6 rfl rfl)
theorem dX3_lawLine_7 : decode cX3_lawLine 7 = .ok (.iconst 1, 1) := dk_4 (dk_at dksX3_lawLine_0 7 rfl rfl)
theorem dX3_lawLine_8 : decode cX3_lawLine 8 = .ok (.bipush 60, 2) := dk_16 60 (dk_at dksX3_lawLine_0 8 rfl rfl)
theorem dX3_lawLine_10 : decode cX3_lawLine 10 = .ok (.invokevirtual 227, 3) := dk_182 0 227 (dk_at dksX3_lawLine_0 10 rfl rfl)
theorem dX3_lawLine_13 : decode cX3_lawLine 13 = .ok (.istore_n 1, 1) := dk_60 (dk_at dksX3_lawLine_0 13 rfl rfl)
theorem dX3_lawLine_14 : decode cX3_lawLine 14 = .ok (.aload_n 0, 1) := dk_42 (dk_at dksX3_lawLine_0 14 rfl rfl)
theorem dX3_lawLine_15 : decode cX3_lawLine 15 = .ok (.getfield 107, 3) := dk_180 0 107 (dk_at dksX3_lawLine_0 15 rfl rfl)
theorem dX3_lawLine_18 : decode cX3_lawLine 18 = .ok (.ifCond .ne 11, 3) := dk_154 0 11 (dk_at dksX3_lawLine_0 18 rfl rfl)
theorem dX3_lawLine_21 : decode cX3_lawLine 21 = .ok (.aload_n 0, 1) := dk_42 (dk_at dksX3_lawLine_0 21 rfl rfl)
theorem dX3_lawLine_22 : decode cX3_lawLine 22 = .ok (.getfield 23, 3) := dk_180 0 23 (dk_at dksX3_lawLine_1 0 rfl rfl)
theorem dX3_lawLine_25 : decode cX3_lawLine 25 = .ok (.bipush 49, 2) := dk_16 49 (dk_at dksX3_lawLine_1 3 rfl rfl)
theorem dX3_lawLine_27 : decode cX3_lawLine 27 = .ok (.iload_n 1, 1) := dk_27 (dk_at dksX3_lawLine_1 5 rfl rfl)
theorem dX3_lawLine_28 : decode cX3_lawLine 28 = .ok (.iastore, 1) := dk_79 (dk_at dksX3_lawLine_1 6 rfl rfl)
theorem dX3_lawLine_29 : decode cX3_lawLine 29 = .ok (.return_, 1) := dk_177 (dk_at dksX3_lawLine_1 7 rfl rfl)
abbrev cX3_pass : ByteArray := prog_18_method_18_code
def yX3_pass : MethodName := ⟨RX3, "pass", "(Ljava/lang/String;)V"⟩
def dkwX3_pass_1 : List UInt8 := [177]
abbrev dktX3_pass_1 : List UInt8 := dkwX3_pass_1 ++ []
def dkwX3_pass_0 : List UInt8 := [42, 180, 0, 107, 154, 0, 20, 42, 43, 182, 0, 131, 154, 0, 12, 42, 4, 42, 180, 0, 88, 182, 0, 134]
abbrev dktX3_pass_0 : List UInt8 := dkwX3_pass_0 ++ dktX3_pass_1
theorem dksX3_pass_0 : cX3_pass.data.toList.drop 0 = dktX3_pass_0 := by decide +kernel
theorem dksX3_pass_1 : cX3_pass.data.toList.drop 24 = dktX3_pass_1 := dk_seg dksX3_pass_0 24 rfl rfl
theorem dX3_pass_0 : decode cX3_pass 0 = .ok (.aload_n 0, 1) := dk_42 (dk_at dksX3_pass_0 0 rfl rfl)
theorem dX3_pass_1 : decode cX3_pass 1 = .ok (.getfield 107, 3) := dk_180 0 107 (dk_at dksX3_pass_0 1 rfl rfl)
theorem dX3_pass_4 : decode cX3_pass 4 = .ok (.ifCond .ne 20, 3) := dk_154 0 20 (dk_at dksX3_pass_0 4 rfl rfl)
theorem dX3_pass_7 : decode cX3_pass 7 = .ok (.aload_n 0, 1) := dk_42 (dk_at dksX3_pass_0 7 rfl rfl)
theorem dX3_pass_8 : decode cX3_pass 8 = .ok (.aload_n 1, 1) := dk_43 (dk_at dksX3_pass_0 8 rfl rfl)
theorem dX3_pass_9 : decode cX3_pass 9 = .ok (.invokevirtual 131, 3) := dk_182 0 131 (dk_at dksX3_pass_0 9 rfl rfl)
theorem dX3_pass_12 : decode cX3_pass 12 = .ok (.ifCond .ne 12, 3) := dk_154 0 12 (dk_at dksX3_pass_0 12 rfl rfl)
theorem dX3_pass_15 : decode cX3_pass 15 = .ok (.aload_n 0, 1) := dk_42 (dk_at dksX3_pass_0 15 rfl rfl)
theorem dX3_pass_16 : decode cX3_pass 16 = .ok (.iconst 1, 1) := dk_4 (dk_at dksX3_pass_0 16 rfl rfl)
theorem dX3_pass_17 : decode cX3_pass 17 = .ok (.aload_n 0, 1) := dk_42 (dk_at dksX3_pass_0 17 rfl rfl)
theorem dX3_pass_18 : decode cX3_pass 18 = .ok (.getfield 88, 3) := dk_180 0 88 (dk_at dksX3_pass_0 18 rfl rfl)
theorem dX3_pass_21 : decode cX3_pass 21 = .ok (.invokevirtual 134, 3) := dk_182 0 134 (dk_at dksX3_pass_0 21 rfl rfl)
theorem dX3_pass_24 : decode cX3_pass 24 = .ok (.return_, 1) := dk_177 (dk_at dksX3_pass_1 0 rfl rfl)
abbrev cX3_takes : ByteArray := prog_18_method_17_code
def yX3_takes : MethodName := ⟨RX3, "takes", "(Ljava/lang/String;)Z"⟩
def dkwX3_takes_0 : List UInt8 := [42, 43, 182, 0, 124, 154, 0, 5, 3, 172, 42, 182, 0, 128, 4, 172]
abbrev dktX3_takes_0 : List UInt8 := dkwX3_takes_0 ++ []
theorem dksX3_takes_0 : cX3_takes.data.toList.drop 0 = dktX3_takes_0 := by decide +kernel
theorem dX3_takes_0 : decode cX3_takes 0 = .ok (.aload_n 0, 1) := dk_42 (dk_at dksX3_takes_0 0 rfl rfl)
theorem dX3_takes_1 : decode cX3_takes 1 = .ok (.aload_n 1, 1) := dk_43 (dk_at dksX3_takes_0 1 rfl rfl)
theorem dX3_takes_2 : decode cX3_takes 2 = .ok (.invokevirtual 124, 3) := dk_182 0 124 (dk_at dksX3_takes_0 2 rfl rfl)
theorem dX3_takes_5 : decode cX3_takes 5 = .ok (.ifCond .ne 5, 3) := dk_154 0 5 (dk_at dksX3_takes_0 5 rfl rfl)
theorem dX3_takes_8 : decode cX3_takes 8 = .ok (.iconst 0, 1) := dk_3 (dk_at dksX3_takes_0 8 rfl rfl)
theorem dX3_takes_9 : decode cX3_takes 9 = .ok (.ireturn, 1) := dk_172 (dk_at dksX3_takes_0 9 rfl rfl)
theorem dX3_takes_10 : decode cX3_takes 10 = .ok (.aload_n 0, 1) := dk_42 (dk_at dksX3_takes_0 10 rfl rfl)
theorem dX3_takes_11 : decode cX3_takes 11 = .ok (.invokevirtual 128, 3) := dk_182 0 128 (dk_at dksX3_takes_0 11 rfl rfl)
theorem dX3_takes_14 : decode cX3_takes 14 = .ok (.iconst 1, 1) := dk_4 (dk_at dksX3_takes_0 14 rfl rfl)
theorem dX3_takes_15 : decode cX3_takes 15 = .ok (.ireturn, 1) := dk_172 (dk_at dksX3_takes_0 15 rfl rfl)
abbrev cX3_number : ByteArray := prog_18_method_24_code
def yX3_number : MethodName := ⟨RX3, "numbe\x72", "(II)I"⟩
def dkwX3_number_2 : List UInt8 := [180, 0, 88, 182, 0, 134, 27, 172, 42, 182, 0, 128, 29, 172]
abbrev dktX3_number_2 : List UInt8 := dkwX3_number_2 ++ []
def dkwX3_number_1 : List UInt8 := [182, 0, 134, 27, 172, 42, 180, 0, 94, 62, 29, 27, 28, 184, 0, 170, 154, 0, 14, 42, 7, 42]
abbrev dktX3_number_1 : List UInt8 := dkwX3_number_1 ++ dktX3_number_2
def dkwX3_number_0 : List UInt8 := [42, 180, 0, 107, 153, 0, 5, 27, 172, 42, 180, 0, 97, 6, 159, 0, 14, 42, 4, 42, 180, 0, 88]
abbrev dktX3_number_0 : List UInt8 := dkwX3_number_0 ++ dktX3_number_1
theorem dksX3_number_0 : cX3_number.data.toList.drop 0 = dktX3_number_0 := by decide +kernel
theorem dksX3_number_1 : cX3_number.data.toList.drop 23 = dktX3_number_1 := dk_seg dksX3_number_0 23 rfl rfl
theorem dksX3_number_2 : cX3_number.data.toList.drop 45 = dktX3_number_2 := dk_seg dksX3_number_1 22 rfl rfl
theorem dX3_number_0 : decode cX3_number 0 = .ok (.aload_n 0, 1) := dk_42 (dk_at dksX3_number_0 0 rfl rfl)
theorem dX3_number_1 : decode cX3_number 1 = .ok (.getfield 107, 3) := dk_180 0 107 (dk_at dksX3_number_0 1 rfl rfl)
theorem dX3_number_4 : decode cX3_number 4 = .ok (.ifCond .eq 5, 3) := dk_153 0 5 (dk_at dksX3_number_0 4 rfl rfl)
theorem dX3_number_7 : decode cX3_number 7 = .ok (.iload_n 1, 1) := dk_27 (dk_at dksX3_number_0 7 rfl rfl)
theorem dX3_number_8 : decode cX3_number 8 = .ok (.ireturn, 1) := dk_172 (dk_at dksX3_number_0 8 rfl rfl)
theorem dX3_number_9 : decode cX3_number 9 = .ok (.aload_n 0, 1) := dk_42 (dk_at dksX3_number_0 9 rfl rfl)
theorem dX3_number_10 : decode cX3_number 10 = .ok (.getfield 97, 3) := dk_180 0 97 (dk_at dksX3_number_0 10 rfl rfl)
theorem dX3_number_13 : decode cX3_number 13 = .ok (.iconst 3, 1) := dk_6 (dk_at dksX3_number_0 13 rfl rfl)
theorem dX3_number_14 : decode cX3_number 14 = .ok (.if_icmp .eq 14, 3) := dk_159 0 14 (dk_at dksX3_number_0 14 rfl rfl)
theorem dX3_number_17 : decode cX3_number 17 = .ok (.aload_n 0, 1) := dk_42 (dk_at dksX3_number_0 17 rfl rfl)
theorem dX3_number_18 : decode cX3_number 18 = .ok (.iconst 1, 1) := dk_4 (dk_at dksX3_number_0 18 rfl rfl)
theorem dX3_number_19 : decode cX3_number 19 = .ok (.aload_n 0, 1) := dk_42 (dk_at dksX3_number_0 19 rfl rfl)
theorem dX3_number_20 : decode cX3_number 20 = .ok (.getfield 88, 3) := dk_180 0 88 (dk_at dksX3_number_0 20 rfl rfl)
theorem dX3_number_23 : decode cX3_number 23 = .ok (.invokevirtual 134, 3) := dk_182 0 134 (dk_at dksX3_number_1 0 rfl rfl)
theorem dX3_number_26 : decode cX3_number 26 = .ok (.iload_n 1, 1) := dk_27 (dk_at dksX3_number_1 3 rfl rfl)
theorem dX3_number_27 : decode cX3_number 27 = .ok (.ireturn, 1) := dk_172 (dk_at dksX3_number_1 4 rfl rfl)
theorem dX3_number_28 : decode cX3_number 28 = .ok (.aload_n 0, 1) := dk_42 (dk_at dksX3_number_1 5 rfl rfl)
theorem dX3_number_29 : decode cX3_number 29 = .ok (.getfield 94, 3) := dk_180 0 94 (dk_at dksX3_number_1 6 rfl rfl)
theorem dX3_number_32 : decode cX3_number 32 = .ok (.istore_n 3, 1) := dk_62 (dk_at dksX3_number_1 9 rfl rfl)
theorem dX3_number_33 : decode cX3_number 33 = .ok (.iload_n 3, 1) := dk_29 (dk_at dksX3_number_1 10 rfl rfl)
theorem dX3_number_34 : decode cX3_number 34 = .ok (.iload_n 1, 1) := dk_27 (dk_at dksX3_number_1 11 rfl rfl)
theorem dX3_number_35 : decode cX3_number 35 = .ok (.iload_n 2, 1) := dk_28 (dk_at dksX3_number_1 12 rfl rfl)
theorem dX3_number_36 : decode cX3_number 36 = .ok (.invokestatic 170, 3) := dk_184 0 170 (dk_at dksX3_number_1 13 rfl rfl)
theorem dX3_number_39 : decode cX3_number 39 = .ok (.ifCond .ne 14, 3) := dk_154 0 14 (dk_at dksX3_number_1 16 rfl rfl)
theorem dX3_number_42 : decode cX3_number 42 = .ok (.aload_n 0, 1) := dk_42 (dk_at dksX3_number_1 19 rfl rfl)
theorem dX3_number_43 : decode cX3_number 43 = .ok (.iconst 4, 1) := dk_7 (dk_at dksX3_number_1 20 rfl rfl)
theorem dX3_number_44 : decode cX3_number 44 = .ok (.aload_n 0, 1) := dk_42 (dk_at dksX3_number_1 21 rfl rfl)
theorem dX3_number_45 : decode cX3_number 45 = .ok (.getfield 88, 3) := dk_180 0 88 (dk_at dksX3_number_2 0 rfl rfl)
theorem dX3_number_48 : decode cX3_number 48 = .ok (.invokevirtual 134, 3) := dk_182 0 134 (dk_at dksX3_number_2 3 rfl rfl)
theorem dX3_number_51 : decode cX3_number 51 = .ok (.iload_n 1, 1) := dk_27 (dk_at dksX3_number_2 6 rfl rfl)
theorem dX3_number_52 : decode cX3_number 52 = .ok (.ireturn, 1) := dk_172 (dk_at dksX3_number_2 7 rfl rfl)
theorem dX3_number_53 : decode cX3_number 53 = .ok (.aload_n 0, 1) := dk_42 (dk_at dksX3_number_2 8 rfl rfl)
theorem dX3_number_54 : decode cX3_number 54 = .ok (.invokevirtual 128, 3) := dk_182 0 128 (dk_at dksX3_number_2 9 rfl rfl)
theorem dX3_number_57 : decode cX3_number 57 = .ok (.iload_n 3, 1) := dk_29 (dk_at dksX3_number_2 12 rfl rfl)
theorem dX3_number_58 : decode cX3_number 58 = .ok (.ireturn, 1) := dk_172 (dk_at dksX3_number_2 13 rfl rfl)
abbrev cX3_newNames : ByteArray := prog_18_method_21_code
def yX3_newNames : MethodName := ⟨RX3, "newNames", "(III)V"⟩
def dkwX3_newNames_7 : List UInt8 := [54, 4, 167, 255, 103, 177]
abbrev dktX3_newNames_7 : List UInt8 := dkwX3_newNames_7 ++ []
def dkwX3_newNames_6 : List UInt8 := [96, 42, 180, 0, 91, 79, 42, 180, 0, 23, 27, 92, 46, 4, 96, 79, 42, 182, 0, 128, 42, 182, 0, 158]
abbrev dktX3_newNames_6 : List UInt8 := dkwX3_newNames_6 ++ dktX3_newNames_7
def dkwX3_newNames_5 : List UInt8 := [96, 42, 180, 0, 17, 21, 6, 46, 79, 132, 6, 1, 167, 255, 220, 42, 180, 0, 23, 17, 0, 211, 21, 5]
abbrev dktX3_newNames_5 : List UInt8 := dkwX3_newNames_5 ++ dktX3_newNames_6
def dkwX3_newNames_4 : List UInt8 := [21, 6, 42, 180, 0, 91, 162, 0, 33, 42, 180, 0, 23, 17, 0, 226, 16, 8, 21, 5, 104, 96, 21, 6]
abbrev dktX3_newNames_4 : List UInt8 := dkwX3_newNames_4 ++ dktX3_newNames_5
def dkwX3_newNames_3 : List UInt8 := [182, 0, 134, 42, 180, 0, 107, 153, 0, 4, 177, 28, 42, 180, 0, 23, 27, 46, 96, 54, 5, 3, 54, 6]
abbrev dktX3_newNames_3 : List UInt8 := dkwX3_newNames_3 ++ dktX3_newNames_4
def dkwX3_newNames_2 : List UInt8 := [180, 0, 107, 154, 0, 22, 42, 180, 0, 23, 27, 46, 29, 160, 0, 12, 42, 8, 42, 180, 0, 88]
abbrev dktX3_newNames_2 : List UInt8 := dkwX3_newNames_2 ++ dktX3_newNames_3
def dkwX3_newNames_1 : List UInt8 := [180, 0, 107, 154, 0, 19, 42, 182, 0, 155, 155, 0, 12, 42, 6, 42, 180, 0, 88, 182, 0, 134, 42]
abbrev dktX3_newNames_1 : List UInt8 := dkwX3_newNames_1 ++ dktX3_newNames_2
def dkwX3_newNames_0 : List UInt8 := [42, 180, 0, 107, 154, 0, 7, 4, 167, 0, 4, 3, 54, 4, 21, 4, 153, 0, 154, 42, 182, 0, 152, 42]
abbrev dktX3_newNames_0 : List UInt8 := dkwX3_newNames_0 ++ dktX3_newNames_1
theorem dksX3_newNames_0 : cX3_newNames.data.toList.drop 0 = dktX3_newNames_0 := by decide +kernel
theorem dksX3_newNames_1 : cX3_newNames.data.toList.drop 24 = dktX3_newNames_1 := dk_seg dksX3_newNames_0 24 rfl rfl
theorem dksX3_newNames_2 : cX3_newNames.data.toList.drop 47 = dktX3_newNames_2 := dk_seg dksX3_newNames_1 23 rfl rfl
theorem dksX3_newNames_3 : cX3_newNames.data.toList.drop 69 = dktX3_newNames_3 := dk_seg dksX3_newNames_2 22 rfl rfl
theorem dksX3_newNames_4 : cX3_newNames.data.toList.drop 93 = dktX3_newNames_4 := dk_seg dksX3_newNames_3 24 rfl rfl
theorem dksX3_newNames_5 : cX3_newNames.data.toList.drop 117 = dktX3_newNames_5 := dk_seg dksX3_newNames_4 24 rfl rfl
theorem dksX3_newNames_6 : cX3_newNames.data.toList.drop 141 = dktX3_newNames_6 := dk_seg dksX3_newNames_5 24 rfl rfl
theorem dksX3_newNames_7 : cX3_newNames.data.toList.drop 165 = dktX3_newNames_7 := dk_seg dksX3_newNames_6 24 rfl rfl
theorem dX3_newNames_0 : decode cX3_newNames 0 = .ok (.aload_n 0, 1) := dk_42 (dk_at dksX3_newNames_0 0 rfl rfl)
theorem dX3_newNames_1 : decode cX3_newNames 1 = .ok (.getfield 107, 3) := dk_180 0 107 (dk_at dksX3_newNames_0 1 rfl rfl)
theorem dX3_newNames_4 : decode cX3_newNames 4 = .ok (.ifCond .ne 7, 3) := dk_154 0 7 (dk_at dksX3_newNames_0 4 rfl rfl)
theorem dX3_newNames_7 : decode cX3_newNames 7 = .ok (.iconst 1, 1) := dk_4 (dk_at dksX3_newNames_0 7 rfl rfl)
theorem dX3_newNames_8 : decode cX3_newNames 8 = .ok (.goto 4, 3) := dk_167 0 4 (dk_at dksX3_newNames_0 8 rfl rfl)
theorem dX3_newNames_11 : decode cX3_newNames 11 = .ok (.iconst 0, 1) := dk_3 (dk_at dksX3_newNames_0 11 rfl rfl)
theorem dX3_newNames_12 : decode cX3_newNames 12 = .ok (.istore 4, 2) := dk_54 4 (dk_at dksX3_newNames_0 12 rfl rfl)
theorem dX3_newNames_14 : decode cX3_newNames 14 = .ok (.iload 4, 2) := dk_21 4 (dk_at dksX3_newNames_0 14 rfl rfl)
theorem dX3_newNames_16 : decode cX3_newNames 16 = .ok (.ifCond .eq 154, 3) := dk_153 0 154 (dk_at dksX3_newNames_0 16 rfl rfl)
theorem dX3_newNames_19 : decode cX3_newNames 19 = .ok (.aload_n 0, 1) := dk_42 (dk_at dksX3_newNames_0 19 rfl rfl)
theorem dX3_newNames_20 : decode cX3_newNames 20 = .ok (.invokevirtual 152, 3) := dk_182 0 152 (dk_at dksX3_newNames_0 20 rfl rfl)
theorem dX3_newNames_23 : decode cX3_newNames 23 = .ok (.aload_n 0, 1) := dk_42 (dk_at dksX3_newNames_0 23 rfl rfl)
theorem dX3_newNames_24 : decode cX3_newNames 24 = .ok (.getfield 107, 3) := dk_180 0 107 (dk_at dksX3_newNames_1 0 rfl rfl)
theorem dX3_newNames_27 : decode cX3_newNames 27 = .ok (.ifCond .ne 19, 3) := dk_154 0 19 (dk_at dksX3_newNames_1 3 rfl rfl)
theorem dX3_newNames_30 : decode cX3_newNames 30 = .ok (.aload_n 0, 1) := dk_42 (dk_at dksX3_newNames_1 6 rfl rfl)
theorem dX3_newNames_31 : decode cX3_newNames 31 = .ok (.invokevirtual 155, 3) := dk_182 0 155 (dk_at dksX3_newNames_1 7 rfl rfl)
theorem dX3_newNames_34 : decode cX3_newNames 34 = .ok (.ifCond .lt 12, 3) := dk_155 0 12 (dk_at dksX3_newNames_1 10 rfl rfl)
theorem dX3_newNames_37 : decode cX3_newNames 37 = .ok (.aload_n 0, 1) := dk_42 (dk_at dksX3_newNames_1 13 rfl rfl)
theorem dX3_newNames_38 : decode cX3_newNames 38 = .ok (.iconst 3, 1) := dk_6 (dk_at dksX3_newNames_1 14 rfl rfl)
theorem dX3_newNames_39 : decode cX3_newNames 39 = .ok (.aload_n 0, 1) := dk_42 (dk_at dksX3_newNames_1 15 rfl rfl)
theorem dX3_newNames_40 : decode cX3_newNames 40 = .ok (.getfield 88, 3) := dk_180 0 88 (dk_at dksX3_newNames_1 16 rfl rfl)
theorem dX3_newNames_43 : decode cX3_newNames 43 = .ok (.invokevirtual 134, 3) := dk_182 0 134 (dk_at dksX3_newNames_1 19 rfl rfl)
theorem dX3_newNames_46 : decode cX3_newNames 46 = .ok (.aload_n 0, 1) := dk_42 (dk_at dksX3_newNames_1 22 rfl rfl)
theorem dX3_newNames_47 : decode cX3_newNames 47 = .ok (.getfield 107, 3) := dk_180 0 107 (dk_at dksX3_newNames_2 0 rfl rfl)
theorem dX3_newNames_50 : decode cX3_newNames 50 = .ok (.ifCond .ne 22, 3) := dk_154 0 22 (dk_at dksX3_newNames_2 3 rfl rfl)
theorem dX3_newNames_53 : decode cX3_newNames 53 = .ok (.aload_n 0, 1) := dk_42 (dk_at dksX3_newNames_2 6 rfl rfl)
theorem dX3_newNames_54 : decode cX3_newNames 54 = .ok (.getfield 23, 3) := dk_180 0 23 (dk_at dksX3_newNames_2 7 rfl rfl)
theorem dX3_newNames_57 : decode cX3_newNames 57 = .ok (.iload_n 1, 1) := dk_27 (dk_at dksX3_newNames_2 10 rfl rfl)
theorem dX3_newNames_58 : decode cX3_newNames 58 = .ok (.iaload, 1) := dk_46 (dk_at dksX3_newNames_2 11 rfl rfl)
theorem dX3_newNames_59 : decode cX3_newNames 59 = .ok (.iload_n 3, 1) := dk_29 (dk_at dksX3_newNames_2 12 rfl rfl)
theorem dX3_newNames_60 : decode cX3_newNames 60 = .ok (.if_icmp .ne 12, 3) := dk_160 0 12 (dk_at dksX3_newNames_2 13 rfl rfl)
theorem dX3_newNames_63 : decode cX3_newNames 63 = .ok (.aload_n 0, 1) := dk_42 (dk_at dksX3_newNames_2 16 rfl rfl)
theorem dX3_newNames_64 : decode cX3_newNames 64 = .ok (.iconst 5, 1) := dk_8 (dk_at dksX3_newNames_2 17 rfl rfl)
theorem dX3_newNames_65 : decode cX3_newNames 65 = .ok (.aload_n 0, 1) := dk_42 (dk_at dksX3_newNames_2 18 rfl rfl)
theorem dX3_newNames_66 : decode cX3_newNames 66 = .ok (.getfield 88, 3) := dk_180 0 88 (dk_at dksX3_newNames_2 19 rfl rfl)
theorem dX3_newNames_69 : decode cX3_newNames 69 = .ok (.invokevirtual 134, 3) := dk_182 0 134 (dk_at dksX3_newNames_3 0 rfl rfl)
theorem dX3_newNames_72 : decode cX3_newNames 72 = .ok (.aload_n 0, 1) := dk_42 (dk_at dksX3_newNames_3 3 rfl rfl)
theorem dX3_newNames_73 : decode cX3_newNames 73 = .ok (.getfield 107, 3) := dk_180 0 107 (dk_at dksX3_newNames_3 4 rfl rfl)
theorem dX3_newNames_76 : decode cX3_newNames 76 = .ok (.ifCond .eq 4, 3) := dk_153 0 4 (dk_at dksX3_newNames_3 7 rfl rfl)
theorem dX3_newNames_79 : decode cX3_newNames 79 = .ok (.return_, 1) := dk_177 (dk_at dksX3_newNames_3 10 rfl rfl)
theorem dX3_newNames_80 : decode cX3_newNames 80 = .ok (.iload_n 2, 1) := dk_28 (dk_at dksX3_newNames_3 11 rfl rfl)
theorem dX3_newNames_81 : decode cX3_newNames 81 = .ok (.aload_n 0, 1) := dk_42 (dk_at dksX3_newNames_3 12 rfl rfl)
theorem dX3_newNames_82 : decode cX3_newNames 82 = .ok (.getfield 23, 3) := dk_180 0 23 (dk_at dksX3_newNames_3 13 rfl rfl)
theorem dX3_newNames_85 : decode cX3_newNames 85 = .ok (.iload_n 1, 1) := dk_27 (dk_at dksX3_newNames_3 16 rfl rfl)
theorem dX3_newNames_86 : decode cX3_newNames 86 = .ok (.iaload, 1) := dk_46 (dk_at dksX3_newNames_3 17 rfl rfl)
theorem dX3_newNames_87 : decode cX3_newNames 87 = .ok (.iadd, 1) := dk_96 (dk_at dksX3_newNames_3 18 rfl rfl)
theorem dX3_newNames_88 : decode cX3_newNames 88 = .ok (.istore 5, 2) := dk_54 5 (dk_at dksX3_newNames_3 19 rfl rfl)
theorem dX3_newNames_90 : decode cX3_newNames 90 = .ok (.iconst 0, 1) := dk_3 (dk_at dksX3_newNames_3 21 rfl rfl)
theorem dX3_newNames_91 : decode cX3_newNames 91 = .ok (.istore 6, 2) := dk_54 6 (dk_at dksX3_newNames_3 22 rfl rfl)
theorem dX3_newNames_93 : decode cX3_newNames 93 = .ok (.iload 6, 2) := dk_21 6 (dk_at dksX3_newNames_4 0 rfl rfl)
theorem dX3_newNames_95 : decode cX3_newNames 95 = .ok (.aload_n 0, 1) := dk_42 (dk_at dksX3_newNames_4 2 rfl rfl)
theorem dX3_newNames_96 : decode cX3_newNames 96 = .ok (.getfield 91, 3) := dk_180 0 91 (dk_at dksX3_newNames_4 3 rfl rfl)
theorem dX3_newNames_99 : decode cX3_newNames 99 = .ok (.if_icmp .ge 33, 3) := dk_162 0 33 (dk_at dksX3_newNames_4 6 rfl rfl)
theorem dX3_newNames_102 : decode cX3_newNames 102 = .ok (.aload_n 0, 1) := dk_42 (dk_at dksX3_newNames_4 9 rfl rfl)
theorem dX3_newNames_103 : decode cX3_newNames 103 = .ok (.getfield 23, 3) := dk_180 0 23 (dk_at dksX3_newNames_4 10 rfl rfl)
theorem dX3_newNames_106 : decode cX3_newNames 106 = .ok (.sipush 226, 3) := dk_17 0 226 (dk_at dksX3_newNames_4 13 rfl rfl)
theorem dX3_newNames_109 : decode cX3_newNames 109 = .ok (.bipush 8, 2) := dk_16 8 (dk_at dksX3_newNames_4 16 rfl rfl)
theorem dX3_newNames_111 : decode cX3_newNames 111 = .ok (.iload 5, 2) := dk_21 5 (dk_at dksX3_newNames_4 18 rfl rfl)
theorem dX3_newNames_113 : decode cX3_newNames 113 = .ok (.imul, 1) := dk_104 (dk_at dksX3_newNames_4 20 rfl rfl)
theorem dX3_newNames_114 : decode cX3_newNames 114 = .ok (.iadd, 1) := dk_96 (dk_at dksX3_newNames_4 21 rfl rfl)
theorem dX3_newNames_115 : decode cX3_newNames 115 = .ok (.iload 6, 2) := dk_21 6 (dk_at dksX3_newNames_4 22 rfl rfl)
theorem dX3_newNames_117 : decode cX3_newNames 117 = .ok (.iadd, 1) := dk_96 (dk_at dksX3_newNames_5 0 rfl rfl)
theorem dX3_newNames_118 : decode cX3_newNames 118 = .ok (.aload_n 0, 1) := dk_42 (dk_at dksX3_newNames_5 1 rfl rfl)
theorem dX3_newNames_119 : decode cX3_newNames 119 = .ok (.getfield 17, 3) := dk_180 0 17 (dk_at dksX3_newNames_5 2 rfl rfl)
theorem dX3_newNames_122 : decode cX3_newNames 122 = .ok (.iload 6, 2) := dk_21 6 (dk_at dksX3_newNames_5 5 rfl rfl)
theorem dX3_newNames_124 : decode cX3_newNames 124 = .ok (.iaload, 1) := dk_46 (dk_at dksX3_newNames_5 7 rfl rfl)
theorem dX3_newNames_125 : decode cX3_newNames 125 = .ok (.iastore, 1) := dk_79 (dk_at dksX3_newNames_5 8 rfl rfl)
theorem dX3_newNames_126 : decode cX3_newNames 126 = .ok (.iinc 6 1, 3) := dk_132 6 1 (dk_at dksX3_newNames_5 9 rfl rfl)
theorem dX3_newNames_129 : decode cX3_newNames 129 = .ok (.goto (-36), 3) := dk_167 255 220 (dk_at dksX3_newNames_5 12 rfl rfl)
theorem dX3_newNames_132 : decode cX3_newNames 132 = .ok (.aload_n 0, 1) := dk_42 (dk_at dksX3_newNames_5 15 rfl rfl)
theorem dX3_newNames_133 : decode cX3_newNames 133 = .ok (.getfield 23, 3) := dk_180 0 23 (dk_at dksX3_newNames_5 16 rfl rfl)
theorem dX3_newNames_136 : decode cX3_newNames 136 = .ok (.sipush 211, 3) := dk_17 0 211 (dk_at dksX3_newNames_5 19 rfl rfl)
theorem dX3_newNames_139 : decode cX3_newNames 139 = .ok (.iload 5, 2) := dk_21 5 (dk_at dksX3_newNames_5 22 rfl rfl)
theorem dX3_newNames_141 : decode cX3_newNames 141 = .ok (.iadd, 1) := dk_96 (dk_at dksX3_newNames_6 0 rfl rfl)
theorem dX3_newNames_142 : decode cX3_newNames 142 = .ok (.aload_n 0, 1) := dk_42 (dk_at dksX3_newNames_6 1 rfl rfl)
theorem dX3_newNames_143 : decode cX3_newNames 143 = .ok (.getfield 91, 3) := dk_180 0 91 (dk_at dksX3_newNames_6 2 rfl rfl)
theorem dX3_newNames_146 : decode cX3_newNames 146 = .ok (.iastore, 1) := dk_79 (dk_at dksX3_newNames_6 5 rfl rfl)
theorem dX3_newNames_147 : decode cX3_newNames 147 = .ok (.aload_n 0, 1) := dk_42 (dk_at dksX3_newNames_6 6 rfl rfl)
theorem dX3_newNames_148 : decode cX3_newNames 148 = .ok (.getfield 23, 3) := dk_180 0 23 (dk_at dksX3_newNames_6 7 rfl rfl)
theorem dX3_newNames_151 : decode cX3_newNames 151 = .ok (.iload_n 1, 1) := dk_27 (dk_at dksX3_newNames_6 10 rfl rfl)
theorem dX3_newNames_152 : decode cX3_newNames 152 = .ok (.dup2, 1) := dk_92 (dk_at dksX3_newNames_6 11 rfl rfl)
theorem dX3_newNames_153 : decode cX3_newNames 153 = .ok (.iaload, 1) := dk_46 (dk_at dksX3_newNames_6 12 rfl rfl)
theorem dX3_newNames_154 : decode cX3_newNames 154 = .ok (.iconst 1, 1) := dk_4 (dk_at dksX3_newNames_6 13 rfl rfl)
theorem dX3_newNames_155 : decode cX3_newNames 155 = .ok (.iadd, 1) := dk_96 (dk_at dksX3_newNames_6 14 rfl rfl)
theorem dX3_newNames_156 : decode cX3_newNames 156 = .ok (.iastore, 1) := dk_79 (dk_at dksX3_newNames_6 15 rfl rfl)
theorem dX3_newNames_157 : decode cX3_newNames 157 = .ok (.aload_n 0, 1) := dk_42 (dk_at dksX3_newNames_6 16 rfl rfl)
theorem dX3_newNames_158 : decode cX3_newNames 158 = .ok (.invokevirtual 128, 3) := dk_182 0 128 (dk_at dksX3_newNames_6 17 rfl rfl)
theorem dX3_newNames_161 : decode cX3_newNames 161 = .ok (.aload_n 0, 1) := dk_42 (dk_at dksX3_newNames_6 20 rfl rfl)
theorem dX3_newNames_162 : decode cX3_newNames 162 = .ok (.invokevirtual 158, 3) := dk_182 0 158 (dk_at dksX3_newNames_6 21 rfl rfl)
theorem dX3_newNames_165 : decode cX3_newNames 165 = .ok (.istore 4, 2) := dk_54 4 (dk_at dksX3_newNames_7 0 rfl rfl)
theorem dX3_newNames_167 : decode cX3_newNames 167 = .ok (.goto (-153), 3) := dk_167 255 103 (dk_at dksX3_newNames_7 2 rfl rfl)
theorem dX3_newNames_170 : decode cX3_newNames 170 = .ok (.return_, 1) := dk_177 (dk_at dksX3_newNames_7 5 rfl rfl)
abbrev cX3_mustName : ByteArray := prog_18_method_19_code
def yX3_mustName : MethodName := ⟨RX3, "mustName", "()V"⟩
def dkwX3_mustName_3 : List UInt8 := [180, 0, 97, 5, 160, 0, 7, 27, 153, 0, 12, 42, 4, 42, 180, 0, 88, 182, 0, 134, 177]
abbrev dktX3_mustName_3 : List UInt8 := dkwX3_mustName_3 ++ []
def dkwX3_mustName_2 : List UInt8 := [182, 0, 124, 154, 0, 12, 42, 18, 150, 182, 0, 124, 153, 0, 7, 4, 167, 0, 4, 3, 60, 42]
abbrev dktX3_mustName_2 : List UInt8 := dkwX3_mustName_2 ++ dktX3_mustName_3
def dkwX3_mustName_1 : List UInt8 := [154, 0, 39, 42, 18, 144, 182, 0, 124, 154, 0, 30, 42, 18, 146, 182, 0, 124, 154, 0, 21, 42, 18, 148]
abbrev dktX3_mustName_1 : List UInt8 := dkwX3_mustName_1 ++ dktX3_mustName_2
def dkwX3_mustName_0 : List UInt8 := [42, 18, 138, 182, 0, 124, 154, 0, 57, 42, 18, 140, 182, 0, 124, 154, 0, 48, 42, 18, 142, 182, 0, 124]
abbrev dktX3_mustName_0 : List UInt8 := dkwX3_mustName_0 ++ dktX3_mustName_1
theorem dksX3_mustName_0 : cX3_mustName.data.toList.drop 0 = dktX3_mustName_0 := by decide +kernel
theorem dksX3_mustName_1 : cX3_mustName.data.toList.drop 24 = dktX3_mustName_1 := dk_seg dksX3_mustName_0 24 rfl rfl
theorem dksX3_mustName_2 : cX3_mustName.data.toList.drop 48 = dktX3_mustName_2 := dk_seg dksX3_mustName_1 24 rfl rfl
theorem dksX3_mustName_3 : cX3_mustName.data.toList.drop 70 = dktX3_mustName_3 := dk_seg dksX3_mustName_2 22 rfl rfl
theorem dX3_mustName_0 : decode cX3_mustName 0 = .ok (.aload_n 0, 1) := dk_42 (dk_at dksX3_mustName_0 0 rfl rfl)
theorem dX3_mustName_1 : decode cX3_mustName 1 = .ok (.ldc 138, 2) := dk_18 138 (dk_at dksX3_mustName_0 1 rfl rfl)
theorem dX3_mustName_3 : decode cX3_mustName 3 = .ok (.invokevirtual 124, 3) := dk_182 0 124 (dk_at dksX3_mustName_0 3 rfl rfl)
theorem dX3_mustName_6 : decode cX3_mustName 6 = .ok (.ifCond .ne 57, 3) := dk_154 0 57 (dk_at dksX3_mustName_0 6 rfl rfl)
theorem dX3_mustName_9 : decode cX3_mustName 9 = .ok (.aload_n 0, 1) := dk_42 (dk_at dksX3_mustName_0 9 rfl rfl)
theorem dX3_mustName_10 : decode cX3_mustName 10 = .ok (.ldc 140, 2) := dk_18 140 (dk_at dksX3_mustName_0 10 rfl rfl)
theorem dX3_mustName_12 : decode cX3_mustName 12 = .ok (.invokevirtual 124, 3) := dk_182 0 124 (dk_at dksX3_mustName_0 12 rfl rfl)
theorem dX3_mustName_15 : decode cX3_mustName 15 = .ok (.ifCond .ne 48, 3) := dk_154 0 48 (dk_at dksX3_mustName_0 15 rfl rfl)
theorem dX3_mustName_18 : decode cX3_mustName 18 = .ok (.aload_n 0, 1) := dk_42 (dk_at dksX3_mustName_0 18 rfl rfl)
theorem dX3_mustName_19 : decode cX3_mustName 19 = .ok (.ldc 142, 2) := dk_18 142 (dk_at dksX3_mustName_0 19 rfl rfl)
theorem dX3_mustName_21 : decode cX3_mustName 21 = .ok (.invokevirtual 124, 3) := dk_182 0 124 (dk_at dksX3_mustName_0 21 rfl rfl)
theorem dX3_mustName_24 : decode cX3_mustName 24 = .ok (.ifCond .ne 39, 3) := dk_154 0 39 (dk_at dksX3_mustName_1 0 rfl rfl)
theorem dX3_mustName_27 : decode cX3_mustName 27 = .ok (.aload_n 0, 1) := dk_42 (dk_at dksX3_mustName_1 3 rfl rfl)
theorem dX3_mustName_28 : decode cX3_mustName 28 = .ok (.ldc 144, 2) := dk_18 144 (dk_at dksX3_mustName_1 4 rfl rfl)
theorem dX3_mustName_30 : decode cX3_mustName 30 = .ok (.invokevirtual 124, 3) := dk_182 0 124 (dk_at dksX3_mustName_1 6 rfl rfl)
theorem dX3_mustName_33 : decode cX3_mustName 33 = .ok (.ifCond .ne 30, 3) := dk_154 0 30 (dk_at dksX3_mustName_1 9 rfl rfl)
theorem dX3_mustName_36 : decode cX3_mustName 36 = .ok (.aload_n 0, 1) := dk_42 (dk_at dksX3_mustName_1 12 rfl rfl)
theorem dX3_mustName_37 : decode cX3_mustName 37 = .ok (.ldc 146, 2) := dk_18 146 (dk_at dksX3_mustName_1 13 rfl rfl)
theorem dX3_mustName_39 : decode cX3_mustName 39 = .ok (.invokevirtual 124, 3) := dk_182 0 124 (dk_at dksX3_mustName_1 15 rfl rfl)
theorem dX3_mustName_42 : decode cX3_mustName 42 = .ok (.ifCond .ne 21, 3) := dk_154 0 21 (dk_at dksX3_mustName_1 18 rfl rfl)
theorem dX3_mustName_45 : decode cX3_mustName 45 = .ok (.aload_n 0, 1) := dk_42 (dk_at dksX3_mustName_1 21 rfl rfl)
theorem dX3_mustName_46 : decode cX3_mustName 46 = .ok (.ldc 148, 2) := dk_18 148 (dk_at dksX3_mustName_1 22 rfl rfl)
theorem dX3_mustName_48 : decode cX3_mustName 48 = .ok (.invokevirtual 124, 3) := dk_182 0 124 (dk_at dksX3_mustName_2 0 rfl rfl)
theorem dX3_mustName_51 : decode cX3_mustName 51 = .ok (.ifCond .ne 12, 3) := dk_154 0 12 (dk_at dksX3_mustName_2 3 rfl rfl)
theorem dX3_mustName_54 : decode cX3_mustName 54 = .ok (.aload_n 0, 1) := dk_42 (dk_at dksX3_mustName_2 6 rfl rfl)
theorem dX3_mustName_55 : decode cX3_mustName 55 = .ok (.ldc 150, 2) := dk_18 150 (dk_at dksX3_mustName_2 7 rfl rfl)
theorem dX3_mustName_57 : decode cX3_mustName 57 = .ok (.invokevirtual 124, 3) := dk_182 0 124 (dk_at dksX3_mustName_2 9 rfl rfl)
theorem dX3_mustName_60 : decode cX3_mustName 60 = .ok (.ifCond .eq 7, 3) := dk_153 0 7 (dk_at dksX3_mustName_2 12 rfl rfl)
theorem dX3_mustName_63 : decode cX3_mustName 63 = .ok (.iconst 1, 1) := dk_4 (dk_at dksX3_mustName_2 15 rfl rfl)
theorem dX3_mustName_64 : decode cX3_mustName 64 = .ok (.goto 4, 3) := dk_167 0 4 (dk_at dksX3_mustName_2 16 rfl rfl)
theorem dX3_mustName_67 : decode cX3_mustName 67 = .ok (.iconst 0, 1) := dk_3 (dk_at dksX3_mustName_2 19 rfl rfl)
theorem dX3_mustName_68 : decode cX3_mustName 68 = .ok (.istore_n 1, 1) := dk_60 (dk_at dksX3_mustName_2 20 rfl rfl)
theorem dX3_mustName_69 : decode cX3_mustName 69 = .ok (.aload_n 0, 1) := dk_42 (dk_at dksX3_mustName_2 21 rfl rfl)
theorem dX3_mustName_70 : decode cX3_mustName 70 = .ok (.getfield 97, 3) := dk_180 0 97 (dk_at dksX3_mustName_3 0 rfl rfl)
theorem dX3_mustName_73 : decode cX3_mustName 73 = .ok (.iconst 2, 1) := dk_5 (dk_at dksX3_mustName_3 3 rfl rfl)
theorem dX3_mustName_74 : decode cX3_mustName 74 = .ok (.if_icmp .ne 7, 3) := dk_160 0 7 (dk_at dksX3_mustName_3 4 rfl rfl)
theorem dX3_mustName_77 : decode cX3_mustName 77 = .ok (.iload_n 1, 1) := dk_27 (dk_at dksX3_mustName_3 7 rfl rfl)
theorem dX3_mustName_78 : decode cX3_mustName 78 = .ok (.ifCond .eq 12, 3) := dk_153 0 12 (dk_at dksX3_mustName_3 8 rfl rfl)
theorem dX3_mustName_81 : decode cX3_mustName 81 = .ok (.aload_n 0, 1) := dk_42 (dk_at dksX3_mustName_3 11 rfl rfl)
theorem dX3_mustName_82 : decode cX3_mustName 82 = .ok (.iconst 1, 1) := dk_4 (dk_at dksX3_mustName_3 12 rfl rfl)
theorem dX3_mustName_83 : decode cX3_mustName 83 = .ok (.aload_n 0, 1) := dk_42 (dk_at dksX3_mustName_3 13 rfl rfl)
theorem dX3_mustName_84 : decode cX3_mustName 84 = .ok (.getfield 88, 3) := dk_180 0 88 (dk_at dksX3_mustName_3 14 rfl rfl)
theorem dX3_mustName_87 : decode cX3_mustName 87 = .ok (.invokevirtual 134, 3) := dk_182 0 134 (dk_at dksX3_mustName_3 17 rfl rfl)
theorem dX3_mustName_90 : decode cX3_mustName 90 = .ok (.return_, 1) := dk_177 (dk_at dksX3_mustName_3 20 rfl rfl)
abbrev cX3_find : ByteArray := prog_18_method_20_code
def yX3_find : MethodName := ⟨RX3, "find", "()I"⟩
def dkwX3_find_4 : List UInt8 := [28, 153, 0, 5, 27, 172, 132, 1, 1, 167, 255, 155, 2, 172]
abbrev dktX3_find_4 : List UInt8 := dkwX3_find_4 ++ []
def dkwX3_find_3 : List UInt8 := [29, 96, 46, 42, 180, 0, 17, 29, 46, 160, 0, 7, 4, 167, 0, 4, 3, 61, 132, 3, 1, 167, 255, 211]
abbrev dktX3_find_3 : List UInt8 := dkwX3_find_3 ++ dktX3_find_4
def dkwX3_find_2 : List UInt8 := [29, 42, 180, 0, 91, 162, 0, 43, 28, 153, 0, 39, 42, 180, 0, 23, 17, 0, 226, 16, 8, 27, 104, 96]
abbrev dktX3_find_2 : List UInt8 := dkwX3_find_2 ++ dktX3_find_3
def dkwX3_find_1 : List UInt8 := [180, 0, 23, 17, 0, 211, 27, 96, 46, 42, 180, 0, 91, 160, 0, 7, 4, 167, 0, 4, 3, 61, 3, 62]
abbrev dktX3_find_1 : List UInt8 := dkwX3_find_1 ++ dktX3_find_2
def dkwX3_find_0 : List UInt8 := [3, 60, 27, 16, 15, 162, 0, 101, 42, 180, 0, 23, 17, 0, 211, 27, 96, 46, 158, 0, 24, 42]
abbrev dktX3_find_0 : List UInt8 := dkwX3_find_0 ++ dktX3_find_1
theorem dksX3_find_0 : cX3_find.data.toList.drop 0 = dktX3_find_0 := by decide +kernel
theorem dksX3_find_1 : cX3_find.data.toList.drop 22 = dktX3_find_1 := dk_seg dksX3_find_0 22 rfl rfl
theorem dksX3_find_2 : cX3_find.data.toList.drop 46 = dktX3_find_2 := dk_seg dksX3_find_1 24 rfl rfl
theorem dksX3_find_3 : cX3_find.data.toList.drop 70 = dktX3_find_3 := dk_seg dksX3_find_2 24 rfl rfl
theorem dksX3_find_4 : cX3_find.data.toList.drop 94 = dktX3_find_4 := dk_seg dksX3_find_3 24 rfl rfl
theorem dX3_find_0 : decode cX3_find 0 = .ok (.iconst 0, 1) := dk_3 (dk_at dksX3_find_0 0 rfl rfl)
theorem dX3_find_1 : decode cX3_find 1 = .ok (.istore_n 1, 1) := dk_60 (dk_at dksX3_find_0 1 rfl rfl)
theorem dX3_find_2 : decode cX3_find 2 = .ok (.iload_n 1, 1) := dk_27 (dk_at dksX3_find_0 2 rfl rfl)
theorem dX3_find_3 : decode cX3_find 3 = .ok (.bipush 15, 2) := dk_16 15 (dk_at dksX3_find_0 3 rfl rfl)
theorem dX3_find_5 : decode cX3_find 5 = .ok (.if_icmp .ge 101, 3) := dk_162 0 101 (dk_at dksX3_find_0 5 rfl rfl)
theorem dX3_find_8 : decode cX3_find 8 = .ok (.aload_n 0, 1) := dk_42 (dk_at dksX3_find_0 8 rfl rfl)
theorem dX3_find_9 : decode cX3_find 9 = .ok (.getfield 23, 3) := dk_180 0 23 (dk_at dksX3_find_0 9 rfl rfl)
theorem dX3_find_12 : decode cX3_find 12 = .ok (.sipush 211, 3) := dk_17 0 211 (dk_at dksX3_find_0 12 rfl rfl)
theorem dX3_find_15 : decode cX3_find 15 = .ok (.iload_n 1, 1) := dk_27 (dk_at dksX3_find_0 15 rfl rfl)
theorem dX3_find_16 : decode cX3_find 16 = .ok (.iadd, 1) := dk_96 (dk_at dksX3_find_0 16 rfl rfl)
theorem dX3_find_17 : decode cX3_find 17 = .ok (.iaload, 1) := dk_46 (dk_at dksX3_find_0 17 rfl rfl)
theorem dX3_find_18 : decode cX3_find 18 = .ok (.ifCond .le 24, 3) := dk_158 0 24 (dk_at dksX3_find_0 18 rfl rfl)
theorem dX3_find_21 : decode cX3_find 21 = .ok (.aload_n 0, 1) := dk_42 (dk_at dksX3_find_0 21 rfl rfl)
theorem dX3_find_22 : decode cX3_find 22 = .ok (.getfield 23, 3) := dk_180 0 23 (dk_at dksX3_find_1 0 rfl rfl)
theorem dX3_find_25 : decode cX3_find 25 = .ok (.sipush 211, 3) := dk_17 0 211 (dk_at dksX3_find_1 3 rfl rfl)
theorem dX3_find_28 : decode cX3_find 28 = .ok (.iload_n 1, 1) := dk_27 (dk_at dksX3_find_1 6 rfl rfl)
theorem dX3_find_29 : decode cX3_find 29 = .ok (.iadd, 1) := dk_96 (dk_at dksX3_find_1 7 rfl rfl)
theorem dX3_find_30 : decode cX3_find 30 = .ok (.iaload, 1) := dk_46 (dk_at dksX3_find_1 8 rfl rfl)
theorem dX3_find_31 : decode cX3_find 31 = .ok (.aload_n 0, 1) := dk_42 (dk_at dksX3_find_1 9 rfl rfl)
theorem dX3_find_32 : decode cX3_find 32 = .ok (.getfield 91, 3) := dk_180 0 91 (dk_at dksX3_find_1 10 rfl rfl)
theorem dX3_find_35 : decode cX3_find 35 = .ok (.if_icmp .ne 7, 3) := dk_160 0 7 (dk_at dksX3_find_1 13 rfl rfl)
theorem dX3_find_38 : decode cX3_find 38 = .ok (.iconst 1, 1) := dk_4 (dk_at dksX3_find_1 16 rfl rfl)
theorem dX3_find_39 : decode cX3_find 39 = .ok (.goto 4, 3) := dk_167 0 4 (dk_at dksX3_find_1 17 rfl rfl)
theorem dX3_find_42 : decode cX3_find 42 = .ok (.iconst 0, 1) := dk_3 (dk_at dksX3_find_1 20 rfl rfl)
theorem dX3_find_43 : decode cX3_find 43 = .ok (.istore_n 2, 1) := dk_61 (dk_at dksX3_find_1 21 rfl rfl)
theorem dX3_find_44 : decode cX3_find 44 = .ok (.iconst 0, 1) := dk_3 (dk_at dksX3_find_1 22 rfl rfl)
theorem dX3_find_45 : decode cX3_find 45 = .ok (.istore_n 3, 1) := dk_62 (dk_at dksX3_find_1 23 rfl rfl)
theorem dX3_find_46 : decode cX3_find 46 = .ok (.iload_n 3, 1) := dk_29 (dk_at dksX3_find_2 0 rfl rfl)
theorem dX3_find_47 : decode cX3_find 47 = .ok (.aload_n 0, 1) := dk_42 (dk_at dksX3_find_2 1 rfl rfl)
theorem dX3_find_48 : decode cX3_find 48 = .ok (.getfield 91, 3) := dk_180 0 91 (dk_at dksX3_find_2 2 rfl rfl)
theorem dX3_find_51 : decode cX3_find 51 = .ok (.if_icmp .ge 43, 3) := dk_162 0 43 (dk_at dksX3_find_2 5 rfl rfl)
theorem dX3_find_54 : decode cX3_find 54 = .ok (.iload_n 2, 1) := dk_28 (dk_at dksX3_find_2 8 rfl rfl)
theorem dX3_find_55 : decode cX3_find 55 = .ok (.ifCond .eq 39, 3) := dk_153 0 39 (dk_at dksX3_find_2 9 rfl rfl)
theorem dX3_find_58 : decode cX3_find 58 = .ok (.aload_n 0, 1) := dk_42 (dk_at dksX3_find_2 12 rfl rfl)
theorem dX3_find_59 : decode cX3_find 59 = .ok (.getfield 23, 3) := dk_180 0 23 (dk_at dksX3_find_2 13 rfl rfl)
theorem dX3_find_62 : decode cX3_find 62 = .ok (.sipush 226, 3) := dk_17 0 226 (dk_at dksX3_find_2 16 rfl rfl)
theorem dX3_find_65 : decode cX3_find 65 = .ok (.bipush 8, 2) := dk_16 8 (dk_at dksX3_find_2 19 rfl rfl)
theorem dX3_find_67 : decode cX3_find 67 = .ok (.iload_n 1, 1) := dk_27 (dk_at dksX3_find_2 21 rfl rfl)
theorem dX3_find_68 : decode cX3_find 68 = .ok (.imul, 1) := dk_104 (dk_at dksX3_find_2 22 rfl rfl)
theorem dX3_find_69 : decode cX3_find 69 = .ok (.iadd, 1) := dk_96 (dk_at dksX3_find_2 23 rfl rfl)
theorem dX3_find_70 : decode cX3_find 70 = .ok (.iload_n 3, 1) := dk_29 (dk_at dksX3_find_3 0 rfl rfl)
theorem dX3_find_71 : decode cX3_find 71 = .ok (.iadd, 1) := dk_96 (dk_at dksX3_find_3 1 rfl rfl)
theorem dX3_find_72 : decode cX3_find 72 = .ok (.iaload, 1) := dk_46 (dk_at dksX3_find_3 2 rfl rfl)
theorem dX3_find_73 : decode cX3_find 73 = .ok (.aload_n 0, 1) := dk_42 (dk_at dksX3_find_3 3 rfl rfl)
theorem dX3_find_74 : decode cX3_find 74 = .ok (.getfield 17, 3) := dk_180 0 17 (dk_at dksX3_find_3 4 rfl rfl)
theorem dX3_find_77 : decode cX3_find 77 = .ok (.iload_n 3, 1) := dk_29 (dk_at dksX3_find_3 7 rfl rfl)
theorem dX3_find_78 : decode cX3_find 78 = .ok (.iaload, 1) := dk_46 (dk_at dksX3_find_3 8 rfl rfl)
theorem dX3_find_79 : decode cX3_find 79 = .ok (.if_icmp .ne 7, 3) := dk_160 0 7 (dk_at dksX3_find_3 9 rfl rfl)
theorem dX3_find_82 : decode cX3_find 82 = .ok (.iconst 1, 1) := dk_4 (dk_at dksX3_find_3 12 rfl rfl)
theorem dX3_find_83 : decode cX3_find 83 = .ok (.goto 4, 3) := dk_167 0 4 (dk_at dksX3_find_3 13 rfl rfl)
theorem dX3_find_86 : decode cX3_find 86 = .ok (.iconst 0, 1) := dk_3 (dk_at dksX3_find_3 16 rfl rfl)
theorem dX3_find_87 : decode cX3_find 87 = .ok (.istore_n 2, 1) := dk_61 (dk_at dksX3_find_3 17 rfl rfl)
theorem dX3_find_88 : decode cX3_find 88 = .ok (.iinc 3 1, 3) := dk_132 3 1 (dk_at dksX3_find_3 18 rfl rfl)
theorem dX3_find_91 : decode cX3_find 91 = .ok (.goto (-45), 3) := dk_167 255 211 (dk_at dksX3_find_3 21 rfl rfl)
theorem dX3_find_94 : decode cX3_find 94 = .ok (.iload_n 2, 1) := dk_28 (dk_at dksX3_find_4 0 rfl rfl)
theorem dX3_find_95 : decode cX3_find 95 = .ok (.ifCond .eq 5, 3) := dk_153 0 5 (dk_at dksX3_find_4 1 rfl rfl)
theorem dX3_find_98 : decode cX3_find 98 = .ok (.iload_n 1, 1) := dk_27 (dk_at dksX3_find_4 4 rfl rfl)
theorem dX3_find_99 : decode cX3_find 99 = .ok (.ireturn, 1) := dk_172 (dk_at dksX3_find_4 5 rfl rfl)
theorem dX3_find_100 : decode cX3_find 100 = .ok (.iinc 1 1, 3) := dk_132 1 1 (dk_at dksX3_find_4 6 rfl rfl)
theorem dX3_find_103 : decode cX3_find 103 = .ok (.goto (-101), 3) := dk_167 255 155 (dk_at dksX3_find_4 9 rfl rfl)
theorem dX3_find_106 : decode cX3_find 106 = .ok (.iconst (-1), 1) := dk_2 (dk_at dksX3_find_4 12 rfl rfl)
theorem dX3_find_107 : decode cX3_find 107 = .ok (.ireturn, 1) := dk_172 (dk_at dksX3_find_4 13 rfl rfl)
abbrev cX3_comma : ByteArray := prog_18_method_25_code
def yX3_comma : MethodName := ⟨RX3, "comma", "()Z"⟩
def dkwX3_comma_0 : List UInt8 := [42, 180, 0, 107, 154, 0, 12, 42, 180, 0, 97, 16, 44, 159, 0, 5, 3, 172, 42, 182, 0, 128, 4, 172]
abbrev dktX3_comma_0 : List UInt8 := dkwX3_comma_0 ++ []
theorem dksX3_comma_0 : cX3_comma.data.toList.drop 0 = dktX3_comma_0 := by decide +kernel
theorem dX3_comma_0 : decode cX3_comma 0 = .ok (.aload_n 0, 1) := dk_42 (dk_at dksX3_comma_0 0 rfl rfl)
theorem dX3_comma_1 : decode cX3_comma 1 = .ok (.getfield 107, 3) := dk_180 0 107 (dk_at dksX3_comma_0 1 rfl rfl)
theorem dX3_comma_4 : decode cX3_comma 4 = .ok (.ifCond .ne 12, 3) := dk_154 0 12 (dk_at dksX3_comma_0 4 rfl rfl)
theorem dX3_comma_7 : decode cX3_comma 7 = .ok (.aload_n 0, 1) := dk_42 (dk_at dksX3_comma_0 7 rfl rfl)
theorem dX3_comma_8 : decode cX3_comma 8 = .ok (.getfield 97, 3) := dk_180 0 97 (dk_at dksX3_comma_0 8 rfl rfl)
theorem dX3_comma_11 : decode cX3_comma 11 = .ok (.bipush 44, 2) := dk_16 44 (dk_at dksX3_comma_0 11 rfl rfl)
theorem dX3_comma_13 : decode cX3_comma 13 = .ok (.if_icmp .eq 5, 3) := dk_159 0 5 (dk_at dksX3_comma_0 13 rfl rfl)
theorem dX3_comma_16 : decode cX3_comma 16 = .ok (.iconst 0, 1) := dk_3 (dk_at dksX3_comma_0 16 rfl rfl)
theorem dX3_comma_17 : decode cX3_comma 17 = .ok (.ireturn, 1) := dk_172 (dk_at dksX3_comma_0 17 rfl rfl)
theorem dX3_comma_18 : decode cX3_comma 18 = .ok (.aload_n 0, 1) := dk_42 (dk_at dksX3_comma_0 18 rfl rfl)
theorem dX3_comma_19 : decode cX3_comma 19 = .ok (.invokevirtual 128, 3) := dk_182 0 128 (dk_at dksX3_comma_0 19 rfl rfl)
theorem dX3_comma_22 : decode cX3_comma 22 = .ok (.iconst 1, 1) := dk_4 (dk_at dksX3_comma_0 22 rfl rfl)
theorem dX3_comma_23 : decode cX3_comma 23 = .ok (.ireturn, 1) := dk_172 (dk_at dksX3_comma_0 23 rfl rfl)
abbrev cX3_setLine : ByteArray := prog_18_method_32_code
def yX3_setLine : MethodName := ⟨RX3, "setLine", "()V"⟩
def dkwX3_setLine_12 : List UInt8 := [46, 4, 96, 79, 177]
abbrev dktX3_setLine_12 : List UInt8 := dkwX3_setLine_12 ++ []
def dkwX3_setLine_11 : List UInt8 := [21, 7, 96, 54, 4, 132, 5, 1, 167, 255, 131, 42, 180, 0, 107, 154, 0, 13, 42, 180, 0, 23, 3, 92]
abbrev dktX3_setLine_11 : List UInt8 := dkwX3_setLine_11 ++ dktX3_setLine_12
def dkwX3_setLine_10 : List UInt8 := [182, 0, 227, 54, 7, 42, 180, 0, 23, 16, 17, 7, 27, 104, 96, 21, 5, 96, 21, 7, 79, 21, 4]
abbrev dktX3_setLine_10 : List UInt8 := dkwX3_setLine_10 ++ dktX3_setLine_11
def dkwX3_setLine_9 : List UInt8 := [96, 42, 180, 0, 23, 16, 49, 46, 159, 0, 12, 42, 7, 42, 180, 0, 88, 182, 0, 134, 42, 3, 16, 60]
abbrev dktX3_setLine_9 : List UInt8 := dkwX3_setLine_9 ++ dktX3_setLine_10
def dkwX3_setLine_8 : List UInt8 := [184, 0, 170, 153, 0, 7, 4, 167, 0, 4, 3, 54, 6, 21, 6, 153, 0, 29, 21, 4, 42, 180, 0, 94]
abbrev dktX3_setLine_8 : List UInt8 := dkwX3_setLine_8 ++ dktX3_setLine_9
def dkwX3_setLine_7 : List UInt8 := [177, 21, 5, 29, 4, 100, 160, 0, 28, 42, 180, 0, 97, 6, 160, 0, 20, 42, 180, 0, 94, 3, 16, 60]
abbrev dktX3_setLine_7 : List UInt8 := dkwX3_setLine_7 ++ dktX3_setLine_8
def dkwX3_setLine_6 : List UInt8 := [54, 5, 21, 5, 29, 162, 0, 125, 21, 5, 158, 0, 7, 42, 182, 0, 235, 42, 180, 0, 107, 153, 0, 4]
abbrev dktX3_setLine_6 : List UInt8 := dkwX3_setLine_6 ++ dktX3_setLine_7
def dkwX3_setLine_5 : List UInt8 := [180, 0, 23, 16, 9, 27, 96, 46, 16, 254, 160, 0, 7, 5, 167, 0, 4, 7, 62, 3, 54, 4, 3]
abbrev dktX3_setLine_5 : List UInt8 := dkwX3_setLine_5 ++ dktX3_setLine_6
def dkwX3_setLine_4 : List UInt8 := [180, 0, 23, 16, 9, 27, 96, 42, 4, 4, 28, 120, 182, 0, 231, 79, 42, 18, 234, 182, 0, 223, 42]
abbrev dktX3_setLine_4 : List UInt8 := dkwX3_setLine_4 ++ dktX3_setLine_5
def dkwX3_setLine_3 : List UInt8 := [96, 28, 79, 42, 180, 0, 23, 16, 9, 27, 96, 16, 254, 79, 42, 182, 0, 158, 153, 0, 20, 42]
abbrev dktX3_setLine_3 : List UInt8 := dkwX3_setLine_3 ++ dktX3_setLine_4
def dkwX3_setLine_2 : List UInt8 := [42, 182, 0, 128, 42, 180, 0, 23, 3, 46, 60, 42, 4, 3, 182, 0, 231, 61, 42, 180, 0, 23, 4, 27]
abbrev dktX3_setLine_2 : List UInt8 := dkwX3_setLine_2 ++ dktX3_setLine_3
def dkwX3_setLine_1 : List UInt8 := [16, 49, 46, 154, 0, 13, 42, 16, 6, 42, 180, 0, 88, 182, 0, 134, 42, 180, 0, 107, 153, 0, 4, 177]
abbrev dktX3_setLine_1 : List UInt8 := dkwX3_setLine_1 ++ dktX3_setLine_2
def dkwX3_setLine_0 : List UInt8 := [42, 180, 0, 23, 3, 46, 16, 8, 160, 0, 12, 42, 8, 42, 180, 0, 88, 182, 0, 134, 42, 180, 0, 23]
abbrev dktX3_setLine_0 : List UInt8 := dkwX3_setLine_0 ++ dktX3_setLine_1
theorem dksX3_setLine_0 : cX3_setLine.data.toList.drop 0 = dktX3_setLine_0 := by decide +kernel
theorem dksX3_setLine_1 : cX3_setLine.data.toList.drop 24 = dktX3_setLine_1 := dk_seg dksX3_setLine_0 24 rfl rfl
theorem dksX3_setLine_2 : cX3_setLine.data.toList.drop 48 = dktX3_setLine_2 := dk_seg dksX3_setLine_1 24 rfl rfl
theorem dksX3_setLine_3 : cX3_setLine.data.toList.drop 72 = dktX3_setLine_3 := dk_seg dksX3_setLine_2 24 rfl rfl
theorem dksX3_setLine_4 : cX3_setLine.data.toList.drop 94 = dktX3_setLine_4 := dk_seg dksX3_setLine_3 22 rfl rfl
theorem dksX3_setLine_5 : cX3_setLine.data.toList.drop 117 = dktX3_setLine_5 := dk_seg dksX3_setLine_4 23 rfl rfl
theorem dksX3_setLine_6 : cX3_setLine.data.toList.drop 140 = dktX3_setLine_6 := dk_seg dksX3_setLine_5 23 rfl rfl
theorem dksX3_setLine_7 : cX3_setLine.data.toList.drop 164 = dktX3_setLine_7 := dk_seg dksX3_setLine_6 24 rfl rfl
theorem dksX3_setLine_8 : cX3_setLine.data.toList.drop 188 = dktX3_setLine_8 := dk_seg dksX3_setLine_7 24 rfl rfl
theorem dksX3_setLine_9 : cX3_setLine.data.toList.drop 212 = dktX3_setLine_9 := dk_seg dksX3_setLine_8 24 rfl rfl
theorem dksX3_setLine_10 : cX3_setLine.data.toList.drop 236 = dktX3_setLine_10 := dk_seg dksX3_setLine_9 24 rfl rfl
theorem dksX3_setLine_11 : cX3_setLine.data.toList.drop 259 = dktX3_setLine_11 := dk_seg dksX3_setLine_10 23 rfl rfl
theorem dksX3_setLine_12 : cX3_setLine.data.toList.drop 283 = dktX3_setLine_12 := dk_seg dksX3_setLine_11 24 rfl rfl
theorem dX3_setLine_0 : decode cX3_setLine 0 = .ok (.aload_n 0, 1) := dk_42 (dk_at dksX3_setLine_0 0 rfl rfl)
theorem dX3_setLine_1 : decode cX3_setLine 1 = .ok (.getfield 23, 3) := dk_180 0 23 (dk_at dksX3_setLine_0 1 rfl rfl)
theorem dX3_setLine_4 : decode cX3_setLine 4 = .ok (.iconst 0, 1) := dk_3 (dk_at dksX3_setLine_0 4 rfl rfl)
theorem dX3_setLine_5 : decode cX3_setLine 5 = .ok (.iaload, 1) := dk_46 (dk_at dksX3_setLine_0 5 rfl rfl)
theorem dX3_setLine_6 : decode cX3_setLine 6 = .ok (.bipush 8, 2) := dk_16 8 (dk_at dksX3_setLine_0 6 rfl rfl)
theorem dX3_setLine_8 : decode cX3_setLine 8 = .ok (.if_icmp .ne 12, 3) := dk_160 0 12 (dk_at dksX3_setLine_0 8 rfl rfl)
theorem dX3_setLine_11 : decode cX3_setLine 11 = .ok (.aload_n 0, 1) := dk_42 (dk_at dksX3_setLine_0 11 rfl rfl)
theorem dX3_setLine_12 : decode cX3_setLine 12 = .ok (.iconst 5, 1) := dk_8 (dk_at dksX3_setLine_0 12 rfl rfl)
theorem dX3_setLine_13 : decode cX3_setLine 13 = .ok (.aload_n 0, 1) := dk_42 (dk_at dksX3_setLine_0 13 rfl rfl)
theorem dX3_setLine_14 : decode cX3_setLine 14 = .ok (.getfield 88, 3) := dk_180 0 88 (dk_at dksX3_setLine_0 14 rfl rfl)
theorem dX3_setLine_17 : decode cX3_setLine 17 = .ok (.invokevirtual 134, 3) := dk_182 0 134 (dk_at dksX3_setLine_0 17 rfl rfl)
theorem dX3_setLine_20 : decode cX3_setLine 20 = .ok (.aload_n 0, 1) := dk_42 (dk_at dksX3_setLine_0 20 rfl rfl)
theorem dX3_setLine_21 : decode cX3_setLine 21 = .ok (.getfield 23, 3) := dk_180 0 23 (dk_at dksX3_setLine_0 21 rfl rfl)
theorem dX3_setLine_24 : decode cX3_setLine 24 = .ok (.bipush 49, 2) := dk_16 49 (dk_at dksX3_setLine_1 0 rfl rfl)
theorem dX3_setLine_26 : decode cX3_setLine 26 = .ok (.iaload, 1) := dk_46 (dk_at dksX3_setLine_1 2 rfl rfl)
theorem dX3_setLine_27 : decode cX3_setLine 27 = .ok (.ifCond .ne 13, 3) := dk_154 0 13 (dk_at dksX3_setLine_1 3 rfl rfl)
theorem dX3_setLine_30 : decode cX3_setLine 30 = .ok (.aload_n 0, 1) := dk_42 (dk_at dksX3_setLine_1 6 rfl rfl)
theorem dX3_setLine_31 : decode cX3_setLine 31 = .ok (.bipush 6, 2) := dk_16 6 (dk_at dksX3_setLine_1 7 rfl rfl)
theorem dX3_setLine_33 : decode cX3_setLine 33 = .ok (.aload_n 0, 1) := dk_42 (dk_at dksX3_setLine_1 9 rfl rfl)
theorem dX3_setLine_34 : decode cX3_setLine 34 = .ok (.getfield 88, 3) := dk_180 0 88 (dk_at dksX3_setLine_1 10 rfl rfl)
theorem dX3_setLine_37 : decode cX3_setLine 37 = .ok (.invokevirtual 134, 3) := dk_182 0 134 (dk_at dksX3_setLine_1 13 rfl rfl)
theorem dX3_setLine_40 : decode cX3_setLine 40 = .ok (.aload_n 0, 1) := dk_42 (dk_at dksX3_setLine_1 16 rfl rfl)
theorem dX3_setLine_41 : decode cX3_setLine 41 = .ok (.getfield 107, 3) := dk_180 0 107 (dk_at dksX3_setLine_1 17 rfl rfl)
theorem dX3_setLine_44 : decode cX3_setLine 44 = .ok (.ifCond .eq 4, 3) := dk_153 0 4 (dk_at dksX3_setLine_1 20 rfl rfl)
theorem dX3_setLine_47 : decode cX3_setLine 47 = .ok (.return_, 1) := dk_177 (dk_at dksX3_setLine_1 23 rfl rfl)
theorem dX3_setLine_48 : decode cX3_setLine 48 = .ok (.aload_n 0, 1) := dk_42 (dk_at dksX3_setLine_2 0 rfl rfl)
theorem dX3_setLine_49 : decode cX3_setLine 49 = .ok (.invokevirtual 128, 3) := dk_182 0 128 (dk_at dksX3_setLine_2 1 rfl rfl)
theorem dX3_setLine_52 : decode cX3_setLine 52 = .ok (.aload_n 0, 1) := dk_42 (dk_at dksX3_setLine_2 4 rfl rfl)
theorem dX3_setLine_53 : decode cX3_setLine 53 = .ok (.getfield 23, 3) := dk_180 0 23 (dk_at dksX3_setLine_2 5 rfl rfl)
theorem dX3_setLine_56 : decode cX3_setLine 56 = .ok (.iconst 0, 1) := dk_3 (dk_at dksX3_setLine_2 8 rfl rfl)
theorem dX3_setLine_57 : decode cX3_setLine 57 = .ok (.iaload, 1) := dk_46 (dk_at dksX3_setLine_2 9 rfl rfl)
theorem dX3_setLine_58 : decode cX3_setLine 58 = .ok (.istore_n 1, 1) := dk_60 (dk_at dksX3_setLine_2 10 rfl rfl)
theorem dX3_setLine_59 : decode cX3_setLine 59 = .ok (.aload_n 0, 1) := dk_42 (dk_at dksX3_setLine_2 11 rfl rfl)
theorem dX3_setLine_60 : decode cX3_setLine 60 = .ok (.iconst 1, 1) := dk_4 (dk_at dksX3_setLine_2 12 rfl rfl)
theorem dX3_setLine_61 : decode cX3_setLine 61 = .ok (.iconst 0, 1) := dk_3 (dk_at dksX3_setLine_2 13 rfl rfl)
theorem dX3_setLine_62 : decode cX3_setLine 62 = .ok (.invokevirtual 231, 3) := dk_182 0 231 (dk_at dksX3_setLine_2 14 rfl rfl)
theorem dX3_setLine_65 : decode cX3_setLine 65 = .ok (.istore_n 2, 1) := dk_61 (dk_at dksX3_setLine_2 17 rfl rfl)
theorem dX3_setLine_66 : decode cX3_setLine 66 = .ok (.aload_n 0, 1) := dk_42 (dk_at dksX3_setLine_2 18 rfl rfl)
theorem dX3_setLine_67 : decode cX3_setLine 67 = .ok (.getfield 23, 3) := dk_180 0 23 (dk_at dksX3_setLine_2 19 rfl rfl)
theorem dX3_setLine_70 : decode cX3_setLine 70 = .ok (.iconst 1, 1) := dk_4 (dk_at dksX3_setLine_2 22 rfl rfl)
theorem dX3_setLine_71 : decode cX3_setLine 71 = .ok (.iload_n 1, 1) := dk_27 (dk_at dksX3_setLine_2 23 rfl rfl)
theorem dX3_setLine_72 : decode cX3_setLine 72 = .ok (.iadd, 1) := dk_96 (dk_at dksX3_setLine_3 0 rfl rfl)
theorem dX3_setLine_73 : decode cX3_setLine 73 = .ok (.iload_n 2, 1) := dk_28 (dk_at dksX3_setLine_3 1 rfl rfl)
theorem dX3_setLine_74 : decode cX3_setLine 74 = .ok (.iastore, 1) := dk_79 (dk_at dksX3_setLine_3 2 rfl rfl)
theorem dX3_setLine_75 : decode cX3_setLine 75 = .ok (.aload_n 0, 1) := dk_42 (dk_at dksX3_setLine_3 3 rfl rfl)
theorem dX3_setLine_76 : decode cX3_setLine 76 = .ok (.getfield 23, 3) := dk_180 0 23 (dk_at dksX3_setLine_3 4 rfl rfl)
theorem dX3_setLine_79 : decode cX3_setLine 79 = .ok (.bipush 9, 2) := dk_16 9 (dk_at dksX3_setLine_3 7 rfl rfl)
theorem dX3_setLine_81 : decode cX3_setLine 81 = .ok (.iload_n 1, 1) := dk_27 (dk_at dksX3_setLine_3 9 rfl rfl)
theorem dX3_setLine_82 : decode cX3_setLine 82 = .ok (.iadd, 1) := dk_96 (dk_at dksX3_setLine_3 10 rfl rfl)
theorem dX3_setLine_83 : decode cX3_setLine 83 = .ok (.bipush (-2), 2) := dk_16 254 (dk_at dksX3_setLine_3 11 rfl rfl)
theorem dX3_setLine_85 : decode cX3_setLine 85 = .ok (.iastore, 1) := dk_79 (dk_at dksX3_setLine_3 13 rfl rfl)
theorem dX3_setLine_86 : decode cX3_setLine 86 = .ok (.aload_n 0, 1) := dk_42 (dk_at dksX3_setLine_3 14 rfl rfl)
theorem dX3_setLine_87 : decode cX3_setLine 87 = .ok (.invokevirtual 158, 3) := dk_182 0 158 (dk_at dksX3_setLine_3 15 rfl rfl)
theorem dX3_setLine_90 : decode cX3_setLine 90 = .ok (.ifCond .eq 20, 3) := dk_153 0 20 (dk_at dksX3_setLine_3 18 rfl rfl)
theorem dX3_setLine_93 : decode cX3_setLine 93 = .ok (.aload_n 0, 1) := dk_42 (dk_at dksX3_setLine_3 21 rfl rfl)
theorem dX3_setLine_94 : decode cX3_setLine 94 = .ok (.getfield 23, 3) := dk_180 0 23 (dk_at dksX3_setLine_4 0 rfl rfl)
theorem dX3_setLine_97 : decode cX3_setLine 97 = .ok (.bipush 9, 2) := dk_16 9 (dk_at dksX3_setLine_4 3 rfl rfl)
theorem dX3_setLine_99 : decode cX3_setLine 99 = .ok (.iload_n 1, 1) := dk_27 (dk_at dksX3_setLine_4 5 rfl rfl)
theorem dX3_setLine_100 : decode cX3_setLine 100 = .ok (.iadd, 1) := dk_96 (dk_at dksX3_setLine_4 6 rfl rfl)
theorem dX3_setLine_101 : decode cX3_setLine 101 = .ok (.aload_n 0, 1) := dk_42 (dk_at dksX3_setLine_4 7 rfl rfl)
theorem dX3_setLine_102 : decode cX3_setLine 102 = .ok (.iconst 1, 1) := dk_4 (dk_at dksX3_setLine_4 8 rfl rfl)
theorem dX3_setLine_103 : decode cX3_setLine 103 = .ok (.iconst 1, 1) := dk_4 (dk_at dksX3_setLine_4 9 rfl rfl)
theorem dX3_setLine_104 : decode cX3_setLine 104 = .ok (.iload_n 2, 1) := dk_28 (dk_at dksX3_setLine_4 10 rfl rfl)
theorem dX3_setLine_105 : decode cX3_setLine 105 = .ok (.ishl, 1) := dk_120 (dk_at dksX3_setLine_4 11 rfl rfl)
theorem dX3_setLine_106 : decode cX3_setLine 106 = .ok (.invokevirtual 231, 3) := dk_182 0 231 (dk_at dksX3_setLine_4 12 rfl rfl)
theorem dX3_setLine_109 : decode cX3_setLine 109 = .ok (.iastore, 1) := dk_79 (dk_at dksX3_setLine_4 15 rfl rfl)
theorem dX3_setLine_110 : decode cX3_setLine 110 = .ok (.aload_n 0, 1) := dk_42 (dk_at dksX3_setLine_4 16 rfl rfl)
theorem dX3_setLine_111 : decode cX3_setLine 111 = .ok (.ldc 234, 2) := dk_18 234 (dk_at dksX3_setLine_4 17 rfl rfl)
theorem dX3_setLine_113 : decode cX3_setLine 113 = .ok (.invokevirtual 223, 3) := dk_182 0 223 (dk_at dksX3_setLine_4 19 rfl rfl)
theorem dX3_setLine_116 : decode cX3_setLine 116 = .ok (.aload_n 0, 1) := dk_42 (dk_at dksX3_setLine_4 22 rfl rfl)
theorem dX3_setLine_117 : decode cX3_setLine 117 = .ok (.getfield 23, 3) := dk_180 0 23 (dk_at dksX3_setLine_5 0 rfl rfl)
theorem dX3_setLine_120 : decode cX3_setLine 120 = .ok (.bipush 9, 2) := dk_16 9 (dk_at dksX3_setLine_5 3 rfl rfl)
theorem dX3_setLine_122 : decode cX3_setLine 122 = .ok (.iload_n 1, 1) := dk_27 (dk_at dksX3_setLine_5 5 rfl rfl)
theorem dX3_setLine_123 : decode cX3_setLine 123 = .ok (.iadd, 1) := dk_96 (dk_at dksX3_setLine_5 6 rfl rfl)
theorem dX3_setLine_124 : decode cX3_setLine 124 = .ok (.iaload, 1) := dk_46 (dk_at dksX3_setLine_5 7 rfl rfl)
theorem dX3_setLine_125 : decode cX3_setLine 125 = .ok (.bipush (-2), 2) := dk_16 254 (dk_at dksX3_setLine_5 8 rfl rfl)
theorem dX3_setLine_127 : decode cX3_setLine 127 = .ok (.if_icmp .ne 7, 3) := dk_160 0 7 (dk_at dksX3_setLine_5 10 rfl rfl)
theorem dX3_setLine_130 : decode cX3_setLine 130 = .ok (.iconst 2, 1) := dk_5 (dk_at dksX3_setLine_5 13 rfl rfl)
theorem dX3_setLine_131 : decode cX3_setLine 131 = .ok (.goto 4, 3) := dk_167 0 4 (dk_at dksX3_setLine_5 14 rfl rfl)
theorem dX3_setLine_134 : decode cX3_setLine 134 = .ok (.iconst 4, 1) := dk_7 (dk_at dksX3_setLine_5 17 rfl rfl)
theorem dX3_setLine_135 : decode cX3_setLine 135 = .ok (.istore_n 3, 1) := dk_62 (dk_at dksX3_setLine_5 18 rfl rfl)
theorem dX3_setLine_136 : decode cX3_setLine 136 = .ok (.iconst 0, 1) := dk_3 (dk_at dksX3_setLine_5 19 rfl rfl)
theorem dX3_setLine_137 : decode cX3_setLine 137 = .ok (.istore 4, 2) := dk_54 4 (dk_at dksX3_setLine_5 20 rfl rfl)
theorem dX3_setLine_139 : decode cX3_setLine 139 = .ok (.iconst 0, 1) := dk_3 (dk_at dksX3_setLine_5 22 rfl rfl)
theorem dX3_setLine_140 : decode cX3_setLine 140 = .ok (.istore 5, 2) := dk_54 5 (dk_at dksX3_setLine_6 0 rfl rfl)
theorem dX3_setLine_142 : decode cX3_setLine 142 = .ok (.iload 5, 2) := dk_21 5 (dk_at dksX3_setLine_6 2 rfl rfl)
theorem dX3_setLine_144 : decode cX3_setLine 144 = .ok (.iload_n 3, 1) := dk_29 (dk_at dksX3_setLine_6 4 rfl rfl)
theorem dX3_setLine_145 : decode cX3_setLine 145 = .ok (.if_icmp .ge 125, 3) := dk_162 0 125 (dk_at dksX3_setLine_6 5 rfl rfl)
theorem dX3_setLine_148 : decode cX3_setLine 148 = .ok (.iload 5, 2) := dk_21 5 (dk_at dksX3_setLine_6 8 rfl rfl)
theorem dX3_setLine_150 : decode cX3_setLine 150 = .ok (.ifCond .le 7, 3) := dk_158 0 7 (dk_at dksX3_setLine_6 10 rfl rfl)
theorem dX3_setLine_153 : decode cX3_setLine 153 = .ok (.aload_n 0, 1) := dk_42 (dk_at dksX3_setLine_6 13 rfl rfl)
theorem dX3_setLine_154 : decode cX3_setLine 154 = .ok (.invokevirtual 235, 3) := dk_182 0 235 (dk_at dksX3_setLine_6 14 rfl rfl)
theorem dX3_setLine_157 : decode cX3_setLine 157 = .ok (.aload_n 0, 1) := dk_42 (dk_at dksX3_setLine_6 17 rfl rfl)
theorem dX3_setLine_158 : decode cX3_setLine 158 = .ok (.getfield 107, 3) := dk_180 0 107 (dk_at dksX3_setLine_6 18 rfl rfl)
theorem dX3_setLine_161 : decode cX3_setLine 161 = .ok (.ifCond .eq 4, 3) := dk_153 0 4 (dk_at dksX3_setLine_6 21 rfl rfl)
theorem dX3_setLine_164 : decode cX3_setLine 164 = .ok (.return_, 1) := dk_177 (dk_at dksX3_setLine_7 0 rfl rfl)
theorem dX3_setLine_165 : decode cX3_setLine 165 = .ok (.iload 5, 2) := dk_21 5 (dk_at dksX3_setLine_7 1 rfl rfl)
theorem dX3_setLine_167 : decode cX3_setLine 167 = .ok (.iload_n 3, 1) := dk_29 (dk_at dksX3_setLine_7 3 rfl rfl)
theorem dX3_setLine_168 : decode cX3_setLine 168 = .ok (.iconst 1, 1) := dk_4 (dk_at dksX3_setLine_7 4 rfl rfl)
theorem dX3_setLine_169 : decode cX3_setLine 169 = .ok (.isub, 1) := dk_100 (dk_at dksX3_setLine_7 5 rfl rfl)
theorem dX3_setLine_170 : decode cX3_setLine 170 = .ok (.if_icmp .ne 28, 3) := dk_160 0 28 (dk_at dksX3_setLine_7 6 rfl rfl)
theorem dX3_setLine_173 : decode cX3_setLine 173 = .ok (.aload_n 0, 1) := dk_42 (dk_at dksX3_setLine_7 9 rfl rfl)
theorem dX3_setLine_174 : decode cX3_setLine 174 = .ok (.getfield 97, 3) := dk_180 0 97 (dk_at dksX3_setLine_7 10 rfl rfl)
theorem dX3_setLine_177 : decode cX3_setLine 177 = .ok (.iconst 3, 1) := dk_6 (dk_at dksX3_setLine_7 13 rfl rfl)
theorem dX3_setLine_178 : decode cX3_setLine 178 = .ok (.if_icmp .ne 20, 3) := dk_160 0 20 (dk_at dksX3_setLine_7 14 rfl rfl)
theorem dX3_setLine_181 : decode cX3_setLine 181 = .ok (.aload_n 0, 1) := dk_42 (dk_at dksX3_setLine_7 17 rfl rfl)
theorem dX3_setLine_182 : decode cX3_setLine 182 = .ok (.getfield 94, 3) := dk_180 0 94 (dk_at dksX3_setLine_7 18 rfl rfl)
theorem dX3_setLine_185 : decode cX3_setLine 185 = .ok (.iconst 0, 1) := dk_3 (dk_at dksX3_setLine_7 21 rfl rfl)
theorem dX3_setLine_186 : decode cX3_setLine 186 = .ok (.bipush 60, 2) := dk_16 60 (dk_at dksX3_setLine_7 22 rfl rfl)
theorem dX3_setLine_188 : decode cX3_setLine 188 = .ok (.invokestatic 170, 3) := dk_184 0 170 (dk_at dksX3_setLine_8 0 rfl rfl)
theorem dX3_setLine_191 : decode cX3_setLine 191 = .ok (.ifCond .eq 7, 3) := dk_153 0 7 (dk_at dksX3_setLine_8 3 rfl rfl)
theorem dX3_setLine_194 : decode cX3_setLine 194 = .ok (.iconst 1, 1) := dk_4 (dk_at dksX3_setLine_8 6 rfl rfl)
theorem dX3_setLine_195 : decode cX3_setLine 195 = .ok (.goto 4, 3) := dk_167 0 4 (dk_at dksX3_setLine_8 7 rfl rfl)
theorem dX3_setLine_198 : decode cX3_setLine 198 = .ok (.iconst 0, 1) := dk_3 (dk_at dksX3_setLine_8 10 rfl rfl)
theorem dX3_setLine_199 : decode cX3_setLine 199 = .ok (.istore 6, 2) := dk_54 6 (dk_at dksX3_setLine_8 11 rfl rfl)
theorem dX3_setLine_201 : decode cX3_setLine 201 = .ok (.iload 6, 2) := dk_21 6 (dk_at dksX3_setLine_8 13 rfl rfl)
theorem dX3_setLine_203 : decode cX3_setLine 203 = .ok (.ifCond .eq 29, 3) := dk_153 0 29 (dk_at dksX3_setLine_8 15 rfl rfl)
theorem dX3_setLine_206 : decode cX3_setLine 206 = .ok (.iload 4, 2) := dk_21 4 (dk_at dksX3_setLine_8 18 rfl rfl)
theorem dX3_setLine_208 : decode cX3_setLine 208 = .ok (.aload_n 0, 1) := dk_42 (dk_at dksX3_setLine_8 20 rfl rfl)
theorem dX3_setLine_209 : decode cX3_setLine 209 = .ok (.getfield 94, 3) := dk_180 0 94 (dk_at dksX3_setLine_8 21 rfl rfl)
theorem dX3_setLine_212 : decode cX3_setLine 212 = .ok (.iadd, 1) := dk_96 (dk_at dksX3_setLine_9 0 rfl rfl)
theorem dX3_setLine_213 : decode cX3_setLine 213 = .ok (.aload_n 0, 1) := dk_42 (dk_at dksX3_setLine_9 1 rfl rfl)
theorem dX3_setLine_214 : decode cX3_setLine 214 = .ok (.getfield 23, 3) := dk_180 0 23 (dk_at dksX3_setLine_9 2 rfl rfl)
theorem dX3_setLine_217 : decode cX3_setLine 217 = .ok (.bipush 49, 2) := dk_16 49 (dk_at dksX3_setLine_9 5 rfl rfl)
theorem dX3_setLine_219 : decode cX3_setLine 219 = .ok (.iaload, 1) := dk_46 (dk_at dksX3_setLine_9 7 rfl rfl)
theorem dX3_setLine_220 : decode cX3_setLine 220 = .ok (.if_icmp .eq 12, 3) := dk_159 0 12 (dk_at dksX3_setLine_9 8 rfl rfl)
theorem dX3_setLine_223 : decode cX3_setLine 223 = .ok (.aload_n 0, 1) := dk_42 (dk_at dksX3_setLine_9 11 rfl rfl)
theorem dX3_setLine_224 : decode cX3_setLine 224 = .ok (.iconst 4, 1) := dk_7 (dk_at dksX3_setLine_9 12 rfl rfl)
theorem dX3_setLine_225 : decode cX3_setLine 225 = .ok (.aload_n 0, 1) := dk_42 (dk_at dksX3_setLine_9 13 rfl rfl)
theorem dX3_setLine_226 : decode cX3_setLine 226 = .ok (.getfield 88, 3) := dk_180 0 88 (dk_at dksX3_setLine_9 14 rfl rfl)
theorem dX3_setLine_229 : decode cX3_setLine 229 = .ok (.invokevirtual 134, 3) := dk_182 0 134 (dk_at dksX3_setLine_9 17 rfl rfl)
theorem dX3_setLine_232 : decode cX3_setLine 232 = .ok (.aload_n 0, 1) := dk_42 (dk_at dksX3_setLine_9 20 rfl rfl)
theorem dX3_setLine_233 : decode cX3_setLine 233 = .ok (.iconst 0, 1) := dk_3 (dk_at dksX3_setLine_9 21 rfl rfl)
theorem dX3_setLine_234 : decode cX3_setLine 234 = .ok (.bipush 60, 2) := dk_16 60 (dk_at dksX3_setLine_9 22 rfl rfl)
theorem dX3_setLine_236 : decode cX3_setLine 236 = .ok (.invokevirtual 227, 3) := dk_182 0 227 (dk_at dksX3_setLine_10 0 rfl rfl)
theorem dX3_setLine_239 : decode cX3_setLine 239 = .ok (.istore 7, 2) := dk_54 7 (dk_at dksX3_setLine_10 3 rfl rfl)
theorem dX3_setLine_241 : decode cX3_setLine 241 = .ok (.aload_n 0, 1) := dk_42 (dk_at dksX3_setLine_10 5 rfl rfl)
theorem dX3_setLine_242 : decode cX3_setLine 242 = .ok (.getfield 23, 3) := dk_180 0 23 (dk_at dksX3_setLine_10 6 rfl rfl)
theorem dX3_setLine_245 : decode cX3_setLine 245 = .ok (.bipush 17, 2) := dk_16 17 (dk_at dksX3_setLine_10 9 rfl rfl)
theorem dX3_setLine_247 : decode cX3_setLine 247 = .ok (.iconst 4, 1) := dk_7 (dk_at dksX3_setLine_10 11 rfl rfl)
theorem dX3_setLine_248 : decode cX3_setLine 248 = .ok (.iload_n 1, 1) := dk_27 (dk_at dksX3_setLine_10 12 rfl rfl)
theorem dX3_setLine_249 : decode cX3_setLine 249 = .ok (.imul, 1) := dk_104 (dk_at dksX3_setLine_10 13 rfl rfl)
theorem dX3_setLine_250 : decode cX3_setLine 250 = .ok (.iadd, 1) := dk_96 (dk_at dksX3_setLine_10 14 rfl rfl)
theorem dX3_setLine_251 : decode cX3_setLine 251 = .ok (.iload 5, 2) := dk_21 5 (dk_at dksX3_setLine_10 15 rfl rfl)
theorem dX3_setLine_253 : decode cX3_setLine 253 = .ok (.iadd, 1) := dk_96 (dk_at dksX3_setLine_10 17 rfl rfl)
theorem dX3_setLine_254 : decode cX3_setLine 254 = .ok (.iload 7, 2) := dk_21 7 (dk_at dksX3_setLine_10 18 rfl rfl)
theorem dX3_setLine_256 : decode cX3_setLine 256 = .ok (.iastore, 1) := dk_79 (dk_at dksX3_setLine_10 20 rfl rfl)
theorem dX3_setLine_257 : decode cX3_setLine 257 = .ok (.iload 4, 2) := dk_21 4 (dk_at dksX3_setLine_10 21 rfl rfl)
theorem dX3_setLine_259 : decode cX3_setLine 259 = .ok (.iload 7, 2) := dk_21 7 (dk_at dksX3_setLine_11 0 rfl rfl)
theorem dX3_setLine_261 : decode cX3_setLine 261 = .ok (.iadd, 1) := dk_96 (dk_at dksX3_setLine_11 2 rfl rfl)
theorem dX3_setLine_262 : decode cX3_setLine 262 = .ok (.istore 4, 2) := dk_54 4 (dk_at dksX3_setLine_11 3 rfl rfl)
theorem dX3_setLine_264 : decode cX3_setLine 264 = .ok (.iinc 5 1, 3) := dk_132 5 1 (dk_at dksX3_setLine_11 5 rfl rfl)
theorem dX3_setLine_267 : decode cX3_setLine 267 = .ok (.goto (-125), 3) := dk_167 255 131 (dk_at dksX3_setLine_11 8 rfl rfl)
theorem dX3_setLine_270 : decode cX3_setLine 270 = .ok (.aload_n 0, 1) := dk_42 (dk_at dksX3_setLine_11 11 rfl rfl)
theorem dX3_setLine_271 : decode cX3_setLine 271 = .ok (.getfield 107, 3) := dk_180 0 107 (dk_at dksX3_setLine_11 12 rfl rfl)
theorem dX3_setLine_274 : decode cX3_setLine 274 = .ok (.ifCond .ne 13, 3) := dk_154 0 13 (dk_at dksX3_setLine_11 15 rfl rfl)
theorem dX3_setLine_277 : decode cX3_setLine 277 = .ok (.aload_n 0, 1) := dk_42 (dk_at dksX3_setLine_11 18 rfl rfl)
theorem dX3_setLine_278 : decode cX3_setLine 278 = .ok (.getfield 23, 3) := dk_180 0 23 (dk_at dksX3_setLine_11 19 rfl rfl)
theorem dX3_setLine_281 : decode cX3_setLine 281 = .ok (.iconst 0, 1) := dk_3 (dk_at dksX3_setLine_11 22 rfl rfl)
theorem dX3_setLine_282 : decode cX3_setLine 282 = .ok (.dup2, 1) := dk_92 (dk_at dksX3_setLine_11 23 rfl rfl)
theorem dX3_setLine_283 : decode cX3_setLine 283 = .ok (.iaload, 1) := dk_46 (dk_at dksX3_setLine_12 0 rfl rfl)
theorem dX3_setLine_284 : decode cX3_setLine 284 = .ok (.iconst 1, 1) := dk_4 (dk_at dksX3_setLine_12 1 rfl rfl)
theorem dX3_setLine_285 : decode cX3_setLine 285 = .ok (.iadd, 1) := dk_96 (dk_at dksX3_setLine_12 2 rfl rfl)
theorem dX3_setLine_286 : decode cX3_setLine 286 = .ok (.iastore, 1) := dk_79 (dk_at dksX3_setLine_12 3 rfl rfl)
theorem dX3_setLine_287 : decode cX3_setLine 287 = .ok (.return_, 1) := dk_177 (dk_at dksX3_setLine_12 4 rfl rfl)
abbrev cX3_passed : ByteArray := prog_18_method_23_code
def yX3_passed : MethodName := ⟨RX3, "passed", "(ZI)I"⟩
def dkwX3_passed_0 : List UInt8 := [42, 27, 28, 182, 0, 166, 62, 42, 180, 0, 107, 154, 0, 7, 42, 182, 0, 128, 29, 172]
abbrev dktX3_passed_0 : List UInt8 := dkwX3_passed_0 ++ []
theorem dksX3_passed_0 : cX3_passed.data.toList.drop 0 = dktX3_passed_0 := by decide +kernel
theorem dX3_passed_0 : decode cX3_passed 0 = .ok (.aload_n 0, 1) := dk_42 (dk_at dksX3_passed_0 0 rfl rfl)
theorem dX3_passed_1 : decode cX3_passed 1 = .ok (.iload_n 1, 1) := dk_27 (dk_at dksX3_passed_0 1 rfl rfl)
theorem dX3_passed_2 : decode cX3_passed 2 = .ok (.iload_n 2, 1) := dk_28 (dk_at dksX3_passed_0 2 rfl rfl)
theorem dX3_passed_3 : decode cX3_passed 3 = .ok (.invokevirtual 166, 3) := dk_182 0 166 (dk_at dksX3_passed_0 3 rfl rfl)
theorem dX3_passed_6 : decode cX3_passed 6 = .ok (.istore_n 3, 1) := dk_62 (dk_at dksX3_passed_0 6 rfl rfl)
theorem dX3_passed_7 : decode cX3_passed 7 = .ok (.aload_n 0, 1) := dk_42 (dk_at dksX3_passed_0 7 rfl rfl)
theorem dX3_passed_8 : decode cX3_passed 8 = .ok (.getfield 107, 3) := dk_180 0 107 (dk_at dksX3_passed_0 8 rfl rfl)
theorem dX3_passed_11 : decode cX3_passed 11 = .ok (.ifCond .ne 7, 3) := dk_154 0 7 (dk_at dksX3_passed_0 11 rfl rfl)
theorem dX3_passed_14 : decode cX3_passed 14 = .ok (.aload_n 0, 1) := dk_42 (dk_at dksX3_passed_0 14 rfl rfl)
theorem dX3_passed_15 : decode cX3_passed 15 = .ok (.invokevirtual 128, 3) := dk_182 0 128 (dk_at dksX3_passed_0 15 rfl rfl)
theorem dX3_passed_18 : decode cX3_passed 18 = .ok (.iload_n 3, 1) := dk_29 (dk_at dksX3_passed_0 18 rfl rfl)
theorem dX3_passed_19 : decode cX3_passed 19 = .ok (.ireturn, 1) := dk_172 (dk_at dksX3_passed_0 19 rfl rfl)
abbrev cX3_named : ByteArray := prog_18_method_22_code
def yX3_named : MethodName := ⟨RX3, "named", "(ZI)I"⟩
def dkwX3_named_4 : List UInt8 := [182, 0, 134, 21, 4, 172]
abbrev dktX3_named_4 : List UInt8 := dkwX3_named_4 ++ []
def dkwX3_named_3 : List UInt8 := [167, 0, 7, 29, 16, 6, 100, 54, 4, 28, 21, 4, 184, 0, 162, 153, 0, 12, 42, 6, 42, 180, 0, 88]
abbrev dktX3_named_3 : List UInt8 := dkwX3_named_3 ++ dktX3_named_4
def dkwX3_named_2 : List UInt8 := [5, 42, 180, 0, 88, 182, 0, 134, 42, 180, 0, 107, 153, 0, 5, 3, 172, 27, 153, 0, 7, 29]
abbrev dktX3_named_2 : List UInt8 := dkwX3_named_2 ++ dktX3_named_3
def dkwX3_named_1 : List UInt8 := [182, 0, 155, 62, 29, 155, 0, 18, 27, 29, 16, 6, 162, 0, 7, 4, 167, 0, 4, 3, 159, 0, 12, 42]
abbrev dktX3_named_1 : List UInt8 := dkwX3_named_1 ++ dktX3_named_2
def dkwX3_named_0 : List UInt8 := [42, 180, 0, 107, 153, 0, 5, 3, 172, 42, 182, 0, 152, 42, 180, 0, 107, 153, 0, 5, 3, 172, 42]
abbrev dktX3_named_0 : List UInt8 := dkwX3_named_0 ++ dktX3_named_1
theorem dksX3_named_0 : cX3_named.data.toList.drop 0 = dktX3_named_0 := by decide +kernel
theorem dksX3_named_1 : cX3_named.data.toList.drop 23 = dktX3_named_1 := dk_seg dksX3_named_0 23 rfl rfl
theorem dksX3_named_2 : cX3_named.data.toList.drop 47 = dktX3_named_2 := dk_seg dksX3_named_1 24 rfl rfl
theorem dksX3_named_3 : cX3_named.data.toList.drop 69 = dktX3_named_3 := dk_seg dksX3_named_2 22 rfl rfl
theorem dksX3_named_4 : cX3_named.data.toList.drop 93 = dktX3_named_4 := dk_seg dksX3_named_3 24 rfl rfl
theorem dX3_named_0 : decode cX3_named 0 = .ok (.aload_n 0, 1) := dk_42 (dk_at dksX3_named_0 0 rfl rfl)
theorem dX3_named_1 : decode cX3_named 1 = .ok (.getfield 107, 3) := dk_180 0 107 (dk_at dksX3_named_0 1 rfl rfl)
theorem dX3_named_4 : decode cX3_named 4 = .ok (.ifCond .eq 5, 3) := dk_153 0 5 (dk_at dksX3_named_0 4 rfl rfl)
theorem dX3_named_7 : decode cX3_named 7 = .ok (.iconst 0, 1) := dk_3 (dk_at dksX3_named_0 7 rfl rfl)
theorem dX3_named_8 : decode cX3_named 8 = .ok (.ireturn, 1) := dk_172 (dk_at dksX3_named_0 8 rfl rfl)
theorem dX3_named_9 : decode cX3_named 9 = .ok (.aload_n 0, 1) := dk_42 (dk_at dksX3_named_0 9 rfl rfl)
theorem dX3_named_10 : decode cX3_named 10 = .ok (.invokevirtual 152, 3) := dk_182 0 152 (dk_at dksX3_named_0 10 rfl rfl)
theorem dX3_named_13 : decode cX3_named 13 = .ok (.aload_n 0, 1) := dk_42 (dk_at dksX3_named_0 13 rfl rfl)
theorem dX3_named_14 : decode cX3_named 14 = .ok (.getfield 107, 3) := dk_180 0 107 (dk_at dksX3_named_0 14 rfl rfl)
theorem dX3_named_17 : decode cX3_named 17 = .ok (.ifCond .eq 5, 3) := dk_153 0 5 (dk_at dksX3_named_0 17 rfl rfl)
theorem dX3_named_20 : decode cX3_named 20 = .ok (.iconst 0, 1) := dk_3 (dk_at dksX3_named_0 20 rfl rfl)
theorem dX3_named_21 : decode cX3_named 21 = .ok (.ireturn, 1) := dk_172 (dk_at dksX3_named_0 21 rfl rfl)
theorem dX3_named_22 : decode cX3_named 22 = .ok (.aload_n 0, 1) := dk_42 (dk_at dksX3_named_0 22 rfl rfl)
theorem dX3_named_23 : decode cX3_named 23 = .ok (.invokevirtual 155, 3) := dk_182 0 155 (dk_at dksX3_named_1 0 rfl rfl)
theorem dX3_named_26 : decode cX3_named 26 = .ok (.istore_n 3, 1) := dk_62 (dk_at dksX3_named_1 3 rfl rfl)
theorem dX3_named_27 : decode cX3_named 27 = .ok (.iload_n 3, 1) := dk_29 (dk_at dksX3_named_1 4 rfl rfl)
theorem dX3_named_28 : decode cX3_named 28 = .ok (.ifCond .lt 18, 3) := dk_155 0 18 (dk_at dksX3_named_1 5 rfl rfl)
theorem dX3_named_31 : decode cX3_named 31 = .ok (.iload_n 1, 1) := dk_27 (dk_at dksX3_named_1 8 rfl rfl)
theorem dX3_named_32 : decode cX3_named 32 = .ok (.iload_n 3, 1) := dk_29 (dk_at dksX3_named_1 9 rfl rfl)
theorem dX3_named_33 : decode cX3_named 33 = .ok (.bipush 6, 2) := dk_16 6 (dk_at dksX3_named_1 10 rfl rfl)
theorem dX3_named_35 : decode cX3_named 35 = .ok (.if_icmp .ge 7, 3) := dk_162 0 7 (dk_at dksX3_named_1 12 rfl rfl)
theorem dX3_named_38 : decode cX3_named 38 = .ok (.iconst 1, 1) := dk_4 (dk_at dksX3_named_1 15 rfl rfl)
theorem dX3_named_39 : decode cX3_named 39 = .ok (.goto 4, 3) := dk_167 0 4 (dk_at dksX3_named_1 16 rfl rfl)
theorem dX3_named_42 : decode cX3_named 42 = .ok (.iconst 0, 1) := dk_3 (dk_at dksX3_named_1 19 rfl rfl)
theorem dX3_named_43 : decode cX3_named 43 = .ok (.if_icmp .eq 12, 3) := dk_159 0 12 (dk_at dksX3_named_1 20 rfl rfl)
theorem dX3_named_46 : decode cX3_named 46 = .ok (.aload_n 0, 1) := dk_42 (dk_at dksX3_named_1 23 rfl rfl)
theorem dX3_named_47 : decode cX3_named 47 = .ok (.iconst 2, 1) := dk_5 (dk_at dksX3_named_2 0 rfl rfl)
theorem dX3_named_48 : decode cX3_named 48 = .ok (.aload_n 0, 1) := dk_42 (dk_at dksX3_named_2 1 rfl rfl)
theorem dX3_named_49 : decode cX3_named 49 = .ok (.getfield 88, 3) := dk_180 0 88 (dk_at dksX3_named_2 2 rfl rfl)
theorem dX3_named_52 : decode cX3_named 52 = .ok (.invokevirtual 134, 3) := dk_182 0 134 (dk_at dksX3_named_2 5 rfl rfl)
theorem dX3_named_55 : decode cX3_named 55 = .ok (.aload_n 0, 1) := dk_42 (dk_at dksX3_named_2 8 rfl rfl)
theorem dX3_named_56 : decode cX3_named 56 = .ok (.getfield 107, 3) := dk_180 0 107 (dk_at dksX3_named_2 9 rfl rfl)
theorem dX3_named_59 : decode cX3_named 59 = .ok (.ifCond .eq 5, 3) := dk_153 0 5 (dk_at dksX3_named_2 12 rfl rfl)
theorem dX3_named_62 : decode cX3_named 62 = .ok (.iconst 0, 1) := dk_3 (dk_at dksX3_named_2 15 rfl rfl)
theorem dX3_named_63 : decode cX3_named 63 = .ok (.ireturn, 1) := dk_172 (dk_at dksX3_named_2 16 rfl rfl)
theorem dX3_named_64 : decode cX3_named 64 = .ok (.iload_n 1, 1) := dk_27 (dk_at dksX3_named_2 17 rfl rfl)
theorem dX3_named_65 : decode cX3_named 65 = .ok (.ifCond .eq 7, 3) := dk_153 0 7 (dk_at dksX3_named_2 18 rfl rfl)
theorem dX3_named_68 : decode cX3_named 68 = .ok (.iload_n 3, 1) := dk_29 (dk_at dksX3_named_2 21 rfl rfl)
theorem dX3_named_69 : decode cX3_named 69 = .ok (.goto 7, 3) := dk_167 0 7 (dk_at dksX3_named_3 0 rfl rfl)
theorem dX3_named_72 : decode cX3_named 72 = .ok (.iload_n 3, 1) := dk_29 (dk_at dksX3_named_3 3 rfl rfl)
theorem dX3_named_73 : decode cX3_named 73 = .ok (.bipush 6, 2) := dk_16 6 (dk_at dksX3_named_3 4 rfl rfl)
theorem dX3_named_75 : decode cX3_named 75 = .ok (.isub, 1) := dk_100 (dk_at dksX3_named_3 6 rfl rfl)
theorem dX3_named_76 : decode cX3_named 76 = .ok (.istore 4, 2) := dk_54 4 (dk_at dksX3_named_3 7 rfl rfl)
theorem dX3_named_78 : decode cX3_named 78 = .ok (.iload_n 2, 1) := dk_28 (dk_at dksX3_named_3 9 rfl rfl)
theorem dX3_named_79 : decode cX3_named 79 = .ok (.iload 4, 2) := dk_21 4 (dk_at dksX3_named_3 10 rfl rfl)
theorem dX3_named_81 : decode cX3_named 81 = .ok (.invokestatic 162, 3) := dk_184 0 162 (dk_at dksX3_named_3 12 rfl rfl)
theorem dX3_named_84 : decode cX3_named 84 = .ok (.ifCond .eq 12, 3) := dk_153 0 12 (dk_at dksX3_named_3 15 rfl rfl)
theorem dX3_named_87 : decode cX3_named 87 = .ok (.aload_n 0, 1) := dk_42 (dk_at dksX3_named_3 18 rfl rfl)
theorem dX3_named_88 : decode cX3_named 88 = .ok (.iconst 3, 1) := dk_6 (dk_at dksX3_named_3 19 rfl rfl)
theorem dX3_named_89 : decode cX3_named 89 = .ok (.aload_n 0, 1) := dk_42 (dk_at dksX3_named_3 20 rfl rfl)
theorem dX3_named_90 : decode cX3_named 90 = .ok (.getfield 88, 3) := dk_180 0 88 (dk_at dksX3_named_3 21 rfl rfl)
theorem dX3_named_93 : decode cX3_named 93 = .ok (.invokevirtual 134, 3) := dk_182 0 134 (dk_at dksX3_named_4 0 rfl rfl)
theorem dX3_named_96 : decode cX3_named 96 = .ok (.iload 4, 2) := dk_21 4 (dk_at dksX3_named_4 3 rfl rfl)
theorem dX3_named_98 : decode cX3_named 98 = .ok (.ireturn, 1) := dk_172 (dk_at dksX3_named_4 5 rfl rfl)
abbrev cX3_has : ByteArray := prog_18_method_8_code
def yX3_has : MethodName := ⟨RX3, "has", "(II)Z"⟩
def dkwX3_has_0 : List UInt8 := [26, 27, 122, 4, 126, 4, 160, 0, 7, 4, 167, 0, 4, 3, 172]
abbrev dktX3_has_0 : List UInt8 := dkwX3_has_0 ++ []
theorem dksX3_has_0 : cX3_has.data.toList.drop 0 = dktX3_has_0 := by decide +kernel
theorem dX3_has_0 : decode cX3_has 0 = .ok (.iload_n 0, 1) := dk_26 (dk_at dksX3_has_0 0 rfl rfl)
theorem dX3_has_1 : decode cX3_has 1 = .ok (.iload_n 1, 1) := dk_27 (dk_at dksX3_has_0 1 rfl rfl)
theorem dX3_has_2 : decode cX3_has 2 = .ok (.ishr, 1) := dk_122 (dk_at dksX3_has_0 2 rfl rfl)
theorem dX3_has_3 : decode cX3_has 3 = .ok (.iconst 1, 1) := dk_4 (dk_at dksX3_has_0 3 rfl rfl)
theorem dX3_has_4 : decode cX3_has 4 = .ok (.iand, 1) := dk_126 (dk_at dksX3_has_0 4 rfl rfl)
theorem dX3_has_5 : decode cX3_has 5 = .ok (.iconst 1, 1) := dk_4 (dk_at dksX3_has_0 5 rfl rfl)
theorem dX3_has_6 : decode cX3_has 6 = .ok (.if_icmp .ne 7, 3) := dk_160 0 7 (dk_at dksX3_has_0 6 rfl rfl)
theorem dX3_has_9 : decode cX3_has 9 = .ok (.iconst 1, 1) := dk_4 (dk_at dksX3_has_0 9 rfl rfl)
theorem dX3_has_10 : decode cX3_has 10 = .ok (.goto 4, 3) := dk_167 0 4 (dk_at dksX3_has_0 10 rfl rfl)
theorem dX3_has_13 : decode cX3_has 13 = .ok (.iconst 0, 1) := dk_3 (dk_at dksX3_has_0 13 rfl rfl)
theorem dX3_has_14 : decode cX3_has 14 = .ok (.ireturn, 1) := dk_172 (dk_at dksX3_has_0 14 rfl rfl)
abbrev cX3_mustComma : ByteArray := prog_18_method_26_code
def yX3_mustComma : MethodName := ⟨RX3, "mustComma", "()V"⟩
def dkwX3_mustComma_0 : List UInt8 := [42, 180, 0, 107, 154, 0, 19, 42, 182, 0, 158, 154, 0, 12, 42, 4, 42, 180, 0, 88, 182, 0, 134, 177]
abbrev dktX3_mustComma_0 : List UInt8 := dkwX3_mustComma_0 ++ []
theorem dksX3_mustComma_0 : cX3_mustComma.data.toList.drop 0 = dktX3_mustComma_0 := by decide +kernel
theorem dX3_mustComma_0 : decode cX3_mustComma 0 = .ok (.aload_n 0, 1) := dk_42 (dk_at dksX3_mustComma_0 0 rfl rfl)
theorem dX3_mustComma_1 : decode cX3_mustComma 1 = .ok (.getfield 107, 3) := dk_180 0 107 (dk_at dksX3_mustComma_0 1 rfl rfl)
theorem dX3_mustComma_4 : decode cX3_mustComma 4 = .ok (.ifCond .ne 19, 3) := dk_154 0 19 (dk_at dksX3_mustComma_0 4 rfl rfl)
theorem dX3_mustComma_7 : decode cX3_mustComma 7 = .ok (.aload_n 0, 1) := dk_42 (dk_at dksX3_mustComma_0 7 rfl rfl)
theorem dX3_mustComma_8 : decode cX3_mustComma 8 = .ok (.invokevirtual 158, 3) := dk_182 0 158 (dk_at dksX3_mustComma_0 8 rfl rfl)
theorem dX3_mustComma_11 : decode cX3_mustComma 11 = .ok (.ifCond .ne 12, 3) := dk_154 0 12 (dk_at dksX3_mustComma_0 11 rfl rfl)
theorem dX3_mustComma_14 : decode cX3_mustComma 14 = .ok (.aload_n 0, 1) := dk_42 (dk_at dksX3_mustComma_0 14 rfl rfl)
theorem dX3_mustComma_15 : decode cX3_mustComma 15 = .ok (.iconst 1, 1) := dk_4 (dk_at dksX3_mustComma_0 15 rfl rfl)
theorem dX3_mustComma_16 : decode cX3_mustComma 16 = .ok (.aload_n 0, 1) := dk_42 (dk_at dksX3_mustComma_0 16 rfl rfl)
theorem dX3_mustComma_17 : decode cX3_mustComma 17 = .ok (.getfield 88, 3) := dk_180 0 88 (dk_at dksX3_mustComma_0 17 rfl rfl)
theorem dX3_mustComma_20 : decode cX3_mustComma 20 = .ok (.invokevirtual 134, 3) := dk_182 0 134 (dk_at dksX3_mustComma_0 20 rfl rfl)
theorem dX3_mustComma_23 : decode cX3_mustComma 23 = .ok (.return_, 1) := dk_177 (dk_at dksX3_mustComma_0 23 rfl rfl)
abbrev cX3_lineLine : ByteArray := prog_18_method_33_code
def yX3_lineLine : MethodName := ⟨RX3, "lineLine", "()V"⟩
def dkwX3_lineLine_5 : List UInt8 := [182, 0, 223, 42, 180, 0, 23, 16, 52, 92, 46, 4, 96, 79, 177]
abbrev dktX3_lineLine_5 : List UInt8 := dkwX3_lineLine_5 ++ []
def dkwX3_lineLine_4 : List UInt8 := [18, 240, 182, 0, 131, 153, 0, 16, 42, 180, 0, 23, 16, 77, 27, 96, 4, 79, 167, 0, 9, 42, 18, 242]
abbrev dktX3_lineLine_4 : List UInt8 := dkwX3_lineLine_4 ++ dktX3_lineLine_5
def dkwX3_lineLine_3 : List UInt8 := [21, 4, 79, 132, 3, 1, 167, 255, 202, 42, 18, 238, 182, 0, 223, 42, 180, 0, 107, 153, 0, 4, 177, 42]
abbrev dktX3_lineLine_3 : List UInt8 := dkwX3_lineLine_3 ++ dktX3_lineLine_4
def dkwX3_lineLine_2 : List UInt8 := [153, 0, 4, 177, 28, 4, 21, 4, 120, 128, 61, 42, 180, 0, 23, 16, 53, 6, 27, 104, 96, 29, 96]
abbrev dktX3_lineLine_2 : List UInt8 := dkwX3_lineLine_2 ++ dktX3_lineLine_3
def dkwX3_lineLine_1 : List UInt8 := [162, 0, 55, 29, 158, 0, 7, 42, 182, 0, 235, 42, 3, 28, 182, 0, 231, 54, 4, 42, 180, 0, 107]
abbrev dktX3_lineLine_1 : List UInt8 := dkwX3_lineLine_1 ++ dktX3_lineLine_2
def dkwX3_lineLine_0 : List UInt8 := [42, 180, 0, 107, 153, 0, 4, 177, 42, 180, 0, 23, 16, 52, 46, 60, 3, 61, 3, 62, 29, 6]
abbrev dktX3_lineLine_0 : List UInt8 := dkwX3_lineLine_0 ++ dktX3_lineLine_1
theorem dksX3_lineLine_0 : cX3_lineLine.data.toList.drop 0 = dktX3_lineLine_0 := by decide +kernel
theorem dksX3_lineLine_1 : cX3_lineLine.data.toList.drop 22 = dktX3_lineLine_1 := dk_seg dksX3_lineLine_0 22 rfl rfl
theorem dksX3_lineLine_2 : cX3_lineLine.data.toList.drop 45 = dktX3_lineLine_2 := dk_seg dksX3_lineLine_1 23 rfl rfl
theorem dksX3_lineLine_3 : cX3_lineLine.data.toList.drop 68 = dktX3_lineLine_3 := dk_seg dksX3_lineLine_2 23 rfl rfl
theorem dksX3_lineLine_4 : cX3_lineLine.data.toList.drop 92 = dktX3_lineLine_4 := dk_seg dksX3_lineLine_3 24 rfl rfl
theorem dksX3_lineLine_5 : cX3_lineLine.data.toList.drop 116 = dktX3_lineLine_5 := dk_seg dksX3_lineLine_4 24 rfl rfl
theorem dX3_lineLine_0 : decode cX3_lineLine 0 = .ok (.aload_n 0, 1) := dk_42 (dk_at dksX3_lineLine_0 0 rfl rfl)
theorem dX3_lineLine_1 : decode cX3_lineLine 1 = .ok (.getfield 107, 3) := dk_180 0 107 (dk_at dksX3_lineLine_0 1 rfl rfl)
theorem dX3_lineLine_4 : decode cX3_lineLine 4 = .ok (.ifCond .eq 4, 3) := dk_153 0 4 (dk_at dksX3_lineLine_0 4 rfl rfl)
theorem dX3_lineLine_7 : decode cX3_lineLine 7 = .ok (.return_, 1) := dk_177 (dk_at dksX3_lineLine_0 7 rfl rfl)
theorem dX3_lineLine_8 : decode cX3_lineLine 8 = .ok (.aload_n 0, 1) := dk_42 (dk_at dksX3_lineLine_0 8 rfl rfl)
theorem dX3_lineLine_9 : decode cX3_lineLine 9 = .ok (.getfield 23, 3) := dk_180 0 23 (dk_at dksX3_lineLine_0 9 rfl rfl)
theorem dX3_lineLine_12 : decode cX3_lineLine 12 = .ok (.bipush 52, 2) := dk_16 52 (dk_at dksX3_lineLine_0 12 rfl rfl)
theorem dX3_lineLine_14 : decode cX3_lineLine 14 = .ok (.iaload, 1) := dk_46 (dk_at dksX3_lineLine_0 14 rfl rfl)
theorem dX3_lineLine_15 : decode cX3_lineLine 15 = .ok (.istore_n 1, 1) := dk_60 (dk_at dksX3_lineLine_0 15 rfl rfl)
theorem dX3_lineLine_16 : decode cX3_lineLine 16 = .ok (.iconst 0, 1) := dk_3 (dk_at dksX3_lineLine_0 16 rfl rfl)
theorem dX3_lineLine_17 : decode cX3_lineLine 17 = .ok (.istore_n 2, 1) := dk_61 (dk_at dksX3_lineLine_0 17 rfl rfl)
theorem dX3_lineLine_18 : decode cX3_lineLine 18 = .ok (.iconst 0, 1) := dk_3 (dk_at dksX3_lineLine_0 18 rfl rfl)
theorem dX3_lineLine_19 : decode cX3_lineLine 19 = .ok (.istore_n 3, 1) := dk_62 (dk_at dksX3_lineLine_0 19 rfl rfl)
theorem dX3_lineLine_20 : decode cX3_lineLine 20 = .ok (.iload_n 3, 1) := dk_29 (dk_at dksX3_lineLine_0 20 rfl rfl)
theorem dX3_lineLine_21 : decode cX3_lineLine 21 = .ok (.iconst 3, 1) := dk_6 (dk_at dksX3_lineLine_0 21 rfl rfl)
theorem dX3_lineLine_22 : decode cX3_lineLine 22 = .ok (.if_icmp .ge 55, 3) := dk_162 0 55 (dk_at dksX3_lineLine_1 0 rfl rfl)
theorem dX3_lineLine_25 : decode cX3_lineLine 25 = .ok (.iload_n 3, 1) := dk_29 (dk_at dksX3_lineLine_1 3 rfl rfl)
theorem dX3_lineLine_26 : decode cX3_lineLine 26 = .ok (.ifCond .le 7, 3) := dk_158 0 7 (dk_at dksX3_lineLine_1 4 rfl rfl)
theorem dX3_lineLine_29 : decode cX3_lineLine 29 = .ok (.aload_n 0, 1) := dk_42 (dk_at dksX3_lineLine_1 7 rfl rfl)
theorem dX3_lineLine_30 : decode cX3_lineLine 30 = .ok (.invokevirtual 235, 3) := dk_182 0 235 (dk_at dksX3_lineLine_1 8 rfl rfl)
theorem dX3_lineLine_33 : decode cX3_lineLine 33 = .ok (.aload_n 0, 1) := dk_42 (dk_at dksX3_lineLine_1 11 rfl rfl)
theorem dX3_lineLine_34 : decode cX3_lineLine 34 = .ok (.iconst 0, 1) := dk_3 (dk_at dksX3_lineLine_1 12 rfl rfl)
theorem dX3_lineLine_35 : decode cX3_lineLine 35 = .ok (.iload_n 2, 1) := dk_28 (dk_at dksX3_lineLine_1 13 rfl rfl)
theorem dX3_lineLine_36 : decode cX3_lineLine 36 = .ok (.invokevirtual 231, 3) := dk_182 0 231 (dk_at dksX3_lineLine_1 14 rfl rfl)
theorem dX3_lineLine_39 : decode cX3_lineLine 39 = .ok (.istore 4, 2) := dk_54 4 (dk_at dksX3_lineLine_1 17 rfl rfl)
theorem dX3_lineLine_41 : decode cX3_lineLine 41 = .ok (.aload_n 0, 1) := dk_42 (dk_at dksX3_lineLine_1 19 rfl rfl)
theorem dX3_lineLine_42 : decode cX3_lineLine 42 = .ok (.getfield 107, 3) := dk_180 0 107 (dk_at dksX3_lineLine_1 20 rfl rfl)
theorem dX3_lineLine_45 : decode cX3_lineLine 45 = .ok (.ifCond .eq 4, 3) := dk_153 0 4 (dk_at dksX3_lineLine_2 0 rfl rfl)
theorem dX3_lineLine_48 : decode cX3_lineLine 48 = .ok (.return_, 1) := dk_177 (dk_at dksX3_lineLine_2 3 rfl rfl)
theorem dX3_lineLine_49 : decode cX3_lineLine 49 = .ok (.iload_n 2, 1) := dk_28 (dk_at dksX3_lineLine_2 4 rfl rfl)
theorem dX3_lineLine_50 : decode cX3_lineLine 50 = .ok (.iconst 1, 1) := dk_4 (dk_at dksX3_lineLine_2 5 rfl rfl)
theorem dX3_lineLine_51 : decode cX3_lineLine 51 = .ok (.iload 4, 2) := dk_21 4 (dk_at dksX3_lineLine_2 6 rfl rfl)
theorem dX3_lineLine_53 : decode cX3_lineLine 53 = .ok (.ishl, 1) := dk_120 (dk_at dksX3_lineLine_2 8 rfl rfl)
theorem dX3_lineLine_54 : decode cX3_lineLine 54 = .ok (.ior, 1) := dk_128 (dk_at dksX3_lineLine_2 9 rfl rfl)
theorem dX3_lineLine_55 : decode cX3_lineLine 55 = .ok (.istore_n 2, 1) := dk_61 (dk_at dksX3_lineLine_2 10 rfl rfl)
theorem dX3_lineLine_56 : decode cX3_lineLine 56 = .ok (.aload_n 0, 1) := dk_42 (dk_at dksX3_lineLine_2 11 rfl rfl)
theorem dX3_lineLine_57 : decode cX3_lineLine 57 = .ok (.getfield 23, 3) := dk_180 0 23 (dk_at dksX3_lineLine_2 12 rfl rfl)
theorem dX3_lineLine_60 : decode cX3_lineLine 60 = .ok (.bipush 53, 2) := dk_16 53 (dk_at dksX3_lineLine_2 15 rfl rfl)
theorem dX3_lineLine_62 : decode cX3_lineLine 62 = .ok (.iconst 3, 1) := dk_6 (dk_at dksX3_lineLine_2 17 rfl rfl)
theorem dX3_lineLine_63 : decode cX3_lineLine 63 = .ok (.iload_n 1, 1) := dk_27 (dk_at dksX3_lineLine_2 18 rfl rfl)
theorem dX3_lineLine_64 : decode cX3_lineLine 64 = .ok (.imul, 1) := dk_104 (dk_at dksX3_lineLine_2 19 rfl rfl)
theorem dX3_lineLine_65 : decode cX3_lineLine 65 = .ok (.iadd, 1) := dk_96 (dk_at dksX3_lineLine_2 20 rfl rfl)
theorem dX3_lineLine_66 : decode cX3_lineLine 66 = .ok (.iload_n 3, 1) := dk_29 (dk_at dksX3_lineLine_2 21 rfl rfl)
theorem dX3_lineLine_67 : decode cX3_lineLine 67 = .ok (.iadd, 1) := dk_96 (dk_at dksX3_lineLine_2 22 rfl rfl)
theorem dX3_lineLine_68 : decode cX3_lineLine 68 = .ok (.iload 4, 2) := dk_21 4 (dk_at dksX3_lineLine_3 0 rfl rfl)
theorem dX3_lineLine_70 : decode cX3_lineLine 70 = .ok (.iastore, 1) := dk_79 (dk_at dksX3_lineLine_3 2 rfl rfl)
theorem dX3_lineLine_71 : decode cX3_lineLine 71 = .ok (.iinc 3 1, 3) := dk_132 3 1 (dk_at dksX3_lineLine_3 3 rfl rfl)
theorem dX3_lineLine_74 : decode cX3_lineLine 74 = .ok (.goto (-54), 3) := dk_167 255 202 (dk_at dksX3_lineLine_3 6 rfl rfl)
theorem dX3_lineLine_77 : decode cX3_lineLine 77 = .ok (.aload_n 0, 1) := dk_42 (dk_at dksX3_lineLine_3 9 rfl rfl)
theorem dX3_lineLine_78 : decode cX3_lineLine 78 = .ok (.ldc 238, 2) := dk_18 238 (dk_at dksX3_lineLine_3 10 rfl rfl)
theorem dX3_lineLine_80 : decode cX3_lineLine 80 = .ok (.invokevirtual 223, 3) := dk_182 0 223 (dk_at dksX3_lineLine_3 12 rfl rfl)
theorem dX3_lineLine_83 : decode cX3_lineLine 83 = .ok (.aload_n 0, 1) := dk_42 (dk_at dksX3_lineLine_3 15 rfl rfl)
theorem dX3_lineLine_84 : decode cX3_lineLine 84 = .ok (.getfield 107, 3) := dk_180 0 107 (dk_at dksX3_lineLine_3 16 rfl rfl)
theorem dX3_lineLine_87 : decode cX3_lineLine 87 = .ok (.ifCond .eq 4, 3) := dk_153 0 4 (dk_at dksX3_lineLine_3 19 rfl rfl)
theorem dX3_lineLine_90 : decode cX3_lineLine 90 = .ok (.return_, 1) := dk_177 (dk_at dksX3_lineLine_3 22 rfl rfl)
theorem dX3_lineLine_91 : decode cX3_lineLine 91 = .ok (.aload_n 0, 1) := dk_42 (dk_at dksX3_lineLine_3 23 rfl rfl)
theorem dX3_lineLine_92 : decode cX3_lineLine 92 = .ok (.ldc 240, 2) := dk_18 240 (dk_at dksX3_lineLine_4 0 rfl rfl)
theorem dX3_lineLine_94 : decode cX3_lineLine 94 = .ok (.invokevirtual 131, 3) := dk_182 0 131 (dk_at dksX3_lineLine_4 2 rfl rfl)
theorem dX3_lineLine_97 : decode cX3_lineLine 97 = .ok (.ifCond .eq 16, 3) := dk_153 0 16 (dk_at dksX3_lineLine_4 5 rfl rfl)
theorem dX3_lineLine_100 : decode cX3_lineLine 100 = .ok (.aload_n 0, 1) := dk_42 (dk_at dksX3_lineLine_4 8 rfl rfl)
theorem dX3_lineLine_101 : decode cX3_lineLine 101 = .ok (.getfield 23, 3) := dk_180 0 23 (dk_at dksX3_lineLine_4 9 rfl rfl)
theorem dX3_lineLine_104 : decode cX3_lineLine 104 = .ok (.bipush 77, 2) := dk_16 77 (dk_at dksX3_lineLine_4 12 rfl rfl)
theorem dX3_lineLine_106 : decode cX3_lineLine 106 = .ok (.iload_n 1, 1) := dk_27 (dk_at dksX3_lineLine_4 14 rfl rfl)
theorem dX3_lineLine_107 : decode cX3_lineLine 107 = .ok (.iadd, 1) := dk_96 (dk_at dksX3_lineLine_4 15 rfl rfl)
theorem dX3_lineLine_108 : decode cX3_lineLine 108 = .ok (.iconst 1, 1) := dk_4 (dk_at dksX3_lineLine_4 16 rfl rfl)
theorem dX3_lineLine_109 : decode cX3_lineLine 109 = .ok (.iastore, 1) := dk_79 (dk_at dksX3_lineLine_4 17 rfl rfl)
theorem dX3_lineLine_110 : decode cX3_lineLine 110 = .ok (.goto 9, 3) := dk_167 0 9 (dk_at dksX3_lineLine_4 18 rfl rfl)
theorem dX3_lineLine_113 : decode cX3_lineLine 113 = .ok (.aload_n 0, 1) := dk_42 (dk_at dksX3_lineLine_4 21 rfl rfl)
theorem dX3_lineLine_114 : decode cX3_lineLine 114 = .ok (.ldc 242, 2) := dk_18 242 (dk_at dksX3_lineLine_4 22 rfl rfl)
theorem dX3_lineLine_116 : decode cX3_lineLine 116 = .ok (.invokevirtual 223, 3) := dk_182 0 223 (dk_at dksX3_lineLine_5 0 rfl rfl)
theorem dX3_lineLine_119 : decode cX3_lineLine 119 = .ok (.aload_n 0, 1) := dk_42 (dk_at dksX3_lineLine_5 3 rfl rfl)
theorem dX3_lineLine_120 : decode cX3_lineLine 120 = .ok (.getfield 23, 3) := dk_180 0 23 (dk_at dksX3_lineLine_5 4 rfl rfl)
theorem dX3_lineLine_123 : decode cX3_lineLine 123 = .ok (.bipush 52, 2) := dk_16 52 (dk_at dksX3_lineLine_5 7 rfl rfl)
theorem dX3_lineLine_125 : decode cX3_lineLine 125 = .ok (.dup2, 1) := dk_92 (dk_at dksX3_lineLine_5 9 rfl rfl)
theorem dX3_lineLine_126 : decode cX3_lineLine 126 = .ok (.iaload, 1) := dk_46 (dk_at dksX3_lineLine_5 10 rfl rfl)
theorem dX3_lineLine_127 : decode cX3_lineLine 127 = .ok (.iconst 1, 1) := dk_4 (dk_at dksX3_lineLine_5 11 rfl rfl)
theorem dX3_lineLine_128 : decode cX3_lineLine 128 = .ok (.iadd, 1) := dk_96 (dk_at dksX3_lineLine_5 12 rfl rfl)
theorem dX3_lineLine_129 : decode cX3_lineLine 129 = .ok (.iastore, 1) := dk_79 (dk_at dksX3_lineLine_5 13 rfl rfl)
theorem dX3_lineLine_130 : decode cX3_lineLine 130 = .ok (.return_, 1) := dk_177 (dk_at dksX3_lineLine_5 14 rfl rfl)
abbrev cX3_rayLine : ByteArray := prog_18_method_34_code
def yX3_rayLine : MethodName := ⟨RX3, "rayLine", "()V"⟩
def dkwX3_rayLine_8 : List UInt8 := [177]
abbrev dktX3_rayLine_8 : List UInt8 := dkwX3_rayLine_8 ++ []
def dkwX3_rayLine_7 : List UInt8 := [132, 3, 1, 167, 255, 113, 42, 180, 0, 107, 154, 0, 14, 42, 180, 0, 23, 16, 85, 92, 46, 4, 96, 79]
abbrev dktX3_rayLine_7 : List UInt8 := dkwX3_rayLine_7 ++ dktX3_rayLine_8
def dkwX3_rayLine_6 : List UInt8 := [16, 86, 7, 27, 104, 96, 29, 96, 21, 4, 153, 0, 9, 21, 6, 116, 167, 0, 5, 21, 6, 79]
abbrev dktX3_rayLine_6 : List UInt8 := dkwX3_rayLine_6 ++ dktX3_rayLine_7
def dkwX3_rayLine_5 : List UInt8 := [182, 0, 227, 54, 6, 28, 154, 0, 8, 21, 6, 158, 0, 7, 4, 167, 0, 4, 3, 61, 42, 180, 0, 23]
abbrev dktX3_rayLine_5 : List UInt8 := dkwX3_rayLine_5 ++ dktX3_rayLine_6
def dkwX3_rayLine_4 : List UInt8 := [167, 0, 4, 3, 54, 5, 21, 5, 153, 0, 12, 42, 7, 42, 180, 0, 88, 182, 0, 134, 42, 3, 6]
abbrev dktX3_rayLine_4 : List UInt8 := dkwX3_rayLine_4 ++ dktX3_rayLine_5
def dkwX3_rayLine_3 : List UInt8 := [160, 0, 26, 28, 154, 0, 22, 42, 180, 0, 97, 6, 160, 0, 14, 42, 180, 0, 94, 154, 0, 7, 4]
abbrev dktX3_rayLine_3 : List UInt8 := dkwX3_rayLine_3 ++ dktX3_rayLine_4
def dkwX3_rayLine_2 : List UInt8 := [16, 45, 160, 0, 7, 4, 167, 0, 4, 3, 54, 4, 21, 4, 153, 0, 7, 42, 182, 0, 128, 29, 6]
abbrev dktX3_rayLine_2 : List UInt8 := dkwX3_rayLine_2 ++ dktX3_rayLine_3
def dkwX3_rayLine_1 : List UInt8 := [162, 0, 144, 29, 158, 0, 7, 42, 182, 0, 235, 42, 180, 0, 107, 153, 0, 4, 177, 42, 180, 0, 97]
abbrev dktX3_rayLine_1 : List UInt8 := dkwX3_rayLine_1 ++ dktX3_rayLine_2
def dkwX3_rayLine_0 : List UInt8 := [42, 180, 0, 107, 153, 0, 4, 177, 42, 180, 0, 23, 16, 85, 46, 60, 3, 61, 3, 62, 29, 7]
abbrev dktX3_rayLine_0 : List UInt8 := dkwX3_rayLine_0 ++ dktX3_rayLine_1
theorem dksX3_rayLine_0 : cX3_rayLine.data.toList.drop 0 = dktX3_rayLine_0 := by decide +kernel
theorem dksX3_rayLine_1 : cX3_rayLine.data.toList.drop 22 = dktX3_rayLine_1 := dk_seg dksX3_rayLine_0 22 rfl rfl
theorem dksX3_rayLine_2 : cX3_rayLine.data.toList.drop 45 = dktX3_rayLine_2 := dk_seg dksX3_rayLine_1 23 rfl rfl
theorem dksX3_rayLine_3 : cX3_rayLine.data.toList.drop 68 = dktX3_rayLine_3 := dk_seg dksX3_rayLine_2 23 rfl rfl
theorem dksX3_rayLine_4 : cX3_rayLine.data.toList.drop 91 = dktX3_rayLine_4 := dk_seg dksX3_rayLine_3 23 rfl rfl
theorem dksX3_rayLine_5 : cX3_rayLine.data.toList.drop 114 = dktX3_rayLine_5 := dk_seg dksX3_rayLine_4 23 rfl rfl
theorem dksX3_rayLine_6 : cX3_rayLine.data.toList.drop 138 = dktX3_rayLine_6 := dk_seg dksX3_rayLine_5 24 rfl rfl
theorem dksX3_rayLine_7 : cX3_rayLine.data.toList.drop 160 = dktX3_rayLine_7 := dk_seg dksX3_rayLine_6 22 rfl rfl
theorem dksX3_rayLine_8 : cX3_rayLine.data.toList.drop 184 = dktX3_rayLine_8 := dk_seg dksX3_rayLine_7 24 rfl rfl
theorem dX3_rayLine_0 : decode cX3_rayLine 0 = .ok (.aload_n 0, 1) := dk_42 (dk_at dksX3_rayLine_0 0 rfl rfl)
theorem dX3_rayLine_1 : decode cX3_rayLine 1 = .ok (.getfield 107, 3) := dk_180 0 107 (dk_at dksX3_rayLine_0 1 rfl rfl)
theorem dX3_rayLine_4 : decode cX3_rayLine 4 = .ok (.ifCond .eq 4, 3) := dk_153 0 4 (dk_at dksX3_rayLine_0 4 rfl rfl)
theorem dX3_rayLine_7 : decode cX3_rayLine 7 = .ok (.return_, 1) := dk_177 (dk_at dksX3_rayLine_0 7 rfl rfl)
theorem dX3_rayLine_8 : decode cX3_rayLine 8 = .ok (.aload_n 0, 1) := dk_42 (dk_at dksX3_rayLine_0 8 rfl rfl)
theorem dX3_rayLine_9 : decode cX3_rayLine 9 = .ok (.getfield 23, 3) := dk_180 0 23 (dk_at dksX3_rayLine_0 9 rfl rfl)
theorem dX3_rayLine_12 : decode cX3_rayLine 12 = .ok (.bipush 85, 2) := dk_16 85 (dk_at dksX3_rayLine_0 12 rfl rfl)
theorem dX3_rayLine_14 : decode cX3_rayLine 14 = .ok (.iaload, 1) := dk_46 (dk_at dksX3_rayLine_0 14 rfl rfl)
theorem dX3_rayLine_15 : decode cX3_rayLine 15 = .ok (.istore_n 1, 1) := dk_60 (dk_at dksX3_rayLine_0 15 rfl rfl)
theorem dX3_rayLine_16 : decode cX3_rayLine 16 = .ok (.iconst 0, 1) := dk_3 (dk_at dksX3_rayLine_0 16 rfl rfl)
theorem dX3_rayLine_17 : decode cX3_rayLine 17 = .ok (.istore_n 2, 1) := dk_61 (dk_at dksX3_rayLine_0 17 rfl rfl)
theorem dX3_rayLine_18 : decode cX3_rayLine 18 = .ok (.iconst 0, 1) := dk_3 (dk_at dksX3_rayLine_0 18 rfl rfl)
theorem dX3_rayLine_19 : decode cX3_rayLine 19 = .ok (.istore_n 3, 1) := dk_62 (dk_at dksX3_rayLine_0 19 rfl rfl)
theorem dX3_rayLine_20 : decode cX3_rayLine 20 = .ok (.iload_n 3, 1) := dk_29 (dk_at dksX3_rayLine_0 20 rfl rfl)
theorem dX3_rayLine_21 : decode cX3_rayLine 21 = .ok (.iconst 4, 1) := dk_7 (dk_at dksX3_rayLine_0 21 rfl rfl)
theorem dX3_rayLine_22 : decode cX3_rayLine 22 = .ok (.if_icmp .ge 144, 3) := dk_162 0 144 (dk_at dksX3_rayLine_1 0 rfl rfl)
theorem dX3_rayLine_25 : decode cX3_rayLine 25 = .ok (.iload_n 3, 1) := dk_29 (dk_at dksX3_rayLine_1 3 rfl rfl)
theorem dX3_rayLine_26 : decode cX3_rayLine 26 = .ok (.ifCond .le 7, 3) := dk_158 0 7 (dk_at dksX3_rayLine_1 4 rfl rfl)
theorem dX3_rayLine_29 : decode cX3_rayLine 29 = .ok (.aload_n 0, 1) := dk_42 (dk_at dksX3_rayLine_1 7 rfl rfl)
theorem dX3_rayLine_30 : decode cX3_rayLine 30 = .ok (.invokevirtual 235, 3) := dk_182 0 235 (dk_at dksX3_rayLine_1 8 rfl rfl)
theorem dX3_rayLine_33 : decode cX3_rayLine 33 = .ok (.aload_n 0, 1) := dk_42 (dk_at dksX3_rayLine_1 11 rfl rfl)
theorem dX3_rayLine_34 : decode cX3_rayLine 34 = .ok (.getfield 107, 3) := dk_180 0 107 (dk_at dksX3_rayLine_1 12 rfl rfl)
theorem dX3_rayLine_37 : decode cX3_rayLine 37 = .ok (.ifCond .eq 4, 3) := dk_153 0 4 (dk_at dksX3_rayLine_1 15 rfl rfl)
theorem dX3_rayLine_40 : decode cX3_rayLine 40 = .ok (.return_, 1) := dk_177 (dk_at dksX3_rayLine_1 18 rfl rfl)
theorem dX3_rayLine_41 : decode cX3_rayLine 41 = .ok (.aload_n 0, 1) := dk_42 (dk_at dksX3_rayLine_1 19 rfl rfl)
theorem dX3_rayLine_42 : decode cX3_rayLine 42 = .ok (.getfield 97, 3) := dk_180 0 97 (dk_at dksX3_rayLine_1 20 rfl rfl)
theorem dX3_rayLine_45 : decode cX3_rayLine 45 = .ok (.bipush 45, 2) := dk_16 45 (dk_at dksX3_rayLine_2 0 rfl rfl)
theorem dX3_rayLine_47 : decode cX3_rayLine 47 = .ok (.if_icmp .ne 7, 3) := dk_160 0 7 (dk_at dksX3_rayLine_2 2 rfl rfl)
theorem dX3_rayLine_50 : decode cX3_rayLine 50 = .ok (.iconst 1, 1) := dk_4 (dk_at dksX3_rayLine_2 5 rfl rfl)
theorem dX3_rayLine_51 : decode cX3_rayLine 51 = .ok (.goto 4, 3) := dk_167 0 4 (dk_at dksX3_rayLine_2 6 rfl rfl)
theorem dX3_rayLine_54 : decode cX3_rayLine 54 = .ok (.iconst 0, 1) := dk_3 (dk_at dksX3_rayLine_2 9 rfl rfl)
theorem dX3_rayLine_55 : decode cX3_rayLine 55 = .ok (.istore 4, 2) := dk_54 4 (dk_at dksX3_rayLine_2 10 rfl rfl)
theorem dX3_rayLine_57 : decode cX3_rayLine 57 = .ok (.iload 4, 2) := dk_21 4 (dk_at dksX3_rayLine_2 12 rfl rfl)
theorem dX3_rayLine_59 : decode cX3_rayLine 59 = .ok (.ifCond .eq 7, 3) := dk_153 0 7 (dk_at dksX3_rayLine_2 14 rfl rfl)
theorem dX3_rayLine_62 : decode cX3_rayLine 62 = .ok (.aload_n 0, 1) := dk_42 (dk_at dksX3_rayLine_2 17 rfl rfl)
theorem dX3_rayLine_63 : decode cX3_rayLine 63 = .ok (.invokevirtual 128, 3) := dk_182 0 128 (dk_at dksX3_rayLine_2 18 rfl rfl)
theorem dX3_rayLine_66 : decode cX3_rayLine 66 = .ok (.iload_n 3, 1) := dk_29 (dk_at dksX3_rayLine_2 21 rfl rfl)
theorem dX3_rayLine_67 : decode cX3_rayLine 67 = .ok (.iconst 3, 1) := dk_6 (dk_at dksX3_rayLine_2 22 rfl rfl)
theorem dX3_rayLine_68 : decode cX3_rayLine 68 = .ok (.if_icmp .ne 26, 3) := dk_160 0 26 (dk_at dksX3_rayLine_3 0 rfl rfl)
theorem dX3_rayLine_71 : decode cX3_rayLine 71 = .ok (.iload_n 2, 1) := dk_28 (dk_at dksX3_rayLine_3 3 rfl rfl)
theorem dX3_rayLine_72 : decode cX3_rayLine 72 = .ok (.ifCond .ne 22, 3) := dk_154 0 22 (dk_at dksX3_rayLine_3 4 rfl rfl)
theorem dX3_rayLine_75 : decode cX3_rayLine 75 = .ok (.aload_n 0, 1) := dk_42 (dk_at dksX3_rayLine_3 7 rfl rfl)
theorem dX3_rayLine_76 : decode cX3_rayLine 76 = .ok (.getfield 97, 3) := dk_180 0 97 (dk_at dksX3_rayLine_3 8 rfl rfl)
theorem dX3_rayLine_79 : decode cX3_rayLine 79 = .ok (.iconst 3, 1) := dk_6 (dk_at dksX3_rayLine_3 11 rfl rfl)
theorem dX3_rayLine_80 : decode cX3_rayLine 80 = .ok (.if_icmp .ne 14, 3) := dk_160 0 14 (dk_at dksX3_rayLine_3 12 rfl rfl)
theorem dX3_rayLine_83 : decode cX3_rayLine 83 = .ok (.aload_n 0, 1) := dk_42 (dk_at dksX3_rayLine_3 15 rfl rfl)
theorem dX3_rayLine_84 : decode cX3_rayLine 84 = .ok (.getfield 94, 3) := dk_180 0 94 (dk_at dksX3_rayLine_3 16 rfl rfl)
theorem dX3_rayLine_87 : decode cX3_rayLine 87 = .ok (.ifCond .ne 7, 3) := dk_154 0 7 (dk_at dksX3_rayLine_3 19 rfl rfl)
theorem dX3_rayLine_90 : decode cX3_rayLine 90 = .ok (.iconst 1, 1) := dk_4 (dk_at dksX3_rayLine_3 22 rfl rfl)
theorem dX3_rayLine_91 : decode cX3_rayLine 91 = .ok (.goto 4, 3) := dk_167 0 4 (dk_at dksX3_rayLine_4 0 rfl rfl)
theorem dX3_rayLine_94 : decode cX3_rayLine 94 = .ok (.iconst 0, 1) := dk_3 (dk_at dksX3_rayLine_4 3 rfl rfl)
theorem dX3_rayLine_95 : decode cX3_rayLine 95 = .ok (.istore 5, 2) := dk_54 5 (dk_at dksX3_rayLine_4 4 rfl rfl)
theorem dX3_rayLine_97 : decode cX3_rayLine 97 = .ok (.iload 5, 2) := dk_21 5 (dk_at dksX3_rayLine_4 6 rfl rfl)
theorem dX3_rayLine_99 : decode cX3_rayLine 99 = .ok (.ifCond .eq 12, 3) := dk_153 0 12 (dk_at dksX3_rayLine_4 8 rfl rfl)
theorem dX3_rayLine_102 : decode cX3_rayLine 102 = .ok (.aload_n 0, 1) := dk_42 (dk_at dksX3_rayLine_4 11 rfl rfl)
theorem dX3_rayLine_103 : decode cX3_rayLine 103 = .ok (.iconst 4, 1) := dk_7 (dk_at dksX3_rayLine_4 12 rfl rfl)
theorem dX3_rayLine_104 : decode cX3_rayLine 104 = .ok (.aload_n 0, 1) := dk_42 (dk_at dksX3_rayLine_4 13 rfl rfl)
theorem dX3_rayLine_105 : decode cX3_rayLine 105 = .ok (.getfield 88, 3) := dk_180 0 88 (dk_at dksX3_rayLine_4 14 rfl rfl)
theorem dX3_rayLine_108 : decode cX3_rayLine 108 = .ok (.invokevirtual 134, 3) := dk_182 0 134 (dk_at dksX3_rayLine_4 17 rfl rfl)
theorem dX3_rayLine_111 : decode cX3_rayLine 111 = .ok (.aload_n 0, 1) := dk_42 (dk_at dksX3_rayLine_4 20 rfl rfl)
theorem dX3_rayLine_112 : decode cX3_rayLine 112 = .ok (.iconst 0, 1) := dk_3 (dk_at dksX3_rayLine_4 21 rfl rfl)
theorem dX3_rayLine_113 : decode cX3_rayLine 113 = .ok (.iconst 3, 1) := dk_6 (dk_at dksX3_rayLine_4 22 rfl rfl)
theorem dX3_rayLine_114 : decode cX3_rayLine 114 = .ok (.invokevirtual 227, 3) := dk_182 0 227 (dk_at dksX3_rayLine_5 0 rfl rfl)
theorem dX3_rayLine_117 : decode cX3_rayLine 117 = .ok (.istore 6, 2) := dk_54 6 (dk_at dksX3_rayLine_5 3 rfl rfl)
theorem dX3_rayLine_119 : decode cX3_rayLine 119 = .ok (.iload_n 2, 1) := dk_28 (dk_at dksX3_rayLine_5 5 rfl rfl)
theorem dX3_rayLine_120 : decode cX3_rayLine 120 = .ok (.ifCond .ne 8, 3) := dk_154 0 8 (dk_at dksX3_rayLine_5 6 rfl rfl)
theorem dX3_rayLine_123 : decode cX3_rayLine 123 = .ok (.iload 6, 2) := dk_21 6 (dk_at dksX3_rayLine_5 9 rfl rfl)
theorem dX3_rayLine_125 : decode cX3_rayLine 125 = .ok (.ifCond .le 7, 3) := dk_158 0 7 (dk_at dksX3_rayLine_5 11 rfl rfl)
theorem dX3_rayLine_128 : decode cX3_rayLine 128 = .ok (.iconst 1, 1) := dk_4 (dk_at dksX3_rayLine_5 14 rfl rfl)
theorem dX3_rayLine_129 : decode cX3_rayLine 129 = .ok (.goto 4, 3) := dk_167 0 4 (dk_at dksX3_rayLine_5 15 rfl rfl)
theorem dX3_rayLine_132 : decode cX3_rayLine 132 = .ok (.iconst 0, 1) := dk_3 (dk_at dksX3_rayLine_5 18 rfl rfl)
theorem dX3_rayLine_133 : decode cX3_rayLine 133 = .ok (.istore_n 2, 1) := dk_61 (dk_at dksX3_rayLine_5 19 rfl rfl)
theorem dX3_rayLine_134 : decode cX3_rayLine 134 = .ok (.aload_n 0, 1) := dk_42 (dk_at dksX3_rayLine_5 20 rfl rfl)
theorem dX3_rayLine_135 : decode cX3_rayLine 135 = .ok (.getfield 23, 3) := dk_180 0 23 (dk_at dksX3_rayLine_5 21 rfl rfl)
theorem dX3_rayLine_138 : decode cX3_rayLine 138 = .ok (.bipush 86, 2) := dk_16 86 (dk_at dksX3_rayLine_6 0 rfl rfl)
theorem dX3_rayLine_140 : decode cX3_rayLine 140 = .ok (.iconst 4, 1) := dk_7 (dk_at dksX3_rayLine_6 2 rfl rfl)
theorem dX3_rayLine_141 : decode cX3_rayLine 141 = .ok (.iload_n 1, 1) := dk_27 (dk_at dksX3_rayLine_6 3 rfl rfl)
theorem dX3_rayLine_142 : decode cX3_rayLine 142 = .ok (.imul, 1) := dk_104 (dk_at dksX3_rayLine_6 4 rfl rfl)
theorem dX3_rayLine_143 : decode cX3_rayLine 143 = .ok (.iadd, 1) := dk_96 (dk_at dksX3_rayLine_6 5 rfl rfl)
theorem dX3_rayLine_144 : decode cX3_rayLine 144 = .ok (.iload_n 3, 1) := dk_29 (dk_at dksX3_rayLine_6 6 rfl rfl)
theorem dX3_rayLine_145 : decode cX3_rayLine 145 = .ok (.iadd, 1) := dk_96 (dk_at dksX3_rayLine_6 7 rfl rfl)
theorem dX3_rayLine_146 : decode cX3_rayLine 146 = .ok (.iload 4, 2) := dk_21 4 (dk_at dksX3_rayLine_6 8 rfl rfl)
theorem dX3_rayLine_148 : decode cX3_rayLine 148 = .ok (.ifCond .eq 9, 3) := dk_153 0 9 (dk_at dksX3_rayLine_6 10 rfl rfl)
theorem dX3_rayLine_151 : decode cX3_rayLine 151 = .ok (.iload 6, 2) := dk_21 6 (dk_at dksX3_rayLine_6 13 rfl rfl)
theorem dX3_rayLine_153 : decode cX3_rayLine 153 = .ok (.ineg, 1) := dk_116 (dk_at dksX3_rayLine_6 15 rfl rfl)
theorem dX3_rayLine_154 : decode cX3_rayLine 154 = .ok (.goto 5, 3) := dk_167 0 5 (dk_at dksX3_rayLine_6 16 rfl rfl)
theorem dX3_rayLine_157 : decode cX3_rayLine 157 = .ok (.iload 6, 2) := dk_21 6 (dk_at dksX3_rayLine_6 19 rfl rfl)
theorem dX3_rayLine_159 : decode cX3_rayLine 159 = .ok (.iastore, 1) := dk_79 (dk_at dksX3_rayLine_6 21 rfl rfl)
theorem dX3_rayLine_160 : decode cX3_rayLine 160 = .ok (.iinc 3 1, 3) := dk_132 3 1 (dk_at dksX3_rayLine_7 0 rfl rfl)
theorem dX3_rayLine_163 : decode cX3_rayLine 163 = .ok (.goto (-143), 3) := dk_167 255 113 (dk_at dksX3_rayLine_7 3 rfl rfl)
theorem dX3_rayLine_166 : decode cX3_rayLine 166 = .ok (.aload_n 0, 1) := dk_42 (dk_at dksX3_rayLine_7 6 rfl rfl)
theorem dX3_rayLine_167 : decode cX3_rayLine 167 = .ok (.getfield 107, 3) := dk_180 0 107 (dk_at dksX3_rayLine_7 7 rfl rfl)
theorem dX3_rayLine_170 : decode cX3_rayLine 170 = .ok (.ifCond .ne 14, 3) := dk_154 0 14 (dk_at dksX3_rayLine_7 10 rfl rfl)
theorem dX3_rayLine_173 : decode cX3_rayLine 173 = .ok (.aload_n 0, 1) := dk_42 (dk_at dksX3_rayLine_7 13 rfl rfl)
theorem dX3_rayLine_174 : decode cX3_rayLine 174 = .ok (.getfield 23, 3) := dk_180 0 23 (dk_at dksX3_rayLine_7 14 rfl rfl)
theorem dX3_rayLine_177 : decode cX3_rayLine 177 = .ok (.bipush 85, 2) := dk_16 85 (dk_at dksX3_rayLine_7 17 rfl rfl)
theorem dX3_rayLine_179 : decode cX3_rayLine 179 = .ok (.dup2, 1) := dk_92 (dk_at dksX3_rayLine_7 19 rfl rfl)
theorem dX3_rayLine_180 : decode cX3_rayLine 180 = .ok (.iaload, 1) := dk_46 (dk_at dksX3_rayLine_7 20 rfl rfl)
theorem dX3_rayLine_181 : decode cX3_rayLine 181 = .ok (.iconst 1, 1) := dk_4 (dk_at dksX3_rayLine_7 21 rfl rfl)
theorem dX3_rayLine_182 : decode cX3_rayLine 182 = .ok (.iadd, 1) := dk_96 (dk_at dksX3_rayLine_7 22 rfl rfl)
theorem dX3_rayLine_183 : decode cX3_rayLine 183 = .ok (.iastore, 1) := dk_79 (dk_at dksX3_rayLine_7 23 rfl rfl)
theorem dX3_rayLine_184 : decode cX3_rayLine 184 = .ok (.return_, 1) := dk_177 (dk_at dksX3_rayLine_8 0 rfl rfl)
abbrev cX3_runLine : ByteArray := prog_18_method_35_code
def yX3_runLine : MethodName := ⟨RX3, "runLine", "()V"⟩
def dkwX3_runLine_6 : List UInt8 := [96, 79, 177]
abbrev dktX3_runLine_6 : List UInt8 := dkwX3_runLine_6 ++ []
def dkwX3_runLine_5 : List UInt8 := [167, 255, 164, 42, 180, 0, 23, 17, 0, 159, 27, 96, 28, 79, 42, 180, 0, 23, 17, 0, 158, 92, 46, 4]
abbrev dktX3_runLine_5 : List UInt8 := dkwX3_runLine_5 ++ dktX3_runLine_6
def dkwX3_runLine_4 : List UInt8 := [16, 6, 27, 104, 96, 28, 96, 42, 3, 4, 182, 0, 227, 79, 132, 2, 1, 42, 182, 0, 158, 62]
abbrev dktX3_runLine_4 : List UInt8 := dkwX3_runLine_4 ++ dktX3_runLine_5
def dkwX3_runLine_3 : List UInt8 := [180, 0, 23, 17, 0, 163, 16, 6, 27, 104, 96, 28, 96, 21, 4, 79, 42, 180, 0, 23, 17, 0, 187]
abbrev dktX3_runLine_3 : List UInt8 := dkwX3_runLine_3 ++ dktX3_runLine_4
def dkwX3_runLine_2 : List UInt8 := [42, 8, 42, 180, 0, 88, 182, 0, 134, 42, 180, 0, 107, 153, 0, 4, 177, 42, 182, 0, 128, 42]
abbrev dktX3_runLine_2 : List UInt8 := dkwX3_runLine_2 ++ dktX3_runLine_3
def dkwX3_runLine_1 : List UInt8 := [153, 0, 94, 42, 4, 3, 182, 0, 166, 54, 4, 42, 180, 0, 107, 154, 0, 18, 28, 16, 6, 160, 0, 12]
abbrev dktX3_runLine_1 : List UInt8 := dkwX3_runLine_1 ++ dktX3_runLine_2
def dkwX3_runLine_0 : List UInt8 := [42, 180, 0, 107, 153, 0, 4, 177, 42, 180, 0, 23, 17, 0, 158, 46, 60, 3, 61, 4, 62, 29]
abbrev dktX3_runLine_0 : List UInt8 := dkwX3_runLine_0 ++ dktX3_runLine_1
theorem dksX3_runLine_0 : cX3_runLine.data.toList.drop 0 = dktX3_runLine_0 := by decide +kernel
theorem dksX3_runLine_1 : cX3_runLine.data.toList.drop 22 = dktX3_runLine_1 := dk_seg dksX3_runLine_0 22 rfl rfl
theorem dksX3_runLine_2 : cX3_runLine.data.toList.drop 46 = dktX3_runLine_2 := dk_seg dksX3_runLine_1 24 rfl rfl
theorem dksX3_runLine_3 : cX3_runLine.data.toList.drop 68 = dktX3_runLine_3 := dk_seg dksX3_runLine_2 22 rfl rfl
theorem dksX3_runLine_4 : cX3_runLine.data.toList.drop 91 = dktX3_runLine_4 := dk_seg dksX3_runLine_3 23 rfl rfl
theorem dksX3_runLine_5 : cX3_runLine.data.toList.drop 113 = dktX3_runLine_5 := dk_seg dksX3_runLine_4 22 rfl rfl
theorem dksX3_runLine_6 : cX3_runLine.data.toList.drop 137 = dktX3_runLine_6 := dk_seg dksX3_runLine_5 24 rfl rfl
theorem dX3_runLine_0 : decode cX3_runLine 0 = .ok (.aload_n 0, 1) := dk_42 (dk_at dksX3_runLine_0 0 rfl rfl)
theorem dX3_runLine_1 : decode cX3_runLine 1 = .ok (.getfield 107, 3) := dk_180 0 107 (dk_at dksX3_runLine_0 1 rfl rfl)
theorem dX3_runLine_4 : decode cX3_runLine 4 = .ok (.ifCond .eq 4, 3) := dk_153 0 4 (dk_at dksX3_runLine_0 4 rfl rfl)
theorem dX3_runLine_7 : decode cX3_runLine 7 = .ok (.return_, 1) := dk_177 (dk_at dksX3_runLine_0 7 rfl rfl)
theorem dX3_runLine_8 : decode cX3_runLine 8 = .ok (.aload_n 0, 1) := dk_42 (dk_at dksX3_runLine_0 8 rfl rfl)
theorem dX3_runLine_9 : decode cX3_runLine 9 = .ok (.getfield 23, 3) := dk_180 0 23 (dk_at dksX3_runLine_0 9 rfl rfl)
theorem dX3_runLine_12 : decode cX3_runLine 12 = .ok (.sipush 158, 3) := dk_17 0 158 (dk_at dksX3_runLine_0 12 rfl rfl)
theorem dX3_runLine_15 : decode cX3_runLine 15 = .ok (.iaload, 1) := dk_46 (dk_at dksX3_runLine_0 15 rfl rfl)
theorem dX3_runLine_16 : decode cX3_runLine 16 = .ok (.istore_n 1, 1) := dk_60 (dk_at dksX3_runLine_0 16 rfl rfl)
theorem dX3_runLine_17 : decode cX3_runLine 17 = .ok (.iconst 0, 1) := dk_3 (dk_at dksX3_runLine_0 17 rfl rfl)
theorem dX3_runLine_18 : decode cX3_runLine 18 = .ok (.istore_n 2, 1) := dk_61 (dk_at dksX3_runLine_0 18 rfl rfl)
theorem dX3_runLine_19 : decode cX3_runLine 19 = .ok (.iconst 1, 1) := dk_4 (dk_at dksX3_runLine_0 19 rfl rfl)
theorem dX3_runLine_20 : decode cX3_runLine 20 = .ok (.istore_n 3, 1) := dk_62 (dk_at dksX3_runLine_0 20 rfl rfl)
theorem dX3_runLine_21 : decode cX3_runLine 21 = .ok (.iload_n 3, 1) := dk_29 (dk_at dksX3_runLine_0 21 rfl rfl)
theorem dX3_runLine_22 : decode cX3_runLine 22 = .ok (.ifCond .eq 94, 3) := dk_153 0 94 (dk_at dksX3_runLine_1 0 rfl rfl)
theorem dX3_runLine_25 : decode cX3_runLine 25 = .ok (.aload_n 0, 1) := dk_42 (dk_at dksX3_runLine_1 3 rfl rfl)
theorem dX3_runLine_26 : decode cX3_runLine 26 = .ok (.iconst 1, 1) := dk_4 (dk_at dksX3_runLine_1 4 rfl rfl)
theorem dX3_runLine_27 : decode cX3_runLine 27 = .ok (.iconst 0, 1) := dk_3 (dk_at dksX3_runLine_1 5 rfl rfl)
theorem dX3_runLine_28 : decode cX3_runLine 28 = .ok (.invokevirtual 166, 3) := dk_182 0 166 (dk_at dksX3_runLine_1 6 rfl rfl)
theorem dX3_runLine_31 : decode cX3_runLine 31 = .ok (.istore 4, 2) := dk_54 4 (dk_at dksX3_runLine_1 9 rfl rfl)
theorem dX3_runLine_33 : decode cX3_runLine 33 = .ok (.aload_n 0, 1) := dk_42 (dk_at dksX3_runLine_1 11 rfl rfl)
theorem dX3_runLine_34 : decode cX3_runLine 34 = .ok (.getfield 107, 3) := dk_180 0 107 (dk_at dksX3_runLine_1 12 rfl rfl)
theorem dX3_runLine_37 : decode cX3_runLine 37 = .ok (.ifCond .ne 18, 3) := dk_154 0 18 (dk_at dksX3_runLine_1 15 rfl rfl)
theorem dX3_runLine_40 : decode cX3_runLine 40 = .ok (.iload_n 2, 1) := dk_28 (dk_at dksX3_runLine_1 18 rfl rfl)
theorem dX3_runLine_41 : decode cX3_runLine 41 = .ok (.bipush 6, 2) := dk_16 6 (dk_at dksX3_runLine_1 19 rfl rfl)
theorem dX3_runLine_43 : decode cX3_runLine 43 = .ok (.if_icmp .ne 12, 3) := dk_160 0 12 (dk_at dksX3_runLine_1 21 rfl rfl)
theorem dX3_runLine_46 : decode cX3_runLine 46 = .ok (.aload_n 0, 1) := dk_42 (dk_at dksX3_runLine_2 0 rfl rfl)
theorem dX3_runLine_47 : decode cX3_runLine 47 = .ok (.iconst 5, 1) := dk_8 (dk_at dksX3_runLine_2 1 rfl rfl)
theorem dX3_runLine_48 : decode cX3_runLine 48 = .ok (.aload_n 0, 1) := dk_42 (dk_at dksX3_runLine_2 2 rfl rfl)
theorem dX3_runLine_49 : decode cX3_runLine 49 = .ok (.getfield 88, 3) := dk_180 0 88 (dk_at dksX3_runLine_2 3 rfl rfl)
theorem dX3_runLine_52 : decode cX3_runLine 52 = .ok (.invokevirtual 134, 3) := dk_182 0 134 (dk_at dksX3_runLine_2 6 rfl rfl)
theorem dX3_runLine_55 : decode cX3_runLine 55 = .ok (.aload_n 0, 1) := dk_42 (dk_at dksX3_runLine_2 9 rfl rfl)
theorem dX3_runLine_56 : decode cX3_runLine 56 = .ok (.getfield 107, 3) := dk_180 0 107 (dk_at dksX3_runLine_2 10 rfl rfl)
theorem dX3_runLine_59 : decode cX3_runLine 59 = .ok (.ifCond .eq 4, 3) := dk_153 0 4 (dk_at dksX3_runLine_2 13 rfl rfl)
theorem dX3_runLine_62 : decode cX3_runLine 62 = .ok (.return_, 1) := dk_177 (dk_at dksX3_runLine_2 16 rfl rfl)
theorem dX3_runLine_63 : decode cX3_runLine 63 = .ok (.aload_n 0, 1) := dk_42 (dk_at dksX3_runLine_2 17 rfl rfl)
theorem dX3_runLine_64 : decode cX3_runLine 64 = .ok (.invokevirtual 128, 3) := dk_182 0 128 (dk_at dksX3_runLine_2 18 rfl rfl)
theorem dX3_runLine_67 : decode cX3_runLine 67 = .ok (.aload_n 0, 1) := dk_42 (dk_at dksX3_runLine_2 21 rfl rfl)
theorem dX3_runLine_68 : decode cX3_runLine 68 = .ok (.getfield 23, 3) := dk_180 0 23 (dk_at dksX3_runLine_3 0 rfl rfl)
theorem dX3_runLine_71 : decode cX3_runLine 71 = .ok (.sipush 163, 3) := dk_17 0 163 (dk_at dksX3_runLine_3 3 rfl rfl)
theorem dX3_runLine_74 : decode cX3_runLine 74 = .ok (.bipush 6, 2) := dk_16 6 (dk_at dksX3_runLine_3 6 rfl rfl)
theorem dX3_runLine_76 : decode cX3_runLine 76 = .ok (.iload_n 1, 1) := dk_27 (dk_at dksX3_runLine_3 8 rfl rfl)
theorem dX3_runLine_77 : decode cX3_runLine 77 = .ok (.imul, 1) := dk_104 (dk_at dksX3_runLine_3 9 rfl rfl)
theorem dX3_runLine_78 : decode cX3_runLine 78 = .ok (.iadd, 1) := dk_96 (dk_at dksX3_runLine_3 10 rfl rfl)
theorem dX3_runLine_79 : decode cX3_runLine 79 = .ok (.iload_n 2, 1) := dk_28 (dk_at dksX3_runLine_3 11 rfl rfl)
theorem dX3_runLine_80 : decode cX3_runLine 80 = .ok (.iadd, 1) := dk_96 (dk_at dksX3_runLine_3 12 rfl rfl)
theorem dX3_runLine_81 : decode cX3_runLine 81 = .ok (.iload 4, 2) := dk_21 4 (dk_at dksX3_runLine_3 13 rfl rfl)
theorem dX3_runLine_83 : decode cX3_runLine 83 = .ok (.iastore, 1) := dk_79 (dk_at dksX3_runLine_3 15 rfl rfl)
theorem dX3_runLine_84 : decode cX3_runLine 84 = .ok (.aload_n 0, 1) := dk_42 (dk_at dksX3_runLine_3 16 rfl rfl)
theorem dX3_runLine_85 : decode cX3_runLine 85 = .ok (.getfield 23, 3) := dk_180 0 23 (dk_at dksX3_runLine_3 17 rfl rfl)
theorem dX3_runLine_88 : decode cX3_runLine 88 = .ok (.sipush 187, 3) := dk_17 0 187 (dk_at dksX3_runLine_3 20 rfl rfl)
theorem dX3_runLine_91 : decode cX3_runLine 91 = .ok (.bipush 6, 2) := dk_16 6 (dk_at dksX3_runLine_4 0 rfl rfl)
theorem dX3_runLine_93 : decode cX3_runLine 93 = .ok (.iload_n 1, 1) := dk_27 (dk_at dksX3_runLine_4 2 rfl rfl)
theorem dX3_runLine_94 : decode cX3_runLine 94 = .ok (.imul, 1) := dk_104 (dk_at dksX3_runLine_4 3 rfl rfl)
theorem dX3_runLine_95 : decode cX3_runLine 95 = .ok (.iadd, 1) := dk_96 (dk_at dksX3_runLine_4 4 rfl rfl)
theorem dX3_runLine_96 : decode cX3_runLine 96 = .ok (.iload_n 2, 1) := dk_28 (dk_at dksX3_runLine_4 5 rfl rfl)
theorem dX3_runLine_97 : decode cX3_runLine 97 = .ok (.iadd, 1) := dk_96 (dk_at dksX3_runLine_4 6 rfl rfl)
theorem dX3_runLine_98 : decode cX3_runLine 98 = .ok (.aload_n 0, 1) := dk_42 (dk_at dksX3_runLine_4 7 rfl rfl)
theorem dX3_runLine_99 : decode cX3_runLine 99 = .ok (.iconst 0, 1) := dk_3 (dk_at dksX3_runLine_4 8 rfl rfl)
theorem dX3_runLine_100 : decode cX3_runLine 100 = .ok (.iconst 1, 1) := dk_4 (dk_at dksX3_runLine_4 9 rfl rfl)
theorem dX3_runLine_101 : decode cX3_runLine 101 = .ok (.invokevirtual 227, 3) := dk_182 0 227 (dk_at dksX3_runLine_4 10 rfl rfl)
theorem dX3_runLine_104 : decode cX3_runLine 104 = .ok (.iastore, 1) := dk_79 (dk_at dksX3_runLine_4 13 rfl rfl)
theorem dX3_runLine_105 : decode cX3_runLine 105 = .ok (.iinc 2 1, 3) := dk_132 2 1 (dk_at dksX3_runLine_4 14 rfl rfl)
theorem dX3_runLine_108 : decode cX3_runLine 108 = .ok (.aload_n 0, 1) := dk_42 (dk_at dksX3_runLine_4 17 rfl rfl)
theorem dX3_runLine_109 : decode cX3_runLine 109 = .ok (.invokevirtual 158, 3) := dk_182 0 158 (dk_at dksX3_runLine_4 18 rfl rfl)
theorem dX3_runLine_112 : decode cX3_runLine 112 = .ok (.istore_n 3, 1) := dk_62 (dk_at dksX3_runLine_4 21 rfl rfl)
theorem dX3_runLine_113 : decode cX3_runLine 113 = .ok (.goto (-92), 3) := dk_167 255 164 (dk_at dksX3_runLine_5 0 rfl rfl)
theorem dX3_runLine_116 : decode cX3_runLine 116 = .ok (.aload_n 0, 1) := dk_42 (dk_at dksX3_runLine_5 3 rfl rfl)
theorem dX3_runLine_117 : decode cX3_runLine 117 = .ok (.getfield 23, 3) := dk_180 0 23 (dk_at dksX3_runLine_5 4 rfl rfl)
theorem dX3_runLine_120 : decode cX3_runLine 120 = .ok (.sipush 159, 3) := dk_17 0 159 (dk_at dksX3_runLine_5 7 rfl rfl)
theorem dX3_runLine_123 : decode cX3_runLine 123 = .ok (.iload_n 1, 1) := dk_27 (dk_at dksX3_runLine_5 10 rfl rfl)
theorem dX3_runLine_124 : decode cX3_runLine 124 = .ok (.iadd, 1) := dk_96 (dk_at dksX3_runLine_5 11 rfl rfl)
theorem dX3_runLine_125 : decode cX3_runLine 125 = .ok (.iload_n 2, 1) := dk_28 (dk_at dksX3_runLine_5 12 rfl rfl)
theorem dX3_runLine_126 : decode cX3_runLine 126 = .ok (.iastore, 1) := dk_79 (dk_at dksX3_runLine_5 13 rfl rfl)
theorem dX3_runLine_127 : decode cX3_runLine 127 = .ok (.aload_n 0, 1) := dk_42 (dk_at dksX3_runLine_5 14 rfl rfl)
theorem dX3_runLine_128 : decode cX3_runLine 128 = .ok (.getfield 23, 3) := dk_180 0 23 (dk_at dksX3_runLine_5 15 rfl rfl)
theorem dX3_runLine_131 : decode cX3_runLine 131 = .ok (.sipush 158, 3) := dk_17 0 158 (dk_at dksX3_runLine_5 18 rfl rfl)
theorem dX3_runLine_134 : decode cX3_runLine 134 = .ok (.dup2, 1) := dk_92 (dk_at dksX3_runLine_5 21 rfl rfl)
theorem dX3_runLine_135 : decode cX3_runLine 135 = .ok (.iaload, 1) := dk_46 (dk_at dksX3_runLine_5 22 rfl rfl)
theorem dX3_runLine_136 : decode cX3_runLine 136 = .ok (.iconst 1, 1) := dk_4 (dk_at dksX3_runLine_5 23 rfl rfl)
theorem dX3_runLine_137 : decode cX3_runLine 137 = .ok (.iadd, 1) := dk_96 (dk_at dksX3_runLine_6 0 rfl rfl)
theorem dX3_runLine_138 : decode cX3_runLine 138 = .ok (.iastore, 1) := dk_79 (dk_at dksX3_runLine_6 1 rfl rfl)
theorem dX3_runLine_139 : decode cX3_runLine 139 = .ok (.return_, 1) := dk_177 (dk_at dksX3_runLine_6 2 rfl rfl)
abbrev cX3_noCoins : ByteArray := prog_18_method_28_code
def yX3_noCoins : MethodName := ⟨RX3, "noCoins", "()V"⟩
def dkwX3_noCoins_0 : List UInt8 := [3, 60, 27, 16, 32, 162, 0, 16, 42, 180, 0, 26, 27, 3, 79, 132, 1, 1, 167, 255, 240, 177]
abbrev dktX3_noCoins_0 : List UInt8 := dkwX3_noCoins_0 ++ []
theorem dksX3_noCoins_0 : cX3_noCoins.data.toList.drop 0 = dktX3_noCoins_0 := by decide +kernel
theorem dX3_noCoins_0 : decode cX3_noCoins 0 = .ok (.iconst 0, 1) := dk_3 (dk_at dksX3_noCoins_0 0 rfl rfl)
theorem dX3_noCoins_1 : decode cX3_noCoins 1 = .ok (.istore_n 1, 1) := dk_60 (dk_at dksX3_noCoins_0 1 rfl rfl)
theorem dX3_noCoins_2 : decode cX3_noCoins 2 = .ok (.iload_n 1, 1) := dk_27 (dk_at dksX3_noCoins_0 2 rfl rfl)
theorem dX3_noCoins_3 : decode cX3_noCoins 3 = .ok (.bipush 32, 2) := dk_16 32 (dk_at dksX3_noCoins_0 3 rfl rfl)
theorem dX3_noCoins_5 : decode cX3_noCoins 5 = .ok (.if_icmp .ge 16, 3) := dk_162 0 16 (dk_at dksX3_noCoins_0 5 rfl rfl)
theorem dX3_noCoins_8 : decode cX3_noCoins 8 = .ok (.aload_n 0, 1) := dk_42 (dk_at dksX3_noCoins_0 8 rfl rfl)
theorem dX3_noCoins_9 : decode cX3_noCoins 9 = .ok (.getfield 26, 3) := dk_180 0 26 (dk_at dksX3_noCoins_0 9 rfl rfl)
theorem dX3_noCoins_12 : decode cX3_noCoins 12 = .ok (.iload_n 1, 1) := dk_27 (dk_at dksX3_noCoins_0 12 rfl rfl)
theorem dX3_noCoins_13 : decode cX3_noCoins 13 = .ok (.iconst 0, 1) := dk_3 (dk_at dksX3_noCoins_0 13 rfl rfl)
theorem dX3_noCoins_14 : decode cX3_noCoins 14 = .ok (.iastore, 1) := dk_79 (dk_at dksX3_noCoins_0 14 rfl rfl)
theorem dX3_noCoins_15 : decode cX3_noCoins 15 = .ok (.iinc 1 1, 3) := dk_132 1 1 (dk_at dksX3_noCoins_0 15 rfl rfl)
theorem dX3_noCoins_18 : decode cX3_noCoins 18 = .ok (.goto (-16), 3) := dk_167 255 240 (dk_at dksX3_noCoins_0 18 rfl rfl)
theorem dX3_noCoins_21 : decode cX3_noCoins 21 = .ok (.return_, 1) := dk_177 (dk_at dksX3_noCoins_0 21 rfl rfl)
abbrev cX3_fault : ByteArray := prog_18_method_36_code
def yX3_fault : MethodName := ⟨RX3, "fault", "()I"⟩
def dkwX3_fault_0 : List UInt8 := [42, 3, 181, 0, 69, 42, 180, 0, 111, 172]
abbrev dktX3_fault_0 : List UInt8 := dkwX3_fault_0 ++ []
theorem dksX3_fault_0 : cX3_fault.data.toList.drop 0 = dktX3_fault_0 := by decide +kernel
theorem dX3_fault_0 : decode cX3_fault 0 = .ok (.aload_n 0, 1) := dk_42 (dk_at dksX3_fault_0 0 rfl rfl)
theorem dX3_fault_1 : decode cX3_fault 1 = .ok (.iconst 0, 1) := dk_3 (dk_at dksX3_fault_0 1 rfl rfl)
theorem dX3_fault_2 : decode cX3_fault 2 = .ok (.putfield 69, 3) := dk_181 0 69 (dk_at dksX3_fault_0 2 rfl rfl)
theorem dX3_fault_5 : decode cX3_fault 5 = .ok (.aload_n 0, 1) := dk_42 (dk_at dksX3_fault_0 5 rfl rfl)
theorem dX3_fault_6 : decode cX3_fault 6 = .ok (.getfield 111, 3) := dk_180 0 111 (dk_at dksX3_fault_0 6 rfl rfl)
theorem dX3_fault_9 : decode cX3_fault 9 = .ok (.ireturn, 1) := dk_172 (dk_at dksX3_fault_0 9 rfl rfl)
abbrev cX3_where : ByteArray := prog_18_method_37_code
def yX3_where : MethodName := ⟨RX3, "where", "()I"⟩
def dkwX3_where_0 : List UInt8 := [42, 3, 181, 0, 69, 42, 180, 0, 72, 7, 160, 0, 10, 42, 180, 0, 13, 167, 0, 4, 2, 172]
abbrev dktX3_where_0 : List UInt8 := dkwX3_where_0 ++ []
theorem dksX3_where_0 : cX3_where.data.toList.drop 0 = dktX3_where_0 := by decide +kernel
theorem dX3_where_0 : decode cX3_where 0 = .ok (.aload_n 0, 1) := dk_42 (dk_at dksX3_where_0 0 rfl rfl)
theorem dX3_where_1 : decode cX3_where 1 = .ok (.iconst 0, 1) := dk_3 (dk_at dksX3_where_0 1 rfl rfl)
theorem dX3_where_2 : decode cX3_where 2 = .ok (.putfield 69, 3) := dk_181 0 69 (dk_at dksX3_where_0 2 rfl rfl)
theorem dX3_where_5 : decode cX3_where 5 = .ok (.aload_n 0, 1) := dk_42 (dk_at dksX3_where_0 5 rfl rfl)
theorem dX3_where_6 : decode cX3_where 6 = .ok (.getfield 72, 3) := dk_180 0 72 (dk_at dksX3_where_0 6 rfl rfl)
theorem dX3_where_9 : decode cX3_where 9 = .ok (.iconst 4, 1) := dk_7 (dk_at dksX3_where_0 9 rfl rfl)
theorem dX3_where_10 : decode cX3_where 10 = .ok (.if_icmp .ne 10, 3) := dk_160 0 10 (dk_at dksX3_where_0 10 rfl rfl)
theorem dX3_where_13 : decode cX3_where 13 = .ok (.aload_n 0, 1) := dk_42 (dk_at dksX3_where_0 13 rfl rfl)
theorem dX3_where_14 : decode cX3_where 14 = .ok (.getfield 13, 3) := dk_180 0 13 (dk_at dksX3_where_0 14 rfl rfl)
theorem dX3_where_17 : decode cX3_where 17 = .ok (.goto 4, 3) := dk_167 0 4 (dk_at dksX3_where_0 17 rfl rfl)
theorem dX3_where_20 : decode cX3_where 20 = .ok (.iconst (-1), 1) := dk_2 (dk_at dksX3_where_0 20 rfl rfl)
theorem dX3_where_21 : decode cX3_where 21 = .ok (.ireturn, 1) := dk_172 (dk_at dksX3_where_0 21 rfl rfl)
abbrev cX3_share : ByteArray := prog_18_method_52_code
def yX3_share : MethodName := ⟨RX3, "share", "(Z)I"⟩
def dkwX3_share_2 : List UInt8 := [42, 180, 0, 20, 16, 49, 46, 133, 105, 27, 184, 1, 36, 172]
abbrev dktX3_share_2 : List UInt8 := dkwX3_share_2 ++ []
def dkwX3_share_1 : List UInt8 := [4, 172, 42, 180, 0, 47, 42, 180, 0, 254, 42, 180, 1, 1, 4, 100, 184, 1, 4, 47, 42, 180, 1, 12]
abbrev dktX3_share_1 : List UInt8 := dkwX3_share_1 ++ dktX3_share_2
def dkwX3_share_0 : List UInt8 := [42, 182, 0, 174, 42, 180, 0, 183, 154, 0, 9, 42, 4, 182, 0, 177, 172, 42, 182, 1, 33, 153, 0, 5]
abbrev dktX3_share_0 : List UInt8 := dkwX3_share_0 ++ dktX3_share_1
theorem dksX3_share_0 : cX3_share.data.toList.drop 0 = dktX3_share_0 := by decide +kernel
theorem dksX3_share_1 : cX3_share.data.toList.drop 24 = dktX3_share_1 := dk_seg dksX3_share_0 24 rfl rfl
theorem dksX3_share_2 : cX3_share.data.toList.drop 48 = dktX3_share_2 := dk_seg dksX3_share_1 24 rfl rfl
theorem dX3_share_0 : decode cX3_share 0 = .ok (.aload_n 0, 1) := dk_42 (dk_at dksX3_share_0 0 rfl rfl)
theorem dX3_share_1 : decode cX3_share 1 = .ok (.invokevirtual 174, 3) := dk_182 0 174 (dk_at dksX3_share_0 1 rfl rfl)
theorem dX3_share_4 : decode cX3_share 4 = .ok (.aload_n 0, 1) := dk_42 (dk_at dksX3_share_0 4 rfl rfl)
theorem dX3_share_5 : decode cX3_share 5 = .ok (.getfield 183, 3) := dk_180 0 183 (dk_at dksX3_share_0 5 rfl rfl)
theorem dX3_share_8 : decode cX3_share 8 = .ok (.ifCond .ne 9, 3) := dk_154 0 9 (dk_at dksX3_share_0 8 rfl rfl)
theorem dX3_share_11 : decode cX3_share 11 = .ok (.aload_n 0, 1) := dk_42 (dk_at dksX3_share_0 11 rfl rfl)
theorem dX3_share_12 : decode cX3_share 12 = .ok (.iconst 1, 1) := dk_4 (dk_at dksX3_share_0 12 rfl rfl)
theorem dX3_share_13 : decode cX3_share 13 = .ok (.invokevirtual 177, 3) := dk_182 0 177 (dk_at dksX3_share_0 13 rfl rfl)
theorem dX3_share_16 : decode cX3_share 16 = .ok (.ireturn, 1) := dk_172 (dk_at dksX3_share_0 16 rfl rfl)
theorem dX3_share_17 : decode cX3_share 17 = .ok (.aload_n 0, 1) := dk_42 (dk_at dksX3_share_0 17 rfl rfl)
theorem dX3_share_18 : decode cX3_share 18 = .ok (.invokevirtual 289, 3) := dk_182 1 33 (dk_at dksX3_share_0 18 rfl rfl)
theorem dX3_share_21 : decode cX3_share 21 = .ok (.ifCond .eq 5, 3) := dk_153 0 5 (dk_at dksX3_share_0 21 rfl rfl)
theorem dX3_share_24 : decode cX3_share 24 = .ok (.iconst 1, 1) := dk_4 (dk_at dksX3_share_1 0 rfl rfl)
theorem dX3_share_25 : decode cX3_share 25 = .ok (.ireturn, 1) := dk_172 (dk_at dksX3_share_1 1 rfl rfl)
theorem dX3_share_26 : decode cX3_share 26 = .ok (.aload_n 0, 1) := dk_42 (dk_at dksX3_share_1 2 rfl rfl)
theorem dX3_share_27 : decode cX3_share 27 = .ok (.getfield 47, 3) := dk_180 0 47 (dk_at dksX3_share_1 3 rfl rfl)
theorem dX3_share_30 : decode cX3_share 30 = .ok (.aload_n 0, 1) := dk_42 (dk_at dksX3_share_1 6 rfl rfl)
theorem dX3_share_31 : decode cX3_share 31 = .ok (.getfield 254, 3) := dk_180 0 254 (dk_at dksX3_share_1 7 rfl rfl)
theorem dX3_share_34 : decode cX3_share 34 = .ok (.aload_n 0, 1) := dk_42 (dk_at dksX3_share_1 10 rfl rfl)
theorem dX3_share_35 : decode cX3_share 35 = .ok (.getfield 257, 3) := dk_180 1 1 (dk_at dksX3_share_1 11 rfl rfl)
theorem dX3_share_38 : decode cX3_share 38 = .ok (.iconst 1, 1) := dk_4 (dk_at dksX3_share_1 14 rfl rfl)
theorem dX3_share_39 : decode cX3_share 39 = .ok (.isub, 1) := dk_100 (dk_at dksX3_share_1 15 rfl rfl)
theorem dX3_share_40 : decode cX3_share 40 = .ok (.invokestatic 260, 3) := dk_184 1 4 (dk_at dksX3_share_1 16 rfl rfl)
theorem dX3_share_43 : decode cX3_share 43 = .ok (.laload, 1) := dk_47 (dk_at dksX3_share_1 19 rfl rfl)
theorem dX3_share_44 : decode cX3_share 44 = .ok (.aload_n 0, 1) := dk_42 (dk_at dksX3_share_1 20 rfl rfl)
theorem dX3_share_45 : decode cX3_share 45 = .ok (.getfield 268, 3) := dk_180 1 12 (dk_at dksX3_share_1 21 rfl rfl)
theorem dX3_share_48 : decode cX3_share 48 = .ok (.aload_n 0, 1) := dk_42 (dk_at dksX3_share_2 0 rfl rfl)
theorem dX3_share_49 : decode cX3_share 49 = .ok (.getfield 20, 3) := dk_180 0 20 (dk_at dksX3_share_2 1 rfl rfl)
theorem dX3_share_52 : decode cX3_share 52 = .ok (.bipush 49, 2) := dk_16 49 (dk_at dksX3_share_2 4 rfl rfl)
theorem dX3_share_54 : decode cX3_share 54 = .ok (.iaload, 1) := dk_46 (dk_at dksX3_share_2 6 rfl rfl)
theorem dX3_share_55 : decode cX3_share 55 = .ok (.i2l, 1) := dk_133 (dk_at dksX3_share_2 7 rfl rfl)
theorem dX3_share_56 : decode cX3_share 56 = .ok (.lmul, 1) := dk_105 (dk_at dksX3_share_2 8 rfl rfl)
theorem dX3_share_57 : decode cX3_share 57 = .ok (.iload_n 1, 1) := dk_27 (dk_at dksX3_share_2 9 rfl rfl)
theorem dX3_share_58 : decode cX3_share 58 = .ok (.invokestatic 292, 3) := dk_184 1 36 (dk_at dksX3_share_2 10 rfl rfl)
theorem dX3_share_61 : decode cX3_share 61 = .ok (.ireturn, 1) := dk_172 (dk_at dksX3_share_2 13 rfl rfl)
abbrev cX3_isMixed : ByteArray := prog_18_method_51_code
def yX3_isMixed : MethodName := ⟨RX3, "isMixed", "()Z"⟩
def dkwX3_isMixed_2 : List UInt8 := [180, 0, 20, 16, 49, 46, 133, 105, 148, 154, 0, 7, 4, 167, 0, 4, 3, 172]
abbrev dktX3_isMixed_2 : List UInt8 := dkwX3_isMixed_2 ++ []
def dkwX3_isMixed_1 : List UInt8 := [180, 0, 47, 42, 180, 0, 254, 42, 180, 1, 1, 4, 100, 184, 1, 4, 47, 42, 180, 1, 12, 42]
abbrev dktX3_isMixed_1 : List UInt8 := dkwX3_isMixed_1 ++ dktX3_isMixed_2
def dkwX3_isMixed_0 : List UInt8 := [42, 180, 0, 20, 3, 46, 154, 0, 5, 4, 172, 42, 182, 1, 26, 42, 42, 180, 0, 254, 182, 1, 29, 42]
abbrev dktX3_isMixed_0 : List UInt8 := dkwX3_isMixed_0 ++ dktX3_isMixed_1
theorem dksX3_isMixed_0 : cX3_isMixed.data.toList.drop 0 = dktX3_isMixed_0 := by decide +kernel
theorem dksX3_isMixed_1 : cX3_isMixed.data.toList.drop 24 = dktX3_isMixed_1 := dk_seg dksX3_isMixed_0 24 rfl rfl
theorem dksX3_isMixed_2 : cX3_isMixed.data.toList.drop 46 = dktX3_isMixed_2 := dk_seg dksX3_isMixed_1 22 rfl rfl
theorem dX3_isMixed_0 : decode cX3_isMixed 0 = .ok (.aload_n 0, 1) := dk_42 (dk_at dksX3_isMixed_0 0 rfl rfl)
theorem dX3_isMixed_1 : decode cX3_isMixed 1 = .ok (.getfield 20, 3) := dk_180 0 20 (dk_at dksX3_isMixed_0 1 rfl rfl)
theorem dX3_isMixed_4 : decode cX3_isMixed 4 = .ok (.iconst 0, 1) := dk_3 (dk_at dksX3_isMixed_0 4 rfl rfl)
theorem dX3_isMixed_5 : decode cX3_isMixed 5 = .ok (.iaload, 1) := dk_46 (dk_at dksX3_isMixed_0 5 rfl rfl)
theorem dX3_isMixed_6 : decode cX3_isMixed 6 = .ok (.ifCond .ne 5, 3) := dk_154 0 5 (dk_at dksX3_isMixed_0 6 rfl rfl)
theorem dX3_isMixed_9 : decode cX3_isMixed 9 = .ok (.iconst 1, 1) := dk_4 (dk_at dksX3_isMixed_0 9 rfl rfl)
theorem dX3_isMixed_10 : decode cX3_isMixed 10 = .ok (.ireturn, 1) := dk_172 (dk_at dksX3_isMixed_0 10 rfl rfl)
theorem dX3_isMixed_11 : decode cX3_isMixed 11 = .ok (.aload_n 0, 1) := dk_42 (dk_at dksX3_isMixed_0 11 rfl rfl)
theorem dX3_isMixed_12 : decode cX3_isMixed 12 = .ok (.invokevirtual 282, 3) := dk_182 1 26 (dk_at dksX3_isMixed_0 12 rfl rfl)
theorem dX3_isMixed_15 : decode cX3_isMixed 15 = .ok (.aload_n 0, 1) := dk_42 (dk_at dksX3_isMixed_0 15 rfl rfl)
theorem dX3_isMixed_16 : decode cX3_isMixed 16 = .ok (.aload_n 0, 1) := dk_42 (dk_at dksX3_isMixed_0 16 rfl rfl)
theorem dX3_isMixed_17 : decode cX3_isMixed 17 = .ok (.getfield 254, 3) := dk_180 0 254 (dk_at dksX3_isMixed_0 17 rfl rfl)
theorem dX3_isMixed_20 : decode cX3_isMixed 20 = .ok (.invokevirtual 285, 3) := dk_182 1 29 (dk_at dksX3_isMixed_0 20 rfl rfl)
theorem dX3_isMixed_23 : decode cX3_isMixed 23 = .ok (.aload_n 0, 1) := dk_42 (dk_at dksX3_isMixed_0 23 rfl rfl)
theorem dX3_isMixed_24 : decode cX3_isMixed 24 = .ok (.getfield 47, 3) := dk_180 0 47 (dk_at dksX3_isMixed_1 0 rfl rfl)
theorem dX3_isMixed_27 : decode cX3_isMixed 27 = .ok (.aload_n 0, 1) := dk_42 (dk_at dksX3_isMixed_1 3 rfl rfl)
theorem dX3_isMixed_28 : decode cX3_isMixed 28 = .ok (.getfield 254, 3) := dk_180 0 254 (dk_at dksX3_isMixed_1 4 rfl rfl)
theorem dX3_isMixed_31 : decode cX3_isMixed 31 = .ok (.aload_n 0, 1) := dk_42 (dk_at dksX3_isMixed_1 7 rfl rfl)
theorem dX3_isMixed_32 : decode cX3_isMixed 32 = .ok (.getfield 257, 3) := dk_180 1 1 (dk_at dksX3_isMixed_1 8 rfl rfl)
theorem dX3_isMixed_35 : decode cX3_isMixed 35 = .ok (.iconst 1, 1) := dk_4 (dk_at dksX3_isMixed_1 11 rfl rfl)
theorem dX3_isMixed_36 : decode cX3_isMixed 36 = .ok (.isub, 1) := dk_100 (dk_at dksX3_isMixed_1 12 rfl rfl)
theorem dX3_isMixed_37 : decode cX3_isMixed 37 = .ok (.invokestatic 260, 3) := dk_184 1 4 (dk_at dksX3_isMixed_1 13 rfl rfl)
theorem dX3_isMixed_40 : decode cX3_isMixed 40 = .ok (.laload, 1) := dk_47 (dk_at dksX3_isMixed_1 16 rfl rfl)
theorem dX3_isMixed_41 : decode cX3_isMixed 41 = .ok (.aload_n 0, 1) := dk_42 (dk_at dksX3_isMixed_1 17 rfl rfl)
theorem dX3_isMixed_42 : decode cX3_isMixed 42 = .ok (.getfield 268, 3) := dk_180 1 12 (dk_at dksX3_isMixed_1 18 rfl rfl)
theorem dX3_isMixed_45 : decode cX3_isMixed 45 = .ok (.aload_n 0, 1) := dk_42 (dk_at dksX3_isMixed_1 21 rfl rfl)
theorem dX3_isMixed_46 : decode cX3_isMixed 46 = .ok (.getfield 20, 3) := dk_180 0 20 (dk_at dksX3_isMixed_2 0 rfl rfl)
theorem dX3_isMixed_49 : decode cX3_isMixed 49 = .ok (.bipush 49, 2) := dk_16 49 (dk_at dksX3_isMixed_2 3 rfl rfl)
theorem dX3_isMixed_51 : decode cX3_isMixed 51 = .ok (.iaload, 1) := dk_46 (dk_at dksX3_isMixed_2 5 rfl rfl)
theorem dX3_isMixed_52 : decode cX3_isMixed 52 = .ok (.i2l, 1) := dk_133 (dk_at dksX3_isMixed_2 6 rfl rfl)
theorem dX3_isMixed_53 : decode cX3_isMixed 53 = .ok (.lmul, 1) := dk_105 (dk_at dksX3_isMixed_2 7 rfl rfl)
theorem dX3_isMixed_54 : decode cX3_isMixed 54 = .ok (.lcmp, 1) := dk_148 (dk_at dksX3_isMixed_2 8 rfl rfl)
theorem dX3_isMixed_55 : decode cX3_isMixed 55 = .ok (.ifCond .ne 7, 3) := dk_154 0 7 (dk_at dksX3_isMixed_2 9 rfl rfl)
theorem dX3_isMixed_58 : decode cX3_isMixed 58 = .ok (.iconst 1, 1) := dk_4 (dk_at dksX3_isMixed_2 12 rfl rfl)
theorem dX3_isMixed_59 : decode cX3_isMixed 59 = .ok (.goto 4, 3) := dk_167 0 4 (dk_at dksX3_isMixed_2 13 rfl rfl)
theorem dX3_isMixed_62 : decode cX3_isMixed 62 = .ok (.iconst 0, 1) := dk_3 (dk_at dksX3_isMixed_2 16 rfl rfl)
theorem dX3_isMixed_63 : decode cX3_isMixed 63 = .ok (.ireturn, 1) := dk_172 (dk_at dksX3_isMixed_2 17 rfl rfl)
abbrev cX3_layTab : ByteArray := prog_18_method_45_code
def yX3_layTab : MethodName := ⟨RX3, "layTab", "()V"⟩
def dkwX3_layTab_10 : List UInt8 := [184, 1, 4, 20, 1, 10, 80, 132, 3, 1, 167, 255, 232, 42, 10, 181, 1, 12, 177]
abbrev dktX3_layTab_10 : List UInt8 := dkwX3_layTab_10 ++ []
def dkwX3_layTab_9 : List UInt8 := [132, 3, 1, 167, 255, 123, 3, 62, 29, 27, 162, 0, 25, 42, 180, 0, 47, 42, 180, 0, 254, 29]
abbrev dktX3_layTab_9 : List UInt8 := dkwX3_layTab_9 ++ dktX3_layTab_10
def dkwX3_layTab_8 : List UInt8 := [21, 4, 96, 46, 133, 80, 42, 180, 0, 51, 28, 27, 28, 96, 79, 132, 2, 1, 132, 4, 1, 167, 255, 142]
abbrev dktX3_layTab_8 : List UInt8 := dkwX3_layTab_8 ++ dktX3_layTab_9
def dkwX3_layTab_7 : List UInt8 := [42, 180, 0, 47, 28, 42, 180, 1, 1, 4, 100, 184, 1, 4, 42, 180, 0, 20, 16, 17, 7, 29, 104, 96]
abbrev dktX3_layTab_7 : List UInt8 := dkwX3_layTab_7 ++ dktX3_layTab_8
def dkwX3_layTab_6 : List UInt8 := [167, 0, 4, 9, 80, 132, 5, 1, 167, 255, 219, 42, 180, 0, 47, 28, 27, 28, 96, 184, 1, 4, 10, 80]
abbrev dktX3_layTab_6 : List UInt8 := dkwX3_layTab_6 ++ dktX3_layTab_7
def dkwX3_layTab_5 : List UInt8 := [180, 0, 47, 28, 21, 5, 184, 1, 4, 42, 29, 21, 5, 182, 1, 7, 21, 4, 160, 0, 7, 10]
abbrev dktX3_layTab_5 : List UInt8 := dkwX3_layTab_5 ++ dktX3_layTab_6
def dkwX3_layTab_4 : List UInt8 := [21, 4, 42, 180, 0, 20, 29, 184, 0, 247, 162, 0, 107, 3, 54, 5, 21, 5, 27, 162, 0, 37, 42]
abbrev dktX3_layTab_4 : List UInt8 := dkwX3_layTab_4 ++ dktX3_layTab_5
def dkwX3_layTab_3 : List UInt8 := [80, 132, 2, 1, 167, 255, 239, 3, 61, 3, 62, 29, 42, 180, 0, 20, 3, 46, 162, 0, 129, 3, 54, 4]
abbrev dktX3_layTab_3 : List UInt8 := dkwX3_layTab_3 ++ dktX3_layTab_4
def dkwX3_layTab_2 : List UInt8 := [180, 0, 254, 96, 4, 96, 181, 1, 1, 3, 61, 28, 17, 12, 226, 162, 0, 16, 42, 180, 0, 47, 28, 9]
abbrev dktX3_layTab_2 : List UInt8 := dkwX3_layTab_2 ++ dktX3_layTab_3
def dkwX3_layTab_1 : List UInt8 := [180, 0, 254, 42, 180, 0, 20, 28, 184, 0, 247, 96, 181, 0, 254, 132, 2, 1, 167, 255, 226, 42, 27, 42]
abbrev dktX3_layTab_1 : List UInt8 := dkwX3_layTab_1 ++ dktX3_layTab_2
def dkwX3_layTab_0 : List UInt8 := [42, 182, 0, 251, 60, 42, 3, 181, 0, 254, 3, 61, 28, 42, 180, 0, 20, 3, 46, 162, 0, 26, 42, 89]
abbrev dktX3_layTab_0 : List UInt8 := dkwX3_layTab_0 ++ dktX3_layTab_1
theorem dksX3_layTab_0 : cX3_layTab.data.toList.drop 0 = dktX3_layTab_0 := by decide +kernel
theorem dksX3_layTab_1 : cX3_layTab.data.toList.drop 24 = dktX3_layTab_1 := dk_seg dksX3_layTab_0 24 rfl rfl
theorem dksX3_layTab_2 : cX3_layTab.data.toList.drop 48 = dktX3_layTab_2 := dk_seg dksX3_layTab_1 24 rfl rfl
theorem dksX3_layTab_3 : cX3_layTab.data.toList.drop 72 = dktX3_layTab_3 := dk_seg dksX3_layTab_2 24 rfl rfl
theorem dksX3_layTab_4 : cX3_layTab.data.toList.drop 96 = dktX3_layTab_4 := dk_seg dksX3_layTab_3 24 rfl rfl
theorem dksX3_layTab_5 : cX3_layTab.data.toList.drop 119 = dktX3_layTab_5 := dk_seg dksX3_layTab_4 23 rfl rfl
theorem dksX3_layTab_6 : cX3_layTab.data.toList.drop 141 = dktX3_layTab_6 := dk_seg dksX3_layTab_5 22 rfl rfl
theorem dksX3_layTab_7 : cX3_layTab.data.toList.drop 165 = dktX3_layTab_7 := dk_seg dksX3_layTab_6 24 rfl rfl
theorem dksX3_layTab_8 : cX3_layTab.data.toList.drop 189 = dktX3_layTab_8 := dk_seg dksX3_layTab_7 24 rfl rfl
theorem dksX3_layTab_9 : cX3_layTab.data.toList.drop 213 = dktX3_layTab_9 := dk_seg dksX3_layTab_8 24 rfl rfl
theorem dksX3_layTab_10 : cX3_layTab.data.toList.drop 235 = dktX3_layTab_10 := dk_seg dksX3_layTab_9 22 rfl rfl
theorem dX3_layTab_0 : decode cX3_layTab 0 = .ok (.aload_n 0, 1) := dk_42 (dk_at dksX3_layTab_0 0 rfl rfl)
theorem dX3_layTab_1 : decode cX3_layTab 1 = .ok (.invokevirtual 251, 3) := dk_182 0 251 (dk_at dksX3_layTab_0 1 rfl rfl)
theorem dX3_layTab_4 : decode cX3_layTab 4 = .ok (.istore_n 1, 1) := dk_60 (dk_at dksX3_layTab_0 4 rfl rfl)
theorem dX3_layTab_5 : decode cX3_layTab 5 = .ok (.aload_n 0, 1) := dk_42 (dk_at dksX3_layTab_0 5 rfl rfl)
theorem dX3_layTab_6 : decode cX3_layTab 6 = .ok (.iconst 0, 1) := dk_3 (dk_at dksX3_layTab_0 6 rfl rfl)
theorem dX3_layTab_7 : decode cX3_layTab 7 = .ok (.putfield 254, 3) := dk_181 0 254 (dk_at dksX3_layTab_0 7 rfl rfl)
theorem dX3_layTab_10 : decode cX3_layTab 10 = .ok (.iconst 0, 1) := dk_3 (dk_at dksX3_layTab_0 10 rfl rfl)
theorem dX3_layTab_11 : decode cX3_layTab 11 = .ok (.istore_n 2, 1) := dk_61 (dk_at dksX3_layTab_0 11 rfl rfl)
theorem dX3_layTab_12 : decode cX3_layTab 12 = .ok (.iload_n 2, 1) := dk_28 (dk_at dksX3_layTab_0 12 rfl rfl)
theorem dX3_layTab_13 : decode cX3_layTab 13 = .ok (.aload_n 0, 1) := dk_42 (dk_at dksX3_layTab_0 13 rfl rfl)
theorem dX3_layTab_14 : decode cX3_layTab 14 = .ok (.getfield 20, 3) := dk_180 0 20 (dk_at dksX3_layTab_0 14 rfl rfl)
theorem dX3_layTab_17 : decode cX3_layTab 17 = .ok (.iconst 0, 1) := dk_3 (dk_at dksX3_layTab_0 17 rfl rfl)
theorem dX3_layTab_18 : decode cX3_layTab 18 = .ok (.iaload, 1) := dk_46 (dk_at dksX3_layTab_0 18 rfl rfl)
theorem dX3_layTab_19 : decode cX3_layTab 19 = .ok (.if_icmp .ge 26, 3) := dk_162 0 26 (dk_at dksX3_layTab_0 19 rfl rfl)
theorem dX3_layTab_22 : decode cX3_layTab 22 = .ok (.aload_n 0, 1) := dk_42 (dk_at dksX3_layTab_0 22 rfl rfl)
theorem dX3_layTab_23 : decode cX3_layTab 23 = .ok (.dup, 1) := dk_89 (dk_at dksX3_layTab_0 23 rfl rfl)
theorem dX3_layTab_24 : decode cX3_layTab 24 = .ok (.getfield 254, 3) := dk_180 0 254 (dk_at dksX3_layTab_1 0 rfl rfl)
theorem dX3_layTab_27 : decode cX3_layTab 27 = .ok (.aload_n 0, 1) := dk_42 (dk_at dksX3_layTab_1 3 rfl rfl)
theorem dX3_layTab_28 : decode cX3_layTab 28 = .ok (.getfield 20, 3) := dk_180 0 20 (dk_at dksX3_layTab_1 4 rfl rfl)
theorem dX3_layTab_31 : decode cX3_layTab 31 = .ok (.iload_n 2, 1) := dk_28 (dk_at dksX3_layTab_1 7 rfl rfl)
theorem dX3_layTab_32 : decode cX3_layTab 32 = .ok (.invokestatic 247, 3) := dk_184 0 247 (dk_at dksX3_layTab_1 8 rfl rfl)
theorem dX3_layTab_35 : decode cX3_layTab 35 = .ok (.iadd, 1) := dk_96 (dk_at dksX3_layTab_1 11 rfl rfl)
theorem dX3_layTab_36 : decode cX3_layTab 36 = .ok (.putfield 254, 3) := dk_181 0 254 (dk_at dksX3_layTab_1 12 rfl rfl)
theorem dX3_layTab_39 : decode cX3_layTab 39 = .ok (.iinc 2 1, 3) := dk_132 2 1 (dk_at dksX3_layTab_1 15 rfl rfl)
theorem dX3_layTab_42 : decode cX3_layTab 42 = .ok (.goto (-30), 3) := dk_167 255 226 (dk_at dksX3_layTab_1 18 rfl rfl)
theorem dX3_layTab_45 : decode cX3_layTab 45 = .ok (.aload_n 0, 1) := dk_42 (dk_at dksX3_layTab_1 21 rfl rfl)
theorem dX3_layTab_46 : decode cX3_layTab 46 = .ok (.iload_n 1, 1) := dk_27 (dk_at dksX3_layTab_1 22 rfl rfl)
theorem dX3_layTab_47 : decode cX3_layTab 47 = .ok (.aload_n 0, 1) := dk_42 (dk_at dksX3_layTab_1 23 rfl rfl)
theorem dX3_layTab_48 : decode cX3_layTab 48 = .ok (.getfield 254, 3) := dk_180 0 254 (dk_at dksX3_layTab_2 0 rfl rfl)
theorem dX3_layTab_51 : decode cX3_layTab 51 = .ok (.iadd, 1) := dk_96 (dk_at dksX3_layTab_2 3 rfl rfl)
theorem dX3_layTab_52 : decode cX3_layTab 52 = .ok (.iconst 1, 1) := dk_4 (dk_at dksX3_layTab_2 4 rfl rfl)
theorem dX3_layTab_53 : decode cX3_layTab 53 = .ok (.iadd, 1) := dk_96 (dk_at dksX3_layTab_2 5 rfl rfl)
theorem dX3_layTab_54 : decode cX3_layTab 54 = .ok (.putfield 257, 3) := dk_181 1 1 (dk_at dksX3_layTab_2 6 rfl rfl)
theorem dX3_layTab_57 : decode cX3_layTab 57 = .ok (.iconst 0, 1) := dk_3 (dk_at dksX3_layTab_2 9 rfl rfl)
theorem dX3_layTab_58 : decode cX3_layTab 58 = .ok (.istore_n 2, 1) := dk_61 (dk_at dksX3_layTab_2 10 rfl rfl)
theorem dX3_layTab_59 : decode cX3_layTab 59 = .ok (.iload_n 2, 1) := dk_28 (dk_at dksX3_layTab_2 11 rfl rfl)
theorem dX3_layTab_60 : decode cX3_layTab 60 = .ok (.sipush 3298, 3) := dk_17 12 226 (dk_at dksX3_layTab_2 12 rfl rfl)
theorem dX3_layTab_63 : decode cX3_layTab 63 = .ok (.if_icmp .ge 16, 3) := dk_162 0 16 (dk_at dksX3_layTab_2 15 rfl rfl)
theorem dX3_layTab_66 : decode cX3_layTab 66 = .ok (.aload_n 0, 1) := dk_42 (dk_at dksX3_layTab_2 18 rfl rfl)
theorem dX3_layTab_67 : decode cX3_layTab 67 = .ok (.getfield 47, 3) := dk_180 0 47 (dk_at dksX3_layTab_2 19 rfl rfl)
theorem dX3_layTab_70 : decode cX3_layTab 70 = .ok (.iload_n 2, 1) := dk_28 (dk_at dksX3_layTab_2 22 rfl rfl)
theorem dX3_layTab_71 : decode cX3_layTab 71 = .ok (.lconst 0, 1) := dk_9 (dk_at dksX3_layTab_2 23 rfl rfl)
theorem dX3_layTab_72 : decode cX3_layTab 72 = .ok (.lastore, 1) := dk_80 (dk_at dksX3_layTab_3 0 rfl rfl)
theorem dX3_layTab_73 : decode cX3_layTab 73 = .ok (.iinc 2 1, 3) := dk_132 2 1 (dk_at dksX3_layTab_3 1 rfl rfl)
theorem dX3_layTab_76 : decode cX3_layTab 76 = .ok (.goto (-17), 3) := dk_167 255 239 (dk_at dksX3_layTab_3 4 rfl rfl)
theorem dX3_layTab_79 : decode cX3_layTab 79 = .ok (.iconst 0, 1) := dk_3 (dk_at dksX3_layTab_3 7 rfl rfl)
theorem dX3_layTab_80 : decode cX3_layTab 80 = .ok (.istore_n 2, 1) := dk_61 (dk_at dksX3_layTab_3 8 rfl rfl)
theorem dX3_layTab_81 : decode cX3_layTab 81 = .ok (.iconst 0, 1) := dk_3 (dk_at dksX3_layTab_3 9 rfl rfl)
theorem dX3_layTab_82 : decode cX3_layTab 82 = .ok (.istore_n 3, 1) := dk_62 (dk_at dksX3_layTab_3 10 rfl rfl)
theorem dX3_layTab_83 : decode cX3_layTab 83 = .ok (.iload_n 3, 1) := dk_29 (dk_at dksX3_layTab_3 11 rfl rfl)
theorem dX3_layTab_84 : decode cX3_layTab 84 = .ok (.aload_n 0, 1) := dk_42 (dk_at dksX3_layTab_3 12 rfl rfl)
theorem dX3_layTab_85 : decode cX3_layTab 85 = .ok (.getfield 20, 3) := dk_180 0 20 (dk_at dksX3_layTab_3 13 rfl rfl)
theorem dX3_layTab_88 : decode cX3_layTab 88 = .ok (.iconst 0, 1) := dk_3 (dk_at dksX3_layTab_3 16 rfl rfl)
theorem dX3_layTab_89 : decode cX3_layTab 89 = .ok (.iaload, 1) := dk_46 (dk_at dksX3_layTab_3 17 rfl rfl)
theorem dX3_layTab_90 : decode cX3_layTab 90 = .ok (.if_icmp .ge 129, 3) := dk_162 0 129 (dk_at dksX3_layTab_3 18 rfl rfl)
theorem dX3_layTab_93 : decode cX3_layTab 93 = .ok (.iconst 0, 1) := dk_3 (dk_at dksX3_layTab_3 21 rfl rfl)
theorem dX3_layTab_94 : decode cX3_layTab 94 = .ok (.istore 4, 2) := dk_54 4 (dk_at dksX3_layTab_3 22 rfl rfl)
theorem dX3_layTab_96 : decode cX3_layTab 96 = .ok (.iload 4, 2) := dk_21 4 (dk_at dksX3_layTab_4 0 rfl rfl)
theorem dX3_layTab_98 : decode cX3_layTab 98 = .ok (.aload_n 0, 1) := dk_42 (dk_at dksX3_layTab_4 2 rfl rfl)
theorem dX3_layTab_99 : decode cX3_layTab 99 = .ok (.getfield 20, 3) := dk_180 0 20 (dk_at dksX3_layTab_4 3 rfl rfl)
theorem dX3_layTab_102 : decode cX3_layTab 102 = .ok (.iload_n 3, 1) := dk_29 (dk_at dksX3_layTab_4 6 rfl rfl)
theorem dX3_layTab_103 : decode cX3_layTab 103 = .ok (.invokestatic 247, 3) := dk_184 0 247 (dk_at dksX3_layTab_4 7 rfl rfl)
theorem dX3_layTab_106 : decode cX3_layTab 106 = .ok (.if_icmp .ge 107, 3) := dk_162 0 107 (dk_at dksX3_layTab_4 10 rfl rfl)
theorem dX3_layTab_109 : decode cX3_layTab 109 = .ok (.iconst 0, 1) := dk_3 (dk_at dksX3_layTab_4 13 rfl rfl)
theorem dX3_layTab_110 : decode cX3_layTab 110 = .ok (.istore 5, 2) := dk_54 5 (dk_at dksX3_layTab_4 14 rfl rfl)
theorem dX3_layTab_112 : decode cX3_layTab 112 = .ok (.iload 5, 2) := dk_21 5 (dk_at dksX3_layTab_4 16 rfl rfl)
theorem dX3_layTab_114 : decode cX3_layTab 114 = .ok (.iload_n 1, 1) := dk_27 (dk_at dksX3_layTab_4 18 rfl rfl)
theorem dX3_layTab_115 : decode cX3_layTab 115 = .ok (.if_icmp .ge 37, 3) := dk_162 0 37 (dk_at dksX3_layTab_4 19 rfl rfl)
theorem dX3_layTab_118 : decode cX3_layTab 118 = .ok (.aload_n 0, 1) := dk_42 (dk_at dksX3_layTab_4 22 rfl rfl)
theorem dX3_layTab_119 : decode cX3_layTab 119 = .ok (.getfield 47, 3) := dk_180 0 47 (dk_at dksX3_layTab_5 0 rfl rfl)
theorem dX3_layTab_122 : decode cX3_layTab 122 = .ok (.iload_n 2, 1) := dk_28 (dk_at dksX3_layTab_5 3 rfl rfl)
theorem dX3_layTab_123 : decode cX3_layTab 123 = .ok (.iload 5, 2) := dk_21 5 (dk_at dksX3_layTab_5 4 rfl rfl)
theorem dX3_layTab_125 : decode cX3_layTab 125 = .ok (.invokestatic 260, 3) := dk_184 1 4 (dk_at dksX3_layTab_5 6 rfl rfl)
theorem dX3_layTab_128 : decode cX3_layTab 128 = .ok (.aload_n 0, 1) := dk_42 (dk_at dksX3_layTab_5 9 rfl rfl)
theorem dX3_layTab_129 : decode cX3_layTab 129 = .ok (.iload_n 3, 1) := dk_29 (dk_at dksX3_layTab_5 10 rfl rfl)
theorem dX3_layTab_130 : decode cX3_layTab 130 = .ok (.iload 5, 2) := dk_21 5 (dk_at dksX3_layTab_5 11 rfl rfl)
theorem dX3_layTab_132 : decode cX3_layTab 132 = .ok (.invokevirtual 263, 3) := dk_182 1 7 (dk_at dksX3_layTab_5 13 rfl rfl)
theorem dX3_layTab_135 : decode cX3_layTab 135 = .ok (.iload 4, 2) := dk_21 4 (dk_at dksX3_layTab_5 16 rfl rfl)
theorem dX3_layTab_137 : decode cX3_layTab 137 = .ok (.if_icmp .ne 7, 3) := dk_160 0 7 (dk_at dksX3_layTab_5 18 rfl rfl)
theorem dX3_layTab_140 : decode cX3_layTab 140 = .ok (.lconst 1, 1) := dk_10 (dk_at dksX3_layTab_5 21 rfl rfl)
theorem dX3_layTab_141 : decode cX3_layTab 141 = .ok (.goto 4, 3) := dk_167 0 4 (dk_at dksX3_layTab_6 0 rfl rfl)
theorem dX3_layTab_144 : decode cX3_layTab 144 = .ok (.lconst 0, 1) := dk_9 (dk_at dksX3_layTab_6 3 rfl rfl)
theorem dX3_layTab_145 : decode cX3_layTab 145 = .ok (.lastore, 1) := dk_80 (dk_at dksX3_layTab_6 4 rfl rfl)
theorem dX3_layTab_146 : decode cX3_layTab 146 = .ok (.iinc 5 1, 3) := dk_132 5 1 (dk_at dksX3_layTab_6 5 rfl rfl)
theorem dX3_layTab_149 : decode cX3_layTab 149 = .ok (.goto (-37), 3) := dk_167 255 219 (dk_at dksX3_layTab_6 8 rfl rfl)
theorem dX3_layTab_152 : decode cX3_layTab 152 = .ok (.aload_n 0, 1) := dk_42 (dk_at dksX3_layTab_6 11 rfl rfl)
theorem dX3_layTab_153 : decode cX3_layTab 153 = .ok (.getfield 47, 3) := dk_180 0 47 (dk_at dksX3_layTab_6 12 rfl rfl)
theorem dX3_layTab_156 : decode cX3_layTab 156 = .ok (.iload_n 2, 1) := dk_28 (dk_at dksX3_layTab_6 15 rfl rfl)
theorem dX3_layTab_157 : decode cX3_layTab 157 = .ok (.iload_n 1, 1) := dk_27 (dk_at dksX3_layTab_6 16 rfl rfl)
theorem dX3_layTab_158 : decode cX3_layTab 158 = .ok (.iload_n 2, 1) := dk_28 (dk_at dksX3_layTab_6 17 rfl rfl)
theorem dX3_layTab_159 : decode cX3_layTab 159 = .ok (.iadd, 1) := dk_96 (dk_at dksX3_layTab_6 18 rfl rfl)
theorem dX3_layTab_160 : decode cX3_layTab 160 = .ok (.invokestatic 260, 3) := dk_184 1 4 (dk_at dksX3_layTab_6 19 rfl rfl)
theorem dX3_layTab_163 : decode cX3_layTab 163 = .ok (.lconst 1, 1) := dk_10 (dk_at dksX3_layTab_6 22 rfl rfl)
theorem dX3_layTab_164 : decode cX3_layTab 164 = .ok (.lastore, 1) := dk_80 (dk_at dksX3_layTab_6 23 rfl rfl)
theorem dX3_layTab_165 : decode cX3_layTab 165 = .ok (.aload_n 0, 1) := dk_42 (dk_at dksX3_layTab_7 0 rfl rfl)
theorem dX3_layTab_166 : decode cX3_layTab 166 = .ok (.getfield 47, 3) := dk_180 0 47 (dk_at dksX3_layTab_7 1 rfl rfl)
theorem dX3_layTab_169 : decode cX3_layTab 169 = .ok (.iload_n 2, 1) := dk_28 (dk_at dksX3_layTab_7 4 rfl rfl)
theorem dX3_layTab_170 : decode cX3_layTab 170 = .ok (.aload_n 0, 1) := dk_42 (dk_at dksX3_layTab_7 5 rfl rfl)
theorem dX3_layTab_171 : decode cX3_layTab 171 = .ok (.getfield 257, 3) := dk_180 1 1 (dk_at dksX3_layTab_7 6 rfl rfl)
theorem dX3_layTab_174 : decode cX3_layTab 174 = .ok (.iconst 1, 1) := dk_4 (dk_at dksX3_layTab_7 9 rfl rfl)
theorem dX3_layTab_175 : decode cX3_layTab 175 = .ok (.isub, 1) := dk_100 (dk_at dksX3_layTab_7 10 rfl rfl)
theorem dX3_layTab_176 : decode cX3_layTab 176 = .ok (.invokestatic 260, 3) := dk_184 1 4 (dk_at dksX3_layTab_7 11 rfl rfl)
theorem dX3_layTab_179 : decode cX3_layTab 179 = .ok (.aload_n 0, 1) := dk_42 (dk_at dksX3_layTab_7 14 rfl rfl)
theorem dX3_layTab_180 : decode cX3_layTab 180 = .ok (.getfield 20, 3) := dk_180 0 20 (dk_at dksX3_layTab_7 15 rfl rfl)
theorem dX3_layTab_183 : decode cX3_layTab 183 = .ok (.bipush 17, 2) := dk_16 17 (dk_at dksX3_layTab_7 18 rfl rfl)
theorem dX3_layTab_185 : decode cX3_layTab 185 = .ok (.iconst 4, 1) := dk_7 (dk_at dksX3_layTab_7 20 rfl rfl)
theorem dX3_layTab_186 : decode cX3_layTab 186 = .ok (.iload_n 3, 1) := dk_29 (dk_at dksX3_layTab_7 21 rfl rfl)
theorem dX3_layTab_187 : decode cX3_layTab 187 = .ok (.imul, 1) := dk_104 (dk_at dksX3_layTab_7 22 rfl rfl)
theorem dX3_layTab_188 : decode cX3_layTab 188 = .ok (.iadd, 1) := dk_96 (dk_at dksX3_layTab_7 23 rfl rfl)
theorem dX3_layTab_189 : decode cX3_layTab 189 = .ok (.iload 4, 2) := dk_21 4 (dk_at dksX3_layTab_8 0 rfl rfl)
theorem dX3_layTab_191 : decode cX3_layTab 191 = .ok (.iadd, 1) := dk_96 (dk_at dksX3_layTab_8 2 rfl rfl)
theorem dX3_layTab_192 : decode cX3_layTab 192 = .ok (.iaload, 1) := dk_46 (dk_at dksX3_layTab_8 3 rfl rfl)
theorem dX3_layTab_193 : decode cX3_layTab 193 = .ok (.i2l, 1) := dk_133 (dk_at dksX3_layTab_8 4 rfl rfl)
theorem dX3_layTab_194 : decode cX3_layTab 194 = .ok (.lastore, 1) := dk_80 (dk_at dksX3_layTab_8 5 rfl rfl)
theorem dX3_layTab_195 : decode cX3_layTab 195 = .ok (.aload_n 0, 1) := dk_42 (dk_at dksX3_layTab_8 6 rfl rfl)
theorem dX3_layTab_196 : decode cX3_layTab 196 = .ok (.getfield 51, 3) := dk_180 0 51 (dk_at dksX3_layTab_8 7 rfl rfl)
theorem dX3_layTab_199 : decode cX3_layTab 199 = .ok (.iload_n 2, 1) := dk_28 (dk_at dksX3_layTab_8 10 rfl rfl)
theorem dX3_layTab_200 : decode cX3_layTab 200 = .ok (.iload_n 1, 1) := dk_27 (dk_at dksX3_layTab_8 11 rfl rfl)
theorem dX3_layTab_201 : decode cX3_layTab 201 = .ok (.iload_n 2, 1) := dk_28 (dk_at dksX3_layTab_8 12 rfl rfl)
theorem dX3_layTab_202 : decode cX3_layTab 202 = .ok (.iadd, 1) := dk_96 (dk_at dksX3_layTab_8 13 rfl rfl)
theorem dX3_layTab_203 : decode cX3_layTab 203 = .ok (.iastore, 1) := dk_79 (dk_at dksX3_layTab_8 14 rfl rfl)
theorem dX3_layTab_204 : decode cX3_layTab 204 = .ok (.iinc 2 1, 3) := dk_132 2 1 (dk_at dksX3_layTab_8 15 rfl rfl)
theorem dX3_layTab_207 : decode cX3_layTab 207 = .ok (.iinc 4 1, 3) := dk_132 4 1 (dk_at dksX3_layTab_8 18 rfl rfl)
theorem dX3_layTab_210 : decode cX3_layTab 210 = .ok (.goto (-114), 3) := dk_167 255 142 (dk_at dksX3_layTab_8 21 rfl rfl)
theorem dX3_layTab_213 : decode cX3_layTab 213 = .ok (.iinc 3 1, 3) := dk_132 3 1 (dk_at dksX3_layTab_9 0 rfl rfl)
theorem dX3_layTab_216 : decode cX3_layTab 216 = .ok (.goto (-133), 3) := dk_167 255 123 (dk_at dksX3_layTab_9 3 rfl rfl)
theorem dX3_layTab_219 : decode cX3_layTab 219 = .ok (.iconst 0, 1) := dk_3 (dk_at dksX3_layTab_9 6 rfl rfl)
theorem dX3_layTab_220 : decode cX3_layTab 220 = .ok (.istore_n 3, 1) := dk_62 (dk_at dksX3_layTab_9 7 rfl rfl)
theorem dX3_layTab_221 : decode cX3_layTab 221 = .ok (.iload_n 3, 1) := dk_29 (dk_at dksX3_layTab_9 8 rfl rfl)
theorem dX3_layTab_222 : decode cX3_layTab 222 = .ok (.iload_n 1, 1) := dk_27 (dk_at dksX3_layTab_9 9 rfl rfl)
theorem dX3_layTab_223 : decode cX3_layTab 223 = .ok (.if_icmp .ge 25, 3) := dk_162 0 25 (dk_at dksX3_layTab_9 10 rfl rfl)
theorem dX3_layTab_226 : decode cX3_layTab 226 = .ok (.aload_n 0, 1) := dk_42 (dk_at dksX3_layTab_9 13 rfl rfl)
theorem dX3_layTab_227 : decode cX3_layTab 227 = .ok (.getfield 47, 3) := dk_180 0 47 (dk_at dksX3_layTab_9 14 rfl rfl)
theorem dX3_layTab_230 : decode cX3_layTab 230 = .ok (.aload_n 0, 1) := dk_42 (dk_at dksX3_layTab_9 17 rfl rfl)
theorem dX3_layTab_231 : decode cX3_layTab 231 = .ok (.getfield 254, 3) := dk_180 0 254 (dk_at dksX3_layTab_9 18 rfl rfl)
theorem dX3_layTab_234 : decode cX3_layTab 234 = .ok (.iload_n 3, 1) := dk_29 (dk_at dksX3_layTab_9 21 rfl rfl)
theorem dX3_layTab_235 : decode cX3_layTab 235 = .ok (.invokestatic 260, 3) := dk_184 1 4 (dk_at dksX3_layTab_10 0 rfl rfl)
theorem dX3_layTab_238 : decode cX3_layTab 238 = .ok (.ldc2_w 266, 3) := dk_20 1 10 (dk_at dksX3_layTab_10 3 rfl rfl)
theorem dX3_layTab_241 : decode cX3_layTab 241 = .ok (.lastore, 1) := dk_80 (dk_at dksX3_layTab_10 6 rfl rfl)
theorem dX3_layTab_242 : decode cX3_layTab 242 = .ok (.iinc 3 1, 3) := dk_132 3 1 (dk_at dksX3_layTab_10 7 rfl rfl)
theorem dX3_layTab_245 : decode cX3_layTab 245 = .ok (.goto (-24), 3) := dk_167 255 232 (dk_at dksX3_layTab_10 10 rfl rfl)
theorem dX3_layTab_248 : decode cX3_layTab 248 = .ok (.aload_n 0, 1) := dk_42 (dk_at dksX3_layTab_10 13 rfl rfl)
theorem dX3_layTab_249 : decode cX3_layTab 249 = .ok (.lconst 1, 1) := dk_10 (dk_at dksX3_layTab_10 14 rfl rfl)
theorem dX3_layTab_250 : decode cX3_layTab 250 = .ok (.putfield 268, 3) := dk_181 1 12 (dk_at dksX3_layTab_10 15 rfl rfl)
theorem dX3_layTab_253 : decode cX3_layTab 253 = .ok (.return_, 1) := dk_177 (dk_at dksX3_layTab_10 18 rfl rfl)
abbrev cX3_hiddenMany : ByteArray := prog_18_method_42_code
def yX3_hiddenMany : MethodName := ⟨RX3, "hiddenMany", "()I"⟩
def dkwX3_hiddenMany_0 : List UInt8 := [4, 42, 180, 0, 20, 16, 50, 46, 120, 172]
abbrev dktX3_hiddenMany_0 : List UInt8 := dkwX3_hiddenMany_0 ++ []
theorem dksX3_hiddenMany_0 : cX3_hiddenMany.data.toList.drop 0 = dktX3_hiddenMany_0 := by decide +kernel
theorem dX3_hiddenMany_0 : decode cX3_hiddenMany 0 = .ok (.iconst 1, 1) := dk_4 (dk_at dksX3_hiddenMany_0 0 rfl rfl)
theorem dX3_hiddenMany_1 : decode cX3_hiddenMany 1 = .ok (.aload_n 0, 1) := dk_42 (dk_at dksX3_hiddenMany_0 1 rfl rfl)
theorem dX3_hiddenMany_2 : decode cX3_hiddenMany 2 = .ok (.getfield 20, 3) := dk_180 0 20 (dk_at dksX3_hiddenMany_0 2 rfl rfl)
theorem dX3_hiddenMany_5 : decode cX3_hiddenMany 5 = .ok (.bipush 50, 2) := dk_16 50 (dk_at dksX3_hiddenMany_0 5 rfl rfl)
theorem dX3_hiddenMany_7 : decode cX3_hiddenMany 7 = .ok (.iaload, 1) := dk_46 (dk_at dksX3_hiddenMany_0 7 rfl rfl)
theorem dX3_hiddenMany_8 : decode cX3_hiddenMany 8 = .ok (.ishl, 1) := dk_120 (dk_at dksX3_hiddenMany_0 8 rfl rfl)
theorem dX3_hiddenMany_9 : decode cX3_hiddenMany 9 = .ok (.ireturn, 1) := dk_172 (dk_at dksX3_hiddenMany_0 9 rfl rfl)
abbrev cX3_outcomes : ByteArray := prog_18_method_40_code
def yX3_outcomes : MethodName := ⟨RX3, "outcomes", "([II)I"⟩
def dkwX3_outcomes_0 : List UInt8 := [42, 16, 9, 27, 96, 46, 16, 254, 160, 0, 7, 5, 167, 0, 4, 7, 172]
abbrev dktX3_outcomes_0 : List UInt8 := dkwX3_outcomes_0 ++ []
theorem dksX3_outcomes_0 : cX3_outcomes.data.toList.drop 0 = dktX3_outcomes_0 := by decide +kernel
theorem dX3_outcomes_0 : decode cX3_outcomes 0 = .ok (.aload_n 0, 1) := dk_42 (dk_at dksX3_outcomes_0 0 rfl rfl)
theorem dX3_outcomes_1 : decode cX3_outcomes 1 = .ok (.bipush 9, 2) := dk_16 9 (dk_at dksX3_outcomes_0 1 rfl rfl)
theorem dX3_outcomes_3 : decode cX3_outcomes 3 = .ok (.iload_n 1, 1) := dk_27 (dk_at dksX3_outcomes_0 3 rfl rfl)
theorem dX3_outcomes_4 : decode cX3_outcomes 4 = .ok (.iadd, 1) := dk_96 (dk_at dksX3_outcomes_0 4 rfl rfl)
theorem dX3_outcomes_5 : decode cX3_outcomes 5 = .ok (.iaload, 1) := dk_46 (dk_at dksX3_outcomes_0 5 rfl rfl)
theorem dX3_outcomes_6 : decode cX3_outcomes 6 = .ok (.bipush (-2), 2) := dk_16 254 (dk_at dksX3_outcomes_0 6 rfl rfl)
theorem dX3_outcomes_8 : decode cX3_outcomes 8 = .ok (.if_icmp .ne 7, 3) := dk_160 0 7 (dk_at dksX3_outcomes_0 8 rfl rfl)
theorem dX3_outcomes_11 : decode cX3_outcomes 11 = .ok (.iconst 2, 1) := dk_5 (dk_at dksX3_outcomes_0 11 rfl rfl)
theorem dX3_outcomes_12 : decode cX3_outcomes 12 = .ok (.goto 4, 3) := dk_167 0 4 (dk_at dksX3_outcomes_0 12 rfl rfl)
theorem dX3_outcomes_15 : decode cX3_outcomes 15 = .ok (.iconst 4, 1) := dk_7 (dk_at dksX3_outcomes_0 15 rfl rfl)
theorem dX3_outcomes_16 : decode cX3_outcomes 16 = .ok (.ireturn, 1) := dk_172 (dk_at dksX3_outcomes_0 16 rfl rfl)
abbrev cX3_cell : ByteArray := prog_18_method_44_code
def yX3_cell : MethodName := ⟨RX3, "cell", "(II)I"⟩
def dkwX3_cell_0 : List UInt8 := [16, 97, 26, 104, 27, 96, 172]
abbrev dktX3_cell_0 : List UInt8 := dkwX3_cell_0 ++ []
theorem dksX3_cell_0 : cX3_cell.data.toList.drop 0 = dktX3_cell_0 := by decide +kernel
theorem dX3_cell_0 : decode cX3_cell 0 = .ok (.bipush 97, 2) := dk_16 97 (dk_at dksX3_cell_0 0 rfl rfl)
theorem dX3_cell_2 : decode cX3_cell 2 = .ok (.iload_n 0, 1) := dk_26 (dk_at dksX3_cell_0 2 rfl rfl)
theorem dX3_cell_3 : decode cX3_cell 3 = .ok (.imul, 1) := dk_104 (dk_at dksX3_cell_0 3 rfl rfl)
theorem dX3_cell_4 : decode cX3_cell 4 = .ok (.iload_n 1, 1) := dk_27 (dk_at dksX3_cell_0 4 rfl rfl)
theorem dX3_cell_5 : decode cX3_cell 5 = .ok (.iadd, 1) := dk_96 (dk_at dksX3_cell_0 5 rfl rfl)
theorem dX3_cell_6 : decode cX3_cell 6 = .ok (.ireturn, 1) := dk_172 (dk_at dksX3_cell_0 6 rfl rfl)
abbrev cX3_fitted : ByteArray := prog_18_method_43_code
def yX3_fitted : MethodName := ⟨RX3, "fitted", "(II)I"⟩
def dkwX3_fitted_2 : List UInt8 := [172]
abbrev dktX3_fitted_2 : List UInt8 := dkwX3_fitted_2 ++ []
def dkwX3_fitted_1 : List UInt8 := [160, 0, 7, 29, 167, 0, 20, 5, 29, 104, 28, 42, 180, 0, 20, 16, 9, 27, 96, 46, 122, 4, 126, 96]
abbrev dktX3_fitted_1 : List UInt8 := dkwX3_fitted_1 ++ dktX3_fitted_2
def dkwX3_fitted_0 : List UInt8 := [28, 42, 180, 0, 20, 4, 27, 96, 46, 122, 4, 126, 62, 42, 180, 0, 20, 16, 9, 27, 96, 46, 16, 254]
abbrev dktX3_fitted_0 : List UInt8 := dkwX3_fitted_0 ++ dktX3_fitted_1
theorem dksX3_fitted_0 : cX3_fitted.data.toList.drop 0 = dktX3_fitted_0 := by decide +kernel
theorem dksX3_fitted_1 : cX3_fitted.data.toList.drop 24 = dktX3_fitted_1 := dk_seg dksX3_fitted_0 24 rfl rfl
theorem dksX3_fitted_2 : cX3_fitted.data.toList.drop 48 = dktX3_fitted_2 := dk_seg dksX3_fitted_1 24 rfl rfl
theorem dX3_fitted_0 : decode cX3_fitted 0 = .ok (.iload_n 2, 1) := dk_28 (dk_at dksX3_fitted_0 0 rfl rfl)
theorem dX3_fitted_1 : decode cX3_fitted 1 = .ok (.aload_n 0, 1) := dk_42 (dk_at dksX3_fitted_0 1 rfl rfl)
theorem dX3_fitted_2 : decode cX3_fitted 2 = .ok (.getfield 20, 3) := dk_180 0 20 (dk_at dksX3_fitted_0 2 rfl rfl)
theorem dX3_fitted_5 : decode cX3_fitted 5 = .ok (.iconst 1, 1) := dk_4 (dk_at dksX3_fitted_0 5 rfl rfl)
theorem dX3_fitted_6 : decode cX3_fitted 6 = .ok (.iload_n 1, 1) := dk_27 (dk_at dksX3_fitted_0 6 rfl rfl)
theorem dX3_fitted_7 : decode cX3_fitted 7 = .ok (.iadd, 1) := dk_96 (dk_at dksX3_fitted_0 7 rfl rfl)
theorem dX3_fitted_8 : decode cX3_fitted 8 = .ok (.iaload, 1) := dk_46 (dk_at dksX3_fitted_0 8 rfl rfl)
theorem dX3_fitted_9 : decode cX3_fitted 9 = .ok (.ishr, 1) := dk_122 (dk_at dksX3_fitted_0 9 rfl rfl)
theorem dX3_fitted_10 : decode cX3_fitted 10 = .ok (.iconst 1, 1) := dk_4 (dk_at dksX3_fitted_0 10 rfl rfl)
theorem dX3_fitted_11 : decode cX3_fitted 11 = .ok (.iand, 1) := dk_126 (dk_at dksX3_fitted_0 11 rfl rfl)
theorem dX3_fitted_12 : decode cX3_fitted 12 = .ok (.istore_n 3, 1) := dk_62 (dk_at dksX3_fitted_0 12 rfl rfl)
theorem dX3_fitted_13 : decode cX3_fitted 13 = .ok (.aload_n 0, 1) := dk_42 (dk_at dksX3_fitted_0 13 rfl rfl)
theorem dX3_fitted_14 : decode cX3_fitted 14 = .ok (.getfield 20, 3) := dk_180 0 20 (dk_at dksX3_fitted_0 14 rfl rfl)
theorem dX3_fitted_17 : decode cX3_fitted 17 = .ok (.bipush 9, 2) := dk_16 9 (dk_at dksX3_fitted_0 17 rfl rfl)
theorem dX3_fitted_19 : decode cX3_fitted 19 = .ok (.iload_n 1, 1) := dk_27 (dk_at dksX3_fitted_0 19 rfl rfl)
theorem dX3_fitted_20 : decode cX3_fitted 20 = .ok (.iadd, 1) := dk_96 (dk_at dksX3_fitted_0 20 rfl rfl)
theorem dX3_fitted_21 : decode cX3_fitted 21 = .ok (.iaload, 1) := dk_46 (dk_at dksX3_fitted_0 21 rfl rfl)
theorem dX3_fitted_22 : decode cX3_fitted 22 = .ok (.bipush (-2), 2) := dk_16 254 (dk_at dksX3_fitted_0 22 rfl rfl)
theorem dX3_fitted_24 : decode cX3_fitted 24 = .ok (.if_icmp .ne 7, 3) := dk_160 0 7 (dk_at dksX3_fitted_1 0 rfl rfl)
theorem dX3_fitted_27 : decode cX3_fitted 27 = .ok (.iload_n 3, 1) := dk_29 (dk_at dksX3_fitted_1 3 rfl rfl)
theorem dX3_fitted_28 : decode cX3_fitted 28 = .ok (.goto 20, 3) := dk_167 0 20 (dk_at dksX3_fitted_1 4 rfl rfl)
theorem dX3_fitted_31 : decode cX3_fitted 31 = .ok (.iconst 2, 1) := dk_5 (dk_at dksX3_fitted_1 7 rfl rfl)
theorem dX3_fitted_32 : decode cX3_fitted 32 = .ok (.iload_n 3, 1) := dk_29 (dk_at dksX3_fitted_1 8 rfl rfl)
theorem dX3_fitted_33 : decode cX3_fitted 33 = .ok (.imul, 1) := dk_104 (dk_at dksX3_fitted_1 9 rfl rfl)
theorem dX3_fitted_34 : decode cX3_fitted 34 = .ok (.iload_n 2, 1) := dk_28 (dk_at dksX3_fitted_1 10 rfl rfl)
theorem dX3_fitted_35 : decode cX3_fitted 35 = .ok (.aload_n 0, 1) := dk_42 (dk_at dksX3_fitted_1 11 rfl rfl)
theorem dX3_fitted_36 : decode cX3_fitted 36 = .ok (.getfield 20, 3) := dk_180 0 20 (dk_at dksX3_fitted_1 12 rfl rfl)
theorem dX3_fitted_39 : decode cX3_fitted 39 = .ok (.bipush 9, 2) := dk_16 9 (dk_at dksX3_fitted_1 15 rfl rfl)
theorem dX3_fitted_41 : decode cX3_fitted 41 = .ok (.iload_n 1, 1) := dk_27 (dk_at dksX3_fitted_1 17 rfl rfl)
theorem dX3_fitted_42 : decode cX3_fitted 42 = .ok (.iadd, 1) := dk_96 (dk_at dksX3_fitted_1 18 rfl rfl)
theorem dX3_fitted_43 : decode cX3_fitted 43 = .ok (.iaload, 1) := dk_46 (dk_at dksX3_fitted_1 19 rfl rfl)
theorem dX3_fitted_44 : decode cX3_fitted 44 = .ok (.ishr, 1) := dk_122 (dk_at dksX3_fitted_1 20 rfl rfl)
theorem dX3_fitted_45 : decode cX3_fitted 45 = .ok (.iconst 1, 1) := dk_4 (dk_at dksX3_fitted_1 21 rfl rfl)
theorem dX3_fitted_46 : decode cX3_fitted 46 = .ok (.iand, 1) := dk_126 (dk_at dksX3_fitted_1 22 rfl rfl)
theorem dX3_fitted_47 : decode cX3_fitted 47 = .ok (.iadd, 1) := dk_96 (dk_at dksX3_fitted_1 23 rfl rfl)
theorem dX3_fitted_48 : decode cX3_fitted 48 = .ok (.ireturn, 1) := dk_172 (dk_at dksX3_fitted_2 0 rfl rfl)
abbrev cX3_goesUp : ByteArray := prog_18_method_48_code
def yX3_goesUp : MethodName := ⟨RX3, "goesUp", "(I)V"⟩
def dkwX3_goesUp_4 : List UInt8 := [155, 0, 7, 4, 167, 0, 4, 3, 61, 28, 153, 0, 10, 42, 21, 4, 29, 182, 1, 19, 167, 255, 143, 177]
abbrev dktX3_goesUp_4 : List UInt8 := dkwX3_goesUp_4 ++ []
def dkwX3_goesUp_3 : List UInt8 := [62, 132, 4, 1, 167, 255, 192, 29, 156, 0, 7, 2, 167, 0, 8, 42, 29, 182, 1, 16, 54, 4, 21, 4]
abbrev dktX3_goesUp_3 : List UInt8 := dkwX3_goesUp_3 ++ dktX3_goesUp_4
def dkwX3_goesUp_2 : List UInt8 := [159, 0, 22, 42, 180, 0, 47, 42, 180, 0, 254, 21, 4, 184, 1, 4, 47, 9, 148, 154, 0, 6, 21, 4]
abbrev dktX3_goesUp_2 : List UInt8 := dkwX3_goesUp_2 ++ dktX3_goesUp_3
def dkwX3_goesUp_1 : List UInt8 := [156, 0, 55, 42, 180, 0, 47, 27, 21, 4, 184, 1, 4, 47, 9, 148, 156, 0, 33, 27, 42, 180, 0, 254]
abbrev dktX3_goesUp_1 : List UInt8 := dkwX3_goesUp_1 ++ dktX3_goesUp_2
def dkwX3_goesUp_0 : List UInt8 := [4, 61, 28, 153, 0, 115, 2, 62, 3, 54, 4, 21, 4, 42, 180, 1, 1, 4, 100, 162, 0, 59, 29]
abbrev dktX3_goesUp_0 : List UInt8 := dkwX3_goesUp_0 ++ dktX3_goesUp_1
theorem dksX3_goesUp_0 : cX3_goesUp.data.toList.drop 0 = dktX3_goesUp_0 := by decide +kernel
theorem dksX3_goesUp_1 : cX3_goesUp.data.toList.drop 23 = dktX3_goesUp_1 := dk_seg dksX3_goesUp_0 23 rfl rfl
theorem dksX3_goesUp_2 : cX3_goesUp.data.toList.drop 47 = dktX3_goesUp_2 := dk_seg dksX3_goesUp_1 24 rfl rfl
theorem dksX3_goesUp_3 : cX3_goesUp.data.toList.drop 71 = dktX3_goesUp_3 := dk_seg dksX3_goesUp_2 24 rfl rfl
theorem dksX3_goesUp_4 : cX3_goesUp.data.toList.drop 95 = dktX3_goesUp_4 := dk_seg dksX3_goesUp_3 24 rfl rfl
theorem dX3_goesUp_0 : decode cX3_goesUp 0 = .ok (.iconst 1, 1) := dk_4 (dk_at dksX3_goesUp_0 0 rfl rfl)
theorem dX3_goesUp_1 : decode cX3_goesUp 1 = .ok (.istore_n 2, 1) := dk_61 (dk_at dksX3_goesUp_0 1 rfl rfl)
theorem dX3_goesUp_2 : decode cX3_goesUp 2 = .ok (.iload_n 2, 1) := dk_28 (dk_at dksX3_goesUp_0 2 rfl rfl)
theorem dX3_goesUp_3 : decode cX3_goesUp 3 = .ok (.ifCond .eq 115, 3) := dk_153 0 115 (dk_at dksX3_goesUp_0 3 rfl rfl)
theorem dX3_goesUp_6 : decode cX3_goesUp 6 = .ok (.iconst (-1), 1) := dk_2 (dk_at dksX3_goesUp_0 6 rfl rfl)
theorem dX3_goesUp_7 : decode cX3_goesUp 7 = .ok (.istore_n 3, 1) := dk_62 (dk_at dksX3_goesUp_0 7 rfl rfl)
theorem dX3_goesUp_8 : decode cX3_goesUp 8 = .ok (.iconst 0, 1) := dk_3 (dk_at dksX3_goesUp_0 8 rfl rfl)
theorem dX3_goesUp_9 : decode cX3_goesUp 9 = .ok (.istore 4, 2) := dk_54 4 (dk_at dksX3_goesUp_0 9 rfl rfl)
theorem dX3_goesUp_11 : decode cX3_goesUp 11 = .ok (.iload 4, 2) := dk_21 4 (dk_at dksX3_goesUp_0 11 rfl rfl)
theorem dX3_goesUp_13 : decode cX3_goesUp 13 = .ok (.aload_n 0, 1) := dk_42 (dk_at dksX3_goesUp_0 13 rfl rfl)
theorem dX3_goesUp_14 : decode cX3_goesUp 14 = .ok (.getfield 257, 3) := dk_180 1 1 (dk_at dksX3_goesUp_0 14 rfl rfl)
theorem dX3_goesUp_17 : decode cX3_goesUp 17 = .ok (.iconst 1, 1) := dk_4 (dk_at dksX3_goesUp_0 17 rfl rfl)
theorem dX3_goesUp_18 : decode cX3_goesUp 18 = .ok (.isub, 1) := dk_100 (dk_at dksX3_goesUp_0 18 rfl rfl)
theorem dX3_goesUp_19 : decode cX3_goesUp 19 = .ok (.if_icmp .ge 59, 3) := dk_162 0 59 (dk_at dksX3_goesUp_0 19 rfl rfl)
theorem dX3_goesUp_22 : decode cX3_goesUp 22 = .ok (.iload_n 3, 1) := dk_29 (dk_at dksX3_goesUp_0 22 rfl rfl)
theorem dX3_goesUp_23 : decode cX3_goesUp 23 = .ok (.ifCond .ge 55, 3) := dk_156 0 55 (dk_at dksX3_goesUp_1 0 rfl rfl)
theorem dX3_goesUp_26 : decode cX3_goesUp 26 = .ok (.aload_n 0, 1) := dk_42 (dk_at dksX3_goesUp_1 3 rfl rfl)
theorem dX3_goesUp_27 : decode cX3_goesUp 27 = .ok (.getfield 47, 3) := dk_180 0 47 (dk_at dksX3_goesUp_1 4 rfl rfl)
theorem dX3_goesUp_30 : decode cX3_goesUp 30 = .ok (.iload_n 1, 1) := dk_27 (dk_at dksX3_goesUp_1 7 rfl rfl)
theorem dX3_goesUp_31 : decode cX3_goesUp 31 = .ok (.iload 4, 2) := dk_21 4 (dk_at dksX3_goesUp_1 8 rfl rfl)
theorem dX3_goesUp_33 : decode cX3_goesUp 33 = .ok (.invokestatic 260, 3) := dk_184 1 4 (dk_at dksX3_goesUp_1 10 rfl rfl)
theorem dX3_goesUp_36 : decode cX3_goesUp 36 = .ok (.laload, 1) := dk_47 (dk_at dksX3_goesUp_1 13 rfl rfl)
theorem dX3_goesUp_37 : decode cX3_goesUp 37 = .ok (.lconst 0, 1) := dk_9 (dk_at dksX3_goesUp_1 14 rfl rfl)
theorem dX3_goesUp_38 : decode cX3_goesUp 38 = .ok (.lcmp, 1) := dk_148 (dk_at dksX3_goesUp_1 15 rfl rfl)
theorem dX3_goesUp_39 : decode cX3_goesUp 39 = .ok (.ifCond .ge 33, 3) := dk_156 0 33 (dk_at dksX3_goesUp_1 16 rfl rfl)
theorem dX3_goesUp_42 : decode cX3_goesUp 42 = .ok (.iload_n 1, 1) := dk_27 (dk_at dksX3_goesUp_1 19 rfl rfl)
theorem dX3_goesUp_43 : decode cX3_goesUp 43 = .ok (.aload_n 0, 1) := dk_42 (dk_at dksX3_goesUp_1 20 rfl rfl)
theorem dX3_goesUp_44 : decode cX3_goesUp 44 = .ok (.getfield 254, 3) := dk_180 0 254 (dk_at dksX3_goesUp_1 21 rfl rfl)
theorem dX3_goesUp_47 : decode cX3_goesUp 47 = .ok (.if_icmp .eq 22, 3) := dk_159 0 22 (dk_at dksX3_goesUp_2 0 rfl rfl)
theorem dX3_goesUp_50 : decode cX3_goesUp 50 = .ok (.aload_n 0, 1) := dk_42 (dk_at dksX3_goesUp_2 3 rfl rfl)
theorem dX3_goesUp_51 : decode cX3_goesUp 51 = .ok (.getfield 47, 3) := dk_180 0 47 (dk_at dksX3_goesUp_2 4 rfl rfl)
theorem dX3_goesUp_54 : decode cX3_goesUp 54 = .ok (.aload_n 0, 1) := dk_42 (dk_at dksX3_goesUp_2 7 rfl rfl)
theorem dX3_goesUp_55 : decode cX3_goesUp 55 = .ok (.getfield 254, 3) := dk_180 0 254 (dk_at dksX3_goesUp_2 8 rfl rfl)
theorem dX3_goesUp_58 : decode cX3_goesUp 58 = .ok (.iload 4, 2) := dk_21 4 (dk_at dksX3_goesUp_2 11 rfl rfl)
theorem dX3_goesUp_60 : decode cX3_goesUp 60 = .ok (.invokestatic 260, 3) := dk_184 1 4 (dk_at dksX3_goesUp_2 13 rfl rfl)
theorem dX3_goesUp_63 : decode cX3_goesUp 63 = .ok (.laload, 1) := dk_47 (dk_at dksX3_goesUp_2 16 rfl rfl)
theorem dX3_goesUp_64 : decode cX3_goesUp 64 = .ok (.lconst 0, 1) := dk_9 (dk_at dksX3_goesUp_2 17 rfl rfl)
theorem dX3_goesUp_65 : decode cX3_goesUp 65 = .ok (.lcmp, 1) := dk_148 (dk_at dksX3_goesUp_2 18 rfl rfl)
theorem dX3_goesUp_66 : decode cX3_goesUp 66 = .ok (.ifCond .ne 6, 3) := dk_154 0 6 (dk_at dksX3_goesUp_2 19 rfl rfl)
theorem dX3_goesUp_69 : decode cX3_goesUp 69 = .ok (.iload 4, 2) := dk_21 4 (dk_at dksX3_goesUp_2 22 rfl rfl)
theorem dX3_goesUp_71 : decode cX3_goesUp 71 = .ok (.istore_n 3, 1) := dk_62 (dk_at dksX3_goesUp_3 0 rfl rfl)
theorem dX3_goesUp_72 : decode cX3_goesUp 72 = .ok (.iinc 4 1, 3) := dk_132 4 1 (dk_at dksX3_goesUp_3 1 rfl rfl)
theorem dX3_goesUp_75 : decode cX3_goesUp 75 = .ok (.goto (-64), 3) := dk_167 255 192 (dk_at dksX3_goesUp_3 4 rfl rfl)
theorem dX3_goesUp_78 : decode cX3_goesUp 78 = .ok (.iload_n 3, 1) := dk_29 (dk_at dksX3_goesUp_3 7 rfl rfl)
theorem dX3_goesUp_79 : decode cX3_goesUp 79 = .ok (.ifCond .ge 7, 3) := dk_156 0 7 (dk_at dksX3_goesUp_3 8 rfl rfl)
theorem dX3_goesUp_82 : decode cX3_goesUp 82 = .ok (.iconst (-1), 1) := dk_2 (dk_at dksX3_goesUp_3 11 rfl rfl)
theorem dX3_goesUp_83 : decode cX3_goesUp 83 = .ok (.goto 8, 3) := dk_167 0 8 (dk_at dksX3_goesUp_3 12 rfl rfl)
theorem dX3_goesUp_86 : decode cX3_goesUp 86 = .ok (.aload_n 0, 1) := dk_42 (dk_at dksX3_goesUp_3 15 rfl rfl)
theorem dX3_goesUp_87 : decode cX3_goesUp 87 = .ok (.iload_n 3, 1) := dk_29 (dk_at dksX3_goesUp_3 16 rfl rfl)
theorem dX3_goesUp_88 : decode cX3_goesUp 88 = .ok (.invokevirtual 272, 3) := dk_182 1 16 (dk_at dksX3_goesUp_3 17 rfl rfl)
theorem dX3_goesUp_91 : decode cX3_goesUp 91 = .ok (.istore 4, 2) := dk_54 4 (dk_at dksX3_goesUp_3 20 rfl rfl)
theorem dX3_goesUp_93 : decode cX3_goesUp 93 = .ok (.iload 4, 2) := dk_21 4 (dk_at dksX3_goesUp_3 22 rfl rfl)
theorem dX3_goesUp_95 : decode cX3_goesUp 95 = .ok (.ifCond .lt 7, 3) := dk_155 0 7 (dk_at dksX3_goesUp_4 0 rfl rfl)
theorem dX3_goesUp_98 : decode cX3_goesUp 98 = .ok (.iconst 1, 1) := dk_4 (dk_at dksX3_goesUp_4 3 rfl rfl)
theorem dX3_goesUp_99 : decode cX3_goesUp 99 = .ok (.goto 4, 3) := dk_167 0 4 (dk_at dksX3_goesUp_4 4 rfl rfl)
theorem dX3_goesUp_102 : decode cX3_goesUp 102 = .ok (.iconst 0, 1) := dk_3 (dk_at dksX3_goesUp_4 7 rfl rfl)
theorem dX3_goesUp_103 : decode cX3_goesUp 103 = .ok (.istore_n 2, 1) := dk_61 (dk_at dksX3_goesUp_4 8 rfl rfl)
theorem dX3_goesUp_104 : decode cX3_goesUp 104 = .ok (.iload_n 2, 1) := dk_28 (dk_at dksX3_goesUp_4 9 rfl rfl)
theorem dX3_goesUp_105 : decode cX3_goesUp 105 = .ok (.ifCond .eq 10, 3) := dk_153 0 10 (dk_at dksX3_goesUp_4 10 rfl rfl)
theorem dX3_goesUp_108 : decode cX3_goesUp 108 = .ok (.aload_n 0, 1) := dk_42 (dk_at dksX3_goesUp_4 13 rfl rfl)
theorem dX3_goesUp_109 : decode cX3_goesUp 109 = .ok (.iload 4, 2) := dk_21 4 (dk_at dksX3_goesUp_4 14 rfl rfl)
theorem dX3_goesUp_111 : decode cX3_goesUp 111 = .ok (.iload_n 3, 1) := dk_29 (dk_at dksX3_goesUp_4 16 rfl rfl)
theorem dX3_goesUp_112 : decode cX3_goesUp 112 = .ok (.invokevirtual 275, 3) := dk_182 1 19 (dk_at dksX3_goesUp_4 17 rfl rfl)
theorem dX3_goesUp_115 : decode cX3_goesUp 115 = .ok (.goto (-113), 3) := dk_167 255 143 (dk_at dksX3_goesUp_4 20 rfl rfl)
theorem dX3_goesUp_118 : decode cX3_goesUp 118 = .ok (.return_, 1) := dk_177 (dk_at dksX3_goesUp_4 23 rfl rfl)
abbrev cX3_bounding : ByteArray := prog_18_method_47_code
def yX3_bounding : MethodName := ⟨RX3, "bounding", "(I)I"⟩
def dkwX3_bounding_5 : List UInt8 := [180, 0, 51, 28, 46, 162, 0, 5, 29, 61, 132, 3, 1, 167, 255, 129, 28, 172]
abbrev dktX3_bounding_5 : List UInt8 := dkwX3_bounding_5 ++ []
def dkwX3_bounding_4 : List UInt8 := [22, 8, 22, 10, 148, 155, 0, 26, 22, 8, 22, 10, 148, 154, 0, 20, 42, 180, 0, 51, 29, 46, 42]
abbrev dktX3_bounding_4 : List UInt8 := dkwX3_bounding_4 ++ dktX3_bounding_5
def dkwX3_bounding_3 : List UInt8 := [105, 55, 8, 42, 180, 0, 47, 28, 42, 180, 1, 1, 4, 100, 184, 1, 4, 47, 22, 4, 105, 55, 10]
abbrev dktX3_bounding_3 : List UInt8 := dkwX3_bounding_3 ++ dktX3_bounding_4
def dkwX3_bounding_2 : List UInt8 := [27, 184, 1, 4, 47, 55, 6, 42, 180, 0, 47, 29, 42, 180, 1, 1, 4, 100, 184, 1, 4, 47, 22, 6]
abbrev dktX3_bounding_2 : List UInt8 := dkwX3_bounding_2 ++ dktX3_bounding_3
def dkwX3_bounding_1 : List UInt8 := [22, 4, 9, 148, 157, 0, 6, 167, 0, 97, 28, 156, 0, 8, 29, 61, 167, 0, 88, 42, 180, 0, 47, 28]
abbrev dktX3_bounding_1 : List UInt8 := dkwX3_bounding_1 ++ dktX3_bounding_2
def dkwX3_bounding_0 : List UInt8 := [2, 61, 3, 62, 29, 42, 180, 0, 254, 162, 0, 125, 42, 180, 0, 47, 29, 27, 184, 1, 4, 47, 55, 4]
abbrev dktX3_bounding_0 : List UInt8 := dkwX3_bounding_0 ++ dktX3_bounding_1
theorem dksX3_bounding_0 : cX3_bounding.data.toList.drop 0 = dktX3_bounding_0 := by decide +kernel
theorem dksX3_bounding_1 : cX3_bounding.data.toList.drop 24 = dktX3_bounding_1 := dk_seg dksX3_bounding_0 24 rfl rfl
theorem dksX3_bounding_2 : cX3_bounding.data.toList.drop 48 = dktX3_bounding_2 := dk_seg dksX3_bounding_1 24 rfl rfl
theorem dksX3_bounding_3 : cX3_bounding.data.toList.drop 72 = dktX3_bounding_3 := dk_seg dksX3_bounding_2 24 rfl rfl
theorem dksX3_bounding_4 : cX3_bounding.data.toList.drop 95 = dktX3_bounding_4 := dk_seg dksX3_bounding_3 23 rfl rfl
theorem dksX3_bounding_5 : cX3_bounding.data.toList.drop 118 = dktX3_bounding_5 := dk_seg dksX3_bounding_4 23 rfl rfl
theorem dX3_bounding_0 : decode cX3_bounding 0 = .ok (.iconst (-1), 1) := dk_2 (dk_at dksX3_bounding_0 0 rfl rfl)
theorem dX3_bounding_1 : decode cX3_bounding 1 = .ok (.istore_n 2, 1) := dk_61 (dk_at dksX3_bounding_0 1 rfl rfl)
theorem dX3_bounding_2 : decode cX3_bounding 2 = .ok (.iconst 0, 1) := dk_3 (dk_at dksX3_bounding_0 2 rfl rfl)
theorem dX3_bounding_3 : decode cX3_bounding 3 = .ok (.istore_n 3, 1) := dk_62 (dk_at dksX3_bounding_0 3 rfl rfl)
theorem dX3_bounding_4 : decode cX3_bounding 4 = .ok (.iload_n 3, 1) := dk_29 (dk_at dksX3_bounding_0 4 rfl rfl)
theorem dX3_bounding_5 : decode cX3_bounding 5 = .ok (.aload_n 0, 1) := dk_42 (dk_at dksX3_bounding_0 5 rfl rfl)
theorem dX3_bounding_6 : decode cX3_bounding 6 = .ok (.getfield 254, 3) := dk_180 0 254 (dk_at dksX3_bounding_0 6 rfl rfl)
theorem dX3_bounding_9 : decode cX3_bounding 9 = .ok (.if_icmp .ge 125, 3) := dk_162 0 125 (dk_at dksX3_bounding_0 9 rfl rfl)
theorem dX3_bounding_12 : decode cX3_bounding 12 = .ok (.aload_n 0, 1) := dk_42 (dk_at dksX3_bounding_0 12 rfl rfl)
theorem dX3_bounding_13 : decode cX3_bounding 13 = .ok (.getfield 47, 3) := dk_180 0 47 (dk_at dksX3_bounding_0 13 rfl rfl)
theorem dX3_bounding_16 : decode cX3_bounding 16 = .ok (.iload_n 3, 1) := dk_29 (dk_at dksX3_bounding_0 16 rfl rfl)
theorem dX3_bounding_17 : decode cX3_bounding 17 = .ok (.iload_n 1, 1) := dk_27 (dk_at dksX3_bounding_0 17 rfl rfl)
theorem dX3_bounding_18 : decode cX3_bounding 18 = .ok (.invokestatic 260, 3) := dk_184 1 4 (dk_at dksX3_bounding_0 18 rfl rfl)
theorem dX3_bounding_21 : decode cX3_bounding 21 = .ok (.laload, 1) := dk_47 (dk_at dksX3_bounding_0 21 rfl rfl)
theorem dX3_bounding_22 : decode cX3_bounding 22 = .ok (.lstore 4, 2) := dk_55 4 (dk_at dksX3_bounding_0 22 rfl rfl)
theorem dX3_bounding_24 : decode cX3_bounding 24 = .ok (.lload 4, 2) := dk_22 4 (dk_at dksX3_bounding_1 0 rfl rfl)
theorem dX3_bounding_26 : decode cX3_bounding 26 = .ok (.lconst 0, 1) := dk_9 (dk_at dksX3_bounding_1 2 rfl rfl)
theorem dX3_bounding_27 : decode cX3_bounding 27 = .ok (.lcmp, 1) := dk_148 (dk_at dksX3_bounding_1 3 rfl rfl)
theorem dX3_bounding_28 : decode cX3_bounding 28 = .ok (.ifCond .gt 6, 3) := dk_157 0 6 (dk_at dksX3_bounding_1 4 rfl rfl)
theorem dX3_bounding_31 : decode cX3_bounding 31 = .ok (.goto 97, 3) := dk_167 0 97 (dk_at dksX3_bounding_1 7 rfl rfl)
theorem dX3_bounding_34 : decode cX3_bounding 34 = .ok (.iload_n 2, 1) := dk_28 (dk_at dksX3_bounding_1 10 rfl rfl)
theorem dX3_bounding_35 : decode cX3_bounding 35 = .ok (.ifCond .ge 8, 3) := dk_156 0 8 (dk_at dksX3_bounding_1 11 rfl rfl)
theorem dX3_bounding_38 : decode cX3_bounding 38 = .ok (.iload_n 3, 1) := dk_29 (dk_at dksX3_bounding_1 14 rfl rfl)
theorem dX3_bounding_39 : decode cX3_bounding 39 = .ok (.istore_n 2, 1) := dk_61 (dk_at dksX3_bounding_1 15 rfl rfl)
theorem dX3_bounding_40 : decode cX3_bounding 40 = .ok (.goto 88, 3) := dk_167 0 88 (dk_at dksX3_bounding_1 16 rfl rfl)
theorem dX3_bounding_43 : decode cX3_bounding 43 = .ok (.aload_n 0, 1) := dk_42 (dk_at dksX3_bounding_1 19 rfl rfl)
theorem dX3_bounding_44 : decode cX3_bounding 44 = .ok (.getfield 47, 3) := dk_180 0 47 (dk_at dksX3_bounding_1 20 rfl rfl)
theorem dX3_bounding_47 : decode cX3_bounding 47 = .ok (.iload_n 2, 1) := dk_28 (dk_at dksX3_bounding_1 23 rfl rfl)
theorem dX3_bounding_48 : decode cX3_bounding 48 = .ok (.iload_n 1, 1) := dk_27 (dk_at dksX3_bounding_2 0 rfl rfl)
theorem dX3_bounding_49 : decode cX3_bounding 49 = .ok (.invokestatic 260, 3) := dk_184 1 4 (dk_at dksX3_bounding_2 1 rfl rfl)
theorem dX3_bounding_52 : decode cX3_bounding 52 = .ok (.laload, 1) := dk_47 (dk_at dksX3_bounding_2 4 rfl rfl)
theorem dX3_bounding_53 : decode cX3_bounding 53 = .ok (.lstore 6, 2) := dk_55 6 (dk_at dksX3_bounding_2 5 rfl rfl)
theorem dX3_bounding_55 : decode cX3_bounding 55 = .ok (.aload_n 0, 1) := dk_42 (dk_at dksX3_bounding_2 7 rfl rfl)
theorem dX3_bounding_56 : decode cX3_bounding 56 = .ok (.getfield 47, 3) := dk_180 0 47 (dk_at dksX3_bounding_2 8 rfl rfl)
theorem dX3_bounding_59 : decode cX3_bounding 59 = .ok (.iload_n 3, 1) := dk_29 (dk_at dksX3_bounding_2 11 rfl rfl)
theorem dX3_bounding_60 : decode cX3_bounding 60 = .ok (.aload_n 0, 1) := dk_42 (dk_at dksX3_bounding_2 12 rfl rfl)
theorem dX3_bounding_61 : decode cX3_bounding 61 = .ok (.getfield 257, 3) := dk_180 1 1 (dk_at dksX3_bounding_2 13 rfl rfl)
theorem dX3_bounding_64 : decode cX3_bounding 64 = .ok (.iconst 1, 1) := dk_4 (dk_at dksX3_bounding_2 16 rfl rfl)
theorem dX3_bounding_65 : decode cX3_bounding 65 = .ok (.isub, 1) := dk_100 (dk_at dksX3_bounding_2 17 rfl rfl)
theorem dX3_bounding_66 : decode cX3_bounding 66 = .ok (.invokestatic 260, 3) := dk_184 1 4 (dk_at dksX3_bounding_2 18 rfl rfl)
theorem dX3_bounding_69 : decode cX3_bounding 69 = .ok (.laload, 1) := dk_47 (dk_at dksX3_bounding_2 21 rfl rfl)
theorem dX3_bounding_70 : decode cX3_bounding 70 = .ok (.lload 6, 2) := dk_22 6 (dk_at dksX3_bounding_2 22 rfl rfl)
theorem dX3_bounding_72 : decode cX3_bounding 72 = .ok (.lmul, 1) := dk_105 (dk_at dksX3_bounding_3 0 rfl rfl)
theorem dX3_bounding_73 : decode cX3_bounding 73 = .ok (.lstore 8, 2) := dk_55 8 (dk_at dksX3_bounding_3 1 rfl rfl)
theorem dX3_bounding_75 : decode cX3_bounding 75 = .ok (.aload_n 0, 1) := dk_42 (dk_at dksX3_bounding_3 3 rfl rfl)
theorem dX3_bounding_76 : decode cX3_bounding 76 = .ok (.getfield 47, 3) := dk_180 0 47 (dk_at dksX3_bounding_3 4 rfl rfl)
theorem dX3_bounding_79 : decode cX3_bounding 79 = .ok (.iload_n 2, 1) := dk_28 (dk_at dksX3_bounding_3 7 rfl rfl)
theorem dX3_bounding_80 : decode cX3_bounding 80 = .ok (.aload_n 0, 1) := dk_42 (dk_at dksX3_bounding_3 8 rfl rfl)
theorem dX3_bounding_81 : decode cX3_bounding 81 = .ok (.getfield 257, 3) := dk_180 1 1 (dk_at dksX3_bounding_3 9 rfl rfl)
theorem dX3_bounding_84 : decode cX3_bounding 84 = .ok (.iconst 1, 1) := dk_4 (dk_at dksX3_bounding_3 12 rfl rfl)
theorem dX3_bounding_85 : decode cX3_bounding 85 = .ok (.isub, 1) := dk_100 (dk_at dksX3_bounding_3 13 rfl rfl)
theorem dX3_bounding_86 : decode cX3_bounding 86 = .ok (.invokestatic 260, 3) := dk_184 1 4 (dk_at dksX3_bounding_3 14 rfl rfl)
theorem dX3_bounding_89 : decode cX3_bounding 89 = .ok (.laload, 1) := dk_47 (dk_at dksX3_bounding_3 17 rfl rfl)
theorem dX3_bounding_90 : decode cX3_bounding 90 = .ok (.lload 4, 2) := dk_22 4 (dk_at dksX3_bounding_3 18 rfl rfl)
theorem dX3_bounding_92 : decode cX3_bounding 92 = .ok (.lmul, 1) := dk_105 (dk_at dksX3_bounding_3 20 rfl rfl)
theorem dX3_bounding_93 : decode cX3_bounding 93 = .ok (.lstore 10, 2) := dk_55 10 (dk_at dksX3_bounding_3 21 rfl rfl)
theorem dX3_bounding_95 : decode cX3_bounding 95 = .ok (.lload 8, 2) := dk_22 8 (dk_at dksX3_bounding_4 0 rfl rfl)
theorem dX3_bounding_97 : decode cX3_bounding 97 = .ok (.lload 10, 2) := dk_22 10 (dk_at dksX3_bounding_4 2 rfl rfl)
theorem dX3_bounding_99 : decode cX3_bounding 99 = .ok (.lcmp, 1) := dk_148 (dk_at dksX3_bounding_4 4 rfl rfl)
theorem dX3_bounding_100 : decode cX3_bounding 100 = .ok (.ifCond .lt 26, 3) := dk_155 0 26 (dk_at dksX3_bounding_4 5 rfl rfl)
theorem dX3_bounding_103 : decode cX3_bounding 103 = .ok (.lload 8, 2) := dk_22 8 (dk_at dksX3_bounding_4 8 rfl rfl)
theorem dX3_bounding_105 : decode cX3_bounding 105 = .ok (.lload 10, 2) := dk_22 10 (dk_at dksX3_bounding_4 10 rfl rfl)
theorem dX3_bounding_107 : decode cX3_bounding 107 = .ok (.lcmp, 1) := dk_148 (dk_at dksX3_bounding_4 12 rfl rfl)
theorem dX3_bounding_108 : decode cX3_bounding 108 = .ok (.ifCond .ne 20, 3) := dk_154 0 20 (dk_at dksX3_bounding_4 13 rfl rfl)
theorem dX3_bounding_111 : decode cX3_bounding 111 = .ok (.aload_n 0, 1) := dk_42 (dk_at dksX3_bounding_4 16 rfl rfl)
theorem dX3_bounding_112 : decode cX3_bounding 112 = .ok (.getfield 51, 3) := dk_180 0 51 (dk_at dksX3_bounding_4 17 rfl rfl)
theorem dX3_bounding_115 : decode cX3_bounding 115 = .ok (.iload_n 3, 1) := dk_29 (dk_at dksX3_bounding_4 20 rfl rfl)
theorem dX3_bounding_116 : decode cX3_bounding 116 = .ok (.iaload, 1) := dk_46 (dk_at dksX3_bounding_4 21 rfl rfl)
theorem dX3_bounding_117 : decode cX3_bounding 117 = .ok (.aload_n 0, 1) := dk_42 (dk_at dksX3_bounding_4 22 rfl rfl)
theorem dX3_bounding_118 : decode cX3_bounding 118 = .ok (.getfield 51, 3) := dk_180 0 51 (dk_at dksX3_bounding_5 0 rfl rfl)
theorem dX3_bounding_121 : decode cX3_bounding 121 = .ok (.iload_n 2, 1) := dk_28 (dk_at dksX3_bounding_5 3 rfl rfl)
theorem dX3_bounding_122 : decode cX3_bounding 122 = .ok (.iaload, 1) := dk_46 (dk_at dksX3_bounding_5 4 rfl rfl)
theorem dX3_bounding_123 : decode cX3_bounding 123 = .ok (.if_icmp .ge 5, 3) := dk_162 0 5 (dk_at dksX3_bounding_5 5 rfl rfl)
theorem dX3_bounding_126 : decode cX3_bounding 126 = .ok (.iload_n 3, 1) := dk_29 (dk_at dksX3_bounding_5 8 rfl rfl)
theorem dX3_bounding_127 : decode cX3_bounding 127 = .ok (.istore_n 2, 1) := dk_61 (dk_at dksX3_bounding_5 9 rfl rfl)
theorem dX3_bounding_128 : decode cX3_bounding 128 = .ok (.iinc 3 1, 3) := dk_132 3 1 (dk_at dksX3_bounding_5 10 rfl rfl)
theorem dX3_bounding_131 : decode cX3_bounding 131 = .ok (.goto (-127), 3) := dk_167 255 129 (dk_at dksX3_bounding_5 13 rfl rfl)
theorem dX3_bounding_134 : decode cX3_bounding 134 = .ok (.iload_n 2, 1) := dk_28 (dk_at dksX3_bounding_5 16 rfl rfl)
theorem dX3_bounding_135 : decode cX3_bounding 135 = .ok (.ireturn, 1) := dk_172 (dk_at dksX3_bounding_5 17 rfl rfl)
abbrev cX3_turnOver : ByteArray := prog_18_method_46_code
def yX3_turnOver : MethodName := ⟨RX3, "turnOve\x72", "(II)V"⟩
def dkwX3_turnOver_5 : List UInt8 := [167, 255, 156, 42, 33, 181, 1, 12, 42, 180, 0, 51, 27, 28, 79, 177]
abbrev dktX3_turnOver_5 : List UInt8 := dkwX3_turnOver_5 ++ []
def dkwX3_turnOver_4 : List UInt8 := [21, 8, 184, 1, 4, 47, 105, 101, 42, 180, 1, 12, 109, 80, 132, 8, 1, 167, 255, 198, 132, 5, 1]
abbrev dktX3_turnOver_4 : List UInt8 := dkwX3_turnOver_4 ++ dktX3_turnOver_5
def dkwX3_turnOver_3 : List UInt8 := [184, 1, 4, 42, 180, 0, 47, 21, 5, 21, 8, 184, 1, 4, 47, 33, 105, 22, 6, 42, 180, 0, 47, 27]
abbrev dktX3_turnOver_3 : List UInt8 := dkwX3_turnOver_3 ++ dktX3_turnOver_4
def dkwX3_turnOver_2 : List UInt8 := [55, 6, 3, 54, 8, 21, 8, 42, 180, 1, 1, 162, 0, 55, 42, 180, 0, 47, 21, 5, 21, 8]
abbrev dktX3_turnOver_2 : List UInt8 := dkwX3_turnOver_2 ++ dktX3_turnOver_3
def dkwX3_turnOver_1 : List UInt8 := [163, 0, 95, 21, 5, 27, 160, 0, 6, 167, 0, 80, 42, 180, 0, 47, 21, 5, 28, 184, 1, 4, 47]
abbrev dktX3_turnOver_1 : List UInt8 := dkwX3_turnOver_1 ++ dktX3_turnOver_2
def dkwX3_turnOver_0 : List UInt8 := [42, 180, 0, 47, 27, 28, 184, 1, 4, 47, 66, 3, 54, 5, 21, 5, 42, 180, 0, 254, 4, 96]
abbrev dktX3_turnOver_0 : List UInt8 := dkwX3_turnOver_0 ++ dktX3_turnOver_1
theorem dksX3_turnOver_0 : cX3_turnOver.data.toList.drop 0 = dktX3_turnOver_0 := by decide +kernel
theorem dksX3_turnOver_1 : cX3_turnOver.data.toList.drop 22 = dktX3_turnOver_1 := dk_seg dksX3_turnOver_0 22 rfl rfl
theorem dksX3_turnOver_2 : cX3_turnOver.data.toList.drop 45 = dktX3_turnOver_2 := dk_seg dksX3_turnOver_1 23 rfl rfl
theorem dksX3_turnOver_3 : cX3_turnOver.data.toList.drop 67 = dktX3_turnOver_3 := dk_seg dksX3_turnOver_2 22 rfl rfl
theorem dksX3_turnOver_4 : cX3_turnOver.data.toList.drop 91 = dktX3_turnOver_4 := dk_seg dksX3_turnOver_3 24 rfl rfl
theorem dksX3_turnOver_5 : cX3_turnOver.data.toList.drop 114 = dktX3_turnOver_5 := dk_seg dksX3_turnOver_4 23 rfl rfl
theorem dX3_turnOver_0 : decode cX3_turnOver 0 = .ok (.aload_n 0, 1) := dk_42 (dk_at dksX3_turnOver_0 0 rfl rfl)
theorem dX3_turnOver_1 : decode cX3_turnOver 1 = .ok (.getfield 47, 3) := dk_180 0 47 (dk_at dksX3_turnOver_0 1 rfl rfl)
theorem dX3_turnOver_4 : decode cX3_turnOver 4 = .ok (.iload_n 1, 1) := dk_27 (dk_at dksX3_turnOver_0 4 rfl rfl)
theorem dX3_turnOver_5 : decode cX3_turnOver 5 = .ok (.iload_n 2, 1) := dk_28 (dk_at dksX3_turnOver_0 5 rfl rfl)
theorem dX3_turnOver_6 : decode cX3_turnOver 6 = .ok (.invokestatic 260, 3) := dk_184 1 4 (dk_at dksX3_turnOver_0 6 rfl rfl)
theorem dX3_turnOver_9 : decode cX3_turnOver 9 = .ok (.laload, 1) := dk_47 (dk_at dksX3_turnOver_0 9 rfl rfl)
theorem dX3_turnOver_10 : decode cX3_turnOver 10 = .ok (.lstore_n 3, 1) := dk_66 (dk_at dksX3_turnOver_0 10 rfl rfl)
theorem dX3_turnOver_11 : decode cX3_turnOver 11 = .ok (.iconst 0, 1) := dk_3 (dk_at dksX3_turnOver_0 11 rfl rfl)
theorem dX3_turnOver_12 : decode cX3_turnOver 12 = .ok (.istore 5, 2) := dk_54 5 (dk_at dksX3_turnOver_0 12 rfl rfl)
theorem dX3_turnOver_14 : decode cX3_turnOver 14 = .ok (.iload 5, 2) := dk_21 5 (dk_at dksX3_turnOver_0 14 rfl rfl)
theorem dX3_turnOver_16 : decode cX3_turnOver 16 = .ok (.aload_n 0, 1) := dk_42 (dk_at dksX3_turnOver_0 16 rfl rfl)
theorem dX3_turnOver_17 : decode cX3_turnOver 17 = .ok (.getfield 254, 3) := dk_180 0 254 (dk_at dksX3_turnOver_0 17 rfl rfl)
theorem dX3_turnOver_20 : decode cX3_turnOver 20 = .ok (.iconst 1, 1) := dk_4 (dk_at dksX3_turnOver_0 20 rfl rfl)
theorem dX3_turnOver_21 : decode cX3_turnOver 21 = .ok (.iadd, 1) := dk_96 (dk_at dksX3_turnOver_0 21 rfl rfl)
theorem dX3_turnOver_22 : decode cX3_turnOver 22 = .ok (.if_icmp .gt 95, 3) := dk_163 0 95 (dk_at dksX3_turnOver_1 0 rfl rfl)
theorem dX3_turnOver_25 : decode cX3_turnOver 25 = .ok (.iload 5, 2) := dk_21 5 (dk_at dksX3_turnOver_1 3 rfl rfl)
theorem dX3_turnOver_27 : decode cX3_turnOver 27 = .ok (.iload_n 1, 1) := dk_27 (dk_at dksX3_turnOver_1 5 rfl rfl)
theorem dX3_turnOver_28 : decode cX3_turnOver 28 = .ok (.if_icmp .ne 6, 3) := dk_160 0 6 (dk_at dksX3_turnOver_1 6 rfl rfl)
theorem dX3_turnOver_31 : decode cX3_turnOver 31 = .ok (.goto 80, 3) := dk_167 0 80 (dk_at dksX3_turnOver_1 9 rfl rfl)
theorem dX3_turnOver_34 : decode cX3_turnOver 34 = .ok (.aload_n 0, 1) := dk_42 (dk_at dksX3_turnOver_1 12 rfl rfl)
theorem dX3_turnOver_35 : decode cX3_turnOver 35 = .ok (.getfield 47, 3) := dk_180 0 47 (dk_at dksX3_turnOver_1 13 rfl rfl)
theorem dX3_turnOver_38 : decode cX3_turnOver 38 = .ok (.iload 5, 2) := dk_21 5 (dk_at dksX3_turnOver_1 16 rfl rfl)
theorem dX3_turnOver_40 : decode cX3_turnOver 40 = .ok (.iload_n 2, 1) := dk_28 (dk_at dksX3_turnOver_1 18 rfl rfl)
theorem dX3_turnOver_41 : decode cX3_turnOver 41 = .ok (.invokestatic 260, 3) := dk_184 1 4 (dk_at dksX3_turnOver_1 19 rfl rfl)
theorem dX3_turnOver_44 : decode cX3_turnOver 44 = .ok (.laload, 1) := dk_47 (dk_at dksX3_turnOver_1 22 rfl rfl)
theorem dX3_turnOver_45 : decode cX3_turnOver 45 = .ok (.lstore 6, 2) := dk_55 6 (dk_at dksX3_turnOver_2 0 rfl rfl)
theorem dX3_turnOver_47 : decode cX3_turnOver 47 = .ok (.iconst 0, 1) := dk_3 (dk_at dksX3_turnOver_2 2 rfl rfl)
theorem dX3_turnOver_48 : decode cX3_turnOver 48 = .ok (.istore 8, 2) := dk_54 8 (dk_at dksX3_turnOver_2 3 rfl rfl)
theorem dX3_turnOver_50 : decode cX3_turnOver 50 = .ok (.iload 8, 2) := dk_21 8 (dk_at dksX3_turnOver_2 5 rfl rfl)
theorem dX3_turnOver_52 : decode cX3_turnOver 52 = .ok (.aload_n 0, 1) := dk_42 (dk_at dksX3_turnOver_2 7 rfl rfl)
theorem dX3_turnOver_53 : decode cX3_turnOver 53 = .ok (.getfield 257, 3) := dk_180 1 1 (dk_at dksX3_turnOver_2 8 rfl rfl)
theorem dX3_turnOver_56 : decode cX3_turnOver 56 = .ok (.if_icmp .ge 55, 3) := dk_162 0 55 (dk_at dksX3_turnOver_2 11 rfl rfl)
theorem dX3_turnOver_59 : decode cX3_turnOver 59 = .ok (.aload_n 0, 1) := dk_42 (dk_at dksX3_turnOver_2 14 rfl rfl)
theorem dX3_turnOver_60 : decode cX3_turnOver 60 = .ok (.getfield 47, 3) := dk_180 0 47 (dk_at dksX3_turnOver_2 15 rfl rfl)
theorem dX3_turnOver_63 : decode cX3_turnOver 63 = .ok (.iload 5, 2) := dk_21 5 (dk_at dksX3_turnOver_2 18 rfl rfl)
theorem dX3_turnOver_65 : decode cX3_turnOver 65 = .ok (.iload 8, 2) := dk_21 8 (dk_at dksX3_turnOver_2 20 rfl rfl)
theorem dX3_turnOver_67 : decode cX3_turnOver 67 = .ok (.invokestatic 260, 3) := dk_184 1 4 (dk_at dksX3_turnOver_3 0 rfl rfl)
theorem dX3_turnOver_70 : decode cX3_turnOver 70 = .ok (.aload_n 0, 1) := dk_42 (dk_at dksX3_turnOver_3 3 rfl rfl)
theorem dX3_turnOver_71 : decode cX3_turnOver 71 = .ok (.getfield 47, 3) := dk_180 0 47 (dk_at dksX3_turnOver_3 4 rfl rfl)
theorem dX3_turnOver_74 : decode cX3_turnOver 74 = .ok (.iload 5, 2) := dk_21 5 (dk_at dksX3_turnOver_3 7 rfl rfl)
theorem dX3_turnOver_76 : decode cX3_turnOver 76 = .ok (.iload 8, 2) := dk_21 8 (dk_at dksX3_turnOver_3 9 rfl rfl)
theorem dX3_turnOver_78 : decode cX3_turnOver 78 = .ok (.invokestatic 260, 3) := dk_184 1 4 (dk_at dksX3_turnOver_3 11 rfl rfl)
theorem dX3_turnOver_81 : decode cX3_turnOver 81 = .ok (.laload, 1) := dk_47 (dk_at dksX3_turnOver_3 14 rfl rfl)
theorem dX3_turnOver_82 : decode cX3_turnOver 82 = .ok (.lload_n 3, 1) := dk_33 (dk_at dksX3_turnOver_3 15 rfl rfl)
theorem dX3_turnOver_83 : decode cX3_turnOver 83 = .ok (.lmul, 1) := dk_105 (dk_at dksX3_turnOver_3 16 rfl rfl)
theorem dX3_turnOver_84 : decode cX3_turnOver 84 = .ok (.lload 6, 2) := dk_22 6 (dk_at dksX3_turnOver_3 17 rfl rfl)
theorem dX3_turnOver_86 : decode cX3_turnOver 86 = .ok (.aload_n 0, 1) := dk_42 (dk_at dksX3_turnOver_3 19 rfl rfl)
theorem dX3_turnOver_87 : decode cX3_turnOver 87 = .ok (.getfield 47, 3) := dk_180 0 47 (dk_at dksX3_turnOver_3 20 rfl rfl)
theorem dX3_turnOver_90 : decode cX3_turnOver 90 = .ok (.iload_n 1, 1) := dk_27 (dk_at dksX3_turnOver_3 23 rfl rfl)
theorem dX3_turnOver_91 : decode cX3_turnOver 91 = .ok (.iload 8, 2) := dk_21 8 (dk_at dksX3_turnOver_4 0 rfl rfl)
theorem dX3_turnOver_93 : decode cX3_turnOver 93 = .ok (.invokestatic 260, 3) := dk_184 1 4 (dk_at dksX3_turnOver_4 2 rfl rfl)
theorem dX3_turnOver_96 : decode cX3_turnOver 96 = .ok (.laload, 1) := dk_47 (dk_at dksX3_turnOver_4 5 rfl rfl)
theorem dX3_turnOver_97 : decode cX3_turnOver 97 = .ok (.lmul, 1) := dk_105 (dk_at dksX3_turnOver_4 6 rfl rfl)
theorem dX3_turnOver_98 : decode cX3_turnOver 98 = .ok (.lsub, 1) := dk_101 (dk_at dksX3_turnOver_4 7 rfl rfl)
theorem dX3_turnOver_99 : decode cX3_turnOver 99 = .ok (.aload_n 0, 1) := dk_42 (dk_at dksX3_turnOver_4 8 rfl rfl)
theorem dX3_turnOver_100 : decode cX3_turnOver 100 = .ok (.getfield 268, 3) := dk_180 1 12 (dk_at dksX3_turnOver_4 9 rfl rfl)
theorem dX3_turnOver_103 : decode cX3_turnOver 103 = .ok (.ldiv, 1) := dk_109 (dk_at dksX3_turnOver_4 12 rfl rfl)
theorem dX3_turnOver_104 : decode cX3_turnOver 104 = .ok (.lastore, 1) := dk_80 (dk_at dksX3_turnOver_4 13 rfl rfl)
theorem dX3_turnOver_105 : decode cX3_turnOver 105 = .ok (.iinc 8 1, 3) := dk_132 8 1 (dk_at dksX3_turnOver_4 14 rfl rfl)
theorem dX3_turnOver_108 : decode cX3_turnOver 108 = .ok (.goto (-58), 3) := dk_167 255 198 (dk_at dksX3_turnOver_4 17 rfl rfl)
theorem dX3_turnOver_111 : decode cX3_turnOver 111 = .ok (.iinc 5 1, 3) := dk_132 5 1 (dk_at dksX3_turnOver_4 20 rfl rfl)
theorem dX3_turnOver_114 : decode cX3_turnOver 114 = .ok (.goto (-100), 3) := dk_167 255 156 (dk_at dksX3_turnOver_5 0 rfl rfl)
theorem dX3_turnOver_117 : decode cX3_turnOver 117 = .ok (.aload_n 0, 1) := dk_42 (dk_at dksX3_turnOver_5 3 rfl rfl)
theorem dX3_turnOver_118 : decode cX3_turnOver 118 = .ok (.lload_n 3, 1) := dk_33 (dk_at dksX3_turnOver_5 4 rfl rfl)
theorem dX3_turnOver_119 : decode cX3_turnOver 119 = .ok (.putfield 268, 3) := dk_181 1 12 (dk_at dksX3_turnOver_5 5 rfl rfl)
theorem dX3_turnOver_122 : decode cX3_turnOver 122 = .ok (.aload_n 0, 1) := dk_42 (dk_at dksX3_turnOver_5 8 rfl rfl)
theorem dX3_turnOver_123 : decode cX3_turnOver 123 = .ok (.getfield 51, 3) := dk_180 0 51 (dk_at dksX3_turnOver_5 9 rfl rfl)
theorem dX3_turnOver_126 : decode cX3_turnOver 126 = .ok (.iload_n 1, 1) := dk_27 (dk_at dksX3_turnOver_5 12 rfl rfl)
theorem dX3_turnOver_127 : decode cX3_turnOver 127 = .ok (.iload_n 2, 1) := dk_28 (dk_at dksX3_turnOver_5 13 rfl rfl)
theorem dX3_turnOver_128 : decode cX3_turnOver 128 = .ok (.iastore, 1) := dk_79 (dk_at dksX3_turnOver_5 14 rfl rfl)
theorem dX3_turnOver_129 : decode cX3_turnOver 129 = .ok (.return_, 1) := dk_177 (dk_at dksX3_turnOver_5 15 rfl rfl)
abbrev cX3_lowest : ByteArray := prog_18_method_50_code
def yX3_lowest : MethodName := ⟨RX3, "lowest", "(JJZ)I"⟩
def dkwX3_lowest_0 : List UInt8 := [30, 32, 184, 1, 22, 55, 5, 21, 4, 153, 0, 7, 32, 167, 0, 4, 30, 22, 5, 109, 136, 172]
abbrev dktX3_lowest_0 : List UInt8 := dkwX3_lowest_0 ++ []
theorem dksX3_lowest_0 : cX3_lowest.data.toList.drop 0 = dktX3_lowest_0 := by decide +kernel
theorem dX3_lowest_0 : decode cX3_lowest 0 = .ok (.lload_n 0, 1) := dk_30 (dk_at dksX3_lowest_0 0 rfl rfl)
theorem dX3_lowest_1 : decode cX3_lowest 1 = .ok (.lload_n 2, 1) := dk_32 (dk_at dksX3_lowest_0 1 rfl rfl)
theorem dX3_lowest_2 : decode cX3_lowest 2 = .ok (.invokestatic 278, 3) := dk_184 1 22 (dk_at dksX3_lowest_0 2 rfl rfl)
theorem dX3_lowest_5 : decode cX3_lowest 5 = .ok (.lstore 5, 2) := dk_55 5 (dk_at dksX3_lowest_0 5 rfl rfl)
theorem dX3_lowest_7 : decode cX3_lowest 7 = .ok (.iload 4, 2) := dk_21 4 (dk_at dksX3_lowest_0 7 rfl rfl)
theorem dX3_lowest_9 : decode cX3_lowest 9 = .ok (.ifCond .eq 7, 3) := dk_153 0 7 (dk_at dksX3_lowest_0 9 rfl rfl)
theorem dX3_lowest_12 : decode cX3_lowest 12 = .ok (.lload_n 2, 1) := dk_32 (dk_at dksX3_lowest_0 12 rfl rfl)
theorem dX3_lowest_13 : decode cX3_lowest 13 = .ok (.goto 4, 3) := dk_167 0 4 (dk_at dksX3_lowest_0 13 rfl rfl)
theorem dX3_lowest_16 : decode cX3_lowest 16 = .ok (.lload_n 0, 1) := dk_30 (dk_at dksX3_lowest_0 16 rfl rfl)
theorem dX3_lowest_17 : decode cX3_lowest 17 = .ok (.lload 5, 2) := dk_22 5 (dk_at dksX3_lowest_0 17 rfl rfl)
theorem dX3_lowest_19 : decode cX3_lowest 19 = .ok (.ldiv, 1) := dk_109 (dk_at dksX3_lowest_0 19 rfl rfl)
theorem dX3_lowest_20 : decode cX3_lowest 20 = .ok (.l2i, 1) := dk_136 (dk_at dksX3_lowest_0 20 rfl rfl)
theorem dX3_lowest_21 : decode cX3_lowest 21 = .ok (.ireturn, 1) := dk_172 (dk_at dksX3_lowest_0 21 rfl rfl)
abbrev cX3_common : ByteArray := prog_18_method_49_code
def yX3_common : MethodName := ⟨RX3, "common", "(JJ)J"⟩
def dkwX3_common_1 : List UInt8 := [22, 8, 55, 6, 167, 255, 234, 22, 4, 173]
abbrev dktX3_common_1 : List UInt8 := dkwX3_common_1 ++ []
def dkwX3_common_0 : List UInt8 := [30, 55, 4, 32, 55, 6, 22, 6, 9, 148, 153, 0, 21, 22, 4, 22, 6, 113, 55, 8, 22, 6, 55, 4]
abbrev dktX3_common_0 : List UInt8 := dkwX3_common_0 ++ dktX3_common_1
theorem dksX3_common_0 : cX3_common.data.toList.drop 0 = dktX3_common_0 := by decide +kernel
theorem dksX3_common_1 : cX3_common.data.toList.drop 24 = dktX3_common_1 := dk_seg dksX3_common_0 24 rfl rfl
theorem dX3_common_0 : decode cX3_common 0 = .ok (.lload_n 0, 1) := dk_30 (dk_at dksX3_common_0 0 rfl rfl)
theorem dX3_common_1 : decode cX3_common 1 = .ok (.lstore 4, 2) := dk_55 4 (dk_at dksX3_common_0 1 rfl rfl)
theorem dX3_common_3 : decode cX3_common 3 = .ok (.lload_n 2, 1) := dk_32 (dk_at dksX3_common_0 3 rfl rfl)
theorem dX3_common_4 : decode cX3_common 4 = .ok (.lstore 6, 2) := dk_55 6 (dk_at dksX3_common_0 4 rfl rfl)
theorem dX3_common_6 : decode cX3_common 6 = .ok (.lload 6, 2) := dk_22 6 (dk_at dksX3_common_0 6 rfl rfl)
theorem dX3_common_8 : decode cX3_common 8 = .ok (.lconst 0, 1) := dk_9 (dk_at dksX3_common_0 8 rfl rfl)
theorem dX3_common_9 : decode cX3_common 9 = .ok (.lcmp, 1) := dk_148 (dk_at dksX3_common_0 9 rfl rfl)
theorem dX3_common_10 : decode cX3_common 10 = .ok (.ifCond .eq 21, 3) := dk_153 0 21 (dk_at dksX3_common_0 10 rfl rfl)
theorem dX3_common_13 : decode cX3_common 13 = .ok (.lload 4, 2) := dk_22 4 (dk_at dksX3_common_0 13 rfl rfl)
theorem dX3_common_15 : decode cX3_common 15 = .ok (.lload 6, 2) := dk_22 6 (dk_at dksX3_common_0 15 rfl rfl)
theorem dX3_common_17 : decode cX3_common 17 = .ok (.lrem, 1) := dk_113 (dk_at dksX3_common_0 17 rfl rfl)
theorem dX3_common_18 : decode cX3_common 18 = .ok (.lstore 8, 2) := dk_55 8 (dk_at dksX3_common_0 18 rfl rfl)
theorem dX3_common_20 : decode cX3_common 20 = .ok (.lload 6, 2) := dk_22 6 (dk_at dksX3_common_0 20 rfl rfl)
theorem dX3_common_22 : decode cX3_common 22 = .ok (.lstore 4, 2) := dk_55 4 (dk_at dksX3_common_0 22 rfl rfl)
theorem dX3_common_24 : decode cX3_common 24 = .ok (.lload 8, 2) := dk_22 8 (dk_at dksX3_common_1 0 rfl rfl)
theorem dX3_common_26 : decode cX3_common 26 = .ok (.lstore 6, 2) := dk_55 6 (dk_at dksX3_common_1 2 rfl rfl)
theorem dX3_common_28 : decode cX3_common 28 = .ok (.goto (-22), 3) := dk_167 255 234 (dk_at dksX3_common_1 4 rfl rfl)
theorem dX3_common_31 : decode cX3_common 31 = .ok (.lload 4, 2) := dk_22 4 (dk_at dksX3_common_1 7 rfl rfl)
theorem dX3_common_33 : decode cX3_common 33 = .ok (.lreturn, 1) := dk_173 (dk_at dksX3_common_1 9 rfl rfl)
abbrev cX3_together : ByteArray := prog_18_method_54_code
def yX3_together : MethodName := ⟨RX3, "togethe\x72", "(IIIIZZ)I"⟩
def dkwX3_together_15 : List UInt8 := [46, 133, 105, 21, 6, 184, 1, 36, 172]
abbrev dktX3_together_15 : List UInt8 := dkwX3_together_15 ++ []
def dkwX3_together_14 : List UInt8 := [180, 1, 1, 4, 100, 184, 1, 4, 47, 105, 55, 9, 22, 9, 42, 180, 1, 12, 42, 180, 0, 20, 16, 49]
abbrev dktX3_together_14 : List UInt8 := dkwX3_together_14 ++ dktX3_together_15
def dkwX3_together_13 : List UInt8 := [42, 180, 0, 254, 4, 96, 182, 1, 29, 22, 7, 117, 42, 180, 0, 47, 42, 180, 0, 254, 4, 96, 42]
abbrev dktX3_together_13 : List UInt8 := dkwX3_together_13 ++ dktX3_together_14
def dkwX3_together_12 : List UInt8 := [21, 9, 21, 12, 184, 1, 4, 47, 105, 101, 80, 132, 12, 1, 167, 255, 205, 132, 9, 1, 167, 255, 141, 42]
abbrev dktX3_together_12 : List UInt8 := dkwX3_together_12 ++ dktX3_together_13
def dkwX3_together_11 : List UInt8 := [42, 180, 0, 47, 42, 180, 0, 254, 4, 96, 21, 12, 184, 1, 4, 92, 47, 22, 7, 42, 180, 0, 47]
abbrev dktX3_together_11 : List UInt8 := dkwX3_together_11 ++ dktX3_together_12
def dkwX3_together_10 : List UInt8 := [4, 167, 0, 4, 3, 54, 11, 3, 54, 12, 21, 12, 42, 180, 1, 1, 162, 0, 48, 21, 11, 153, 0, 43]
abbrev dktX3_together_10 : List UInt8 := dkwX3_together_10 ++ dktX3_together_11
def dkwX3_together_9 : List UInt8 := [162, 0, 28, 21, 10, 27, 122, 4, 126, 28, 160, 0, 18, 21, 10, 29, 122, 4, 126, 21, 4, 160, 0, 7]
abbrev dktX3_together_9 : List UInt8 := dkwX3_together_9 ++ dktX3_together_10
def dkwX3_together_8 : List UInt8 := [21, 9, 42, 180, 0, 254, 162, 0, 112, 42, 180, 0, 51, 21, 9, 46, 54, 10, 21, 10, 42, 182, 0, 251]
abbrev dktX3_together_8 : List UInt8 := dkwX3_together_8 ++ dktX3_together_9
def dkwX3_together_7 : List UInt8 := [153, 0, 13, 22, 7, 42, 180, 1, 12, 105, 167, 0, 4, 9, 80, 132, 9, 1, 167, 255, 175, 3, 54, 9]
abbrev dktX3_together_7 : List UInt8 := dkwX3_together_7 ++ dktX3_together_8
def dkwX3_together_6 : List UInt8 := [4, 167, 0, 4, 3, 54, 10, 42, 180, 0, 47, 42, 180, 0, 254, 4, 96, 21, 9, 184, 1, 4, 21, 10]
abbrev dktX3_together_6 : List UInt8 := dkwX3_together_6 ++ dktX3_together_7
def dkwX3_together_5 : List UInt8 := [162, 0, 28, 21, 9, 27, 122, 4, 126, 28, 160, 0, 18, 21, 9, 29, 122, 4, 126, 21, 4, 160, 0, 7]
abbrev dktX3_together_5 : List UInt8 := dkwX3_together_5 ++ dktX3_together_6
def dkwX3_together_4 : List UInt8 := [167, 0, 4, 10, 55, 7, 3, 54, 9, 21, 9, 42, 180, 1, 1, 162, 0, 78, 21, 9, 42, 182, 0, 251]
abbrev dktX3_together_4 : List UInt8 := dkwX3_together_4 ++ dktX3_together_5
def dkwX3_together_3 : List UInt8 := [21, 6, 154, 0, 8, 21, 5, 153, 0, 7, 4, 167, 0, 4, 3, 172, 21, 5, 153, 0, 9, 20, 1, 10]
abbrev dktX3_together_3 : List UInt8 := dkwX3_together_3 ++ dktX3_together_4
def dkwX3_together_2 : List UInt8 := [42, 182, 1, 33, 154, 0, 10, 42, 16, 6, 182, 0, 177, 172, 42, 180, 0, 20, 3, 46, 154, 0, 19]
abbrev dktX3_together_2 : List UInt8 := dkwX3_together_2 ++ dktX3_together_3
def dkwX3_together_1 : List UInt8 := [159, 0, 18, 28, 184, 1, 43, 153, 0, 11, 21, 4, 184, 1, 43, 154, 0, 9, 42, 4, 182, 0, 177, 172]
abbrev dktX3_together_1 : List UInt8 := dkwX3_together_1 ++ dktX3_together_2
def dkwX3_together_0 : List UInt8 := [42, 182, 0, 174, 42, 27, 182, 1, 40, 153, 0, 31, 42, 29, 182, 1, 40, 153, 0, 23, 27, 29]
abbrev dktX3_together_0 : List UInt8 := dkwX3_together_0 ++ dktX3_together_1
theorem dksX3_together_0 : cX3_together.data.toList.drop 0 = dktX3_together_0 := by decide +kernel
theorem dksX3_together_1 : cX3_together.data.toList.drop 22 = dktX3_together_1 := dk_seg dksX3_together_0 22 rfl rfl
theorem dksX3_together_2 : cX3_together.data.toList.drop 46 = dktX3_together_2 := dk_seg dksX3_together_1 24 rfl rfl
theorem dksX3_together_3 : cX3_together.data.toList.drop 69 = dktX3_together_3 := dk_seg dksX3_together_2 23 rfl rfl
theorem dksX3_together_4 : cX3_together.data.toList.drop 93 = dktX3_together_4 := dk_seg dksX3_together_3 24 rfl rfl
theorem dksX3_together_5 : cX3_together.data.toList.drop 117 = dktX3_together_5 := dk_seg dksX3_together_4 24 rfl rfl
theorem dksX3_together_6 : cX3_together.data.toList.drop 141 = dktX3_together_6 := dk_seg dksX3_together_5 24 rfl rfl
theorem dksX3_together_7 : cX3_together.data.toList.drop 165 = dktX3_together_7 := dk_seg dksX3_together_6 24 rfl rfl
theorem dksX3_together_8 : cX3_together.data.toList.drop 189 = dktX3_together_8 := dk_seg dksX3_together_7 24 rfl rfl
theorem dksX3_together_9 : cX3_together.data.toList.drop 213 = dktX3_together_9 := dk_seg dksX3_together_8 24 rfl rfl
theorem dksX3_together_10 : cX3_together.data.toList.drop 237 = dktX3_together_10 := dk_seg dksX3_together_9 24 rfl rfl
theorem dksX3_together_11 : cX3_together.data.toList.drop 261 = dktX3_together_11 := dk_seg dksX3_together_10 24 rfl rfl
theorem dksX3_together_12 : cX3_together.data.toList.drop 284 = dktX3_together_12 := dk_seg dksX3_together_11 23 rfl rfl
theorem dksX3_together_13 : cX3_together.data.toList.drop 308 = dktX3_together_13 := dk_seg dksX3_together_12 24 rfl rfl
theorem dksX3_together_14 : cX3_together.data.toList.drop 331 = dktX3_together_14 := dk_seg dksX3_together_13 23 rfl rfl
theorem dksX3_together_15 : cX3_together.data.toList.drop 355 = dktX3_together_15 := dk_seg dksX3_together_14 24 rfl rfl
theorem dX3_together_0 : decode cX3_together 0 = .ok (.aload_n 0, 1) := dk_42 (dk_at dksX3_together_0 0 rfl rfl)
theorem dX3_together_1 : decode cX3_together 1 = .ok (.invokevirtual 174, 3) := dk_182 0 174 (dk_at dksX3_together_0 1 rfl rfl)
theorem dX3_together_4 : decode cX3_together 4 = .ok (.aload_n 0, 1) := dk_42 (dk_at dksX3_together_0 4 rfl rfl)
theorem dX3_together_5 : decode cX3_together 5 = .ok (.iload_n 1, 1) := dk_27 (dk_at dksX3_together_0 5 rfl rfl)
theorem dX3_together_6 : decode cX3_together 6 = .ok (.invokevirtual 296, 3) := dk_182 1 40 (dk_at dksX3_together_0 6 rfl rfl)
theorem dX3_together_9 : decode cX3_together 9 = .ok (.ifCond .eq 31, 3) := dk_153 0 31 (dk_at dksX3_together_0 9 rfl rfl)
theorem dX3_together_12 : decode cX3_together 12 = .ok (.aload_n 0, 1) := dk_42 (dk_at dksX3_together_0 12 rfl rfl)
theorem dX3_together_13 : decode cX3_together 13 = .ok (.iload_n 3, 1) := dk_29 (dk_at dksX3_together_0 13 rfl rfl)
theorem dX3_together_14 : decode cX3_together 14 = .ok (.invokevirtual 296, 3) := dk_182 1 40 (dk_at dksX3_together_0 14 rfl rfl)
theorem dX3_together_17 : decode cX3_together 17 = .ok (.ifCond .eq 23, 3) := dk_153 0 23 (dk_at dksX3_together_0 17 rfl rfl)
theorem dX3_together_20 : decode cX3_together 20 = .ok (.iload_n 1, 1) := dk_27 (dk_at dksX3_together_0 20 rfl rfl)
theorem dX3_together_21 : decode cX3_together 21 = .ok (.iload_n 3, 1) := dk_29 (dk_at dksX3_together_0 21 rfl rfl)
theorem dX3_together_22 : decode cX3_together 22 = .ok (.if_icmp .eq 18, 3) := dk_159 0 18 (dk_at dksX3_together_1 0 rfl rfl)
theorem dX3_together_25 : decode cX3_together 25 = .ok (.iload_n 2, 1) := dk_28 (dk_at dksX3_together_1 3 rfl rfl)
theorem dX3_together_26 : decode cX3_together 26 = .ok (.invokestatic 299, 3) := dk_184 1 43 (dk_at dksX3_together_1 4 rfl rfl)
theorem dX3_together_29 : decode cX3_together 29 = .ok (.ifCond .eq 11, 3) := dk_153 0 11 (dk_at dksX3_together_1 7 rfl rfl)
theorem dX3_together_32 : decode cX3_together 32 = .ok (.iload 4, 2) := dk_21 4 (dk_at dksX3_together_1 10 rfl rfl)
theorem dX3_together_34 : decode cX3_together 34 = .ok (.invokestatic 299, 3) := dk_184 1 43 (dk_at dksX3_together_1 12 rfl rfl)
theorem dX3_together_37 : decode cX3_together 37 = .ok (.ifCond .ne 9, 3) := dk_154 0 9 (dk_at dksX3_together_1 15 rfl rfl)
theorem dX3_together_40 : decode cX3_together 40 = .ok (.aload_n 0, 1) := dk_42 (dk_at dksX3_together_1 18 rfl rfl)
theorem dX3_together_41 : decode cX3_together 41 = .ok (.iconst 1, 1) := dk_4 (dk_at dksX3_together_1 19 rfl rfl)
theorem dX3_together_42 : decode cX3_together 42 = .ok (.invokevirtual 177, 3) := dk_182 0 177 (dk_at dksX3_together_1 20 rfl rfl)
theorem dX3_together_45 : decode cX3_together 45 = .ok (.ireturn, 1) := dk_172 (dk_at dksX3_together_1 23 rfl rfl)
theorem dX3_together_46 : decode cX3_together 46 = .ok (.aload_n 0, 1) := dk_42 (dk_at dksX3_together_2 0 rfl rfl)
theorem dX3_together_47 : decode cX3_together 47 = .ok (.invokevirtual 289, 3) := dk_182 1 33 (dk_at dksX3_together_2 1 rfl rfl)
theorem dX3_together_50 : decode cX3_together 50 = .ok (.ifCond .ne 10, 3) := dk_154 0 10 (dk_at dksX3_together_2 4 rfl rfl)
theorem dX3_together_53 : decode cX3_together 53 = .ok (.aload_n 0, 1) := dk_42 (dk_at dksX3_together_2 7 rfl rfl)
theorem dX3_together_54 : decode cX3_together 54 = .ok (.bipush 6, 2) := dk_16 6 (dk_at dksX3_together_2 8 rfl rfl)
theorem dX3_together_56 : decode cX3_together 56 = .ok (.invokevirtual 177, 3) := dk_182 0 177 (dk_at dksX3_together_2 10 rfl rfl)
theorem dX3_together_59 : decode cX3_together 59 = .ok (.ireturn, 1) := dk_172 (dk_at dksX3_together_2 13 rfl rfl)
theorem dX3_together_60 : decode cX3_together 60 = .ok (.aload_n 0, 1) := dk_42 (dk_at dksX3_together_2 14 rfl rfl)
theorem dX3_together_61 : decode cX3_together 61 = .ok (.getfield 20, 3) := dk_180 0 20 (dk_at dksX3_together_2 15 rfl rfl)
theorem dX3_together_64 : decode cX3_together 64 = .ok (.iconst 0, 1) := dk_3 (dk_at dksX3_together_2 18 rfl rfl)
theorem dX3_together_65 : decode cX3_together 65 = .ok (.iaload, 1) := dk_46 (dk_at dksX3_together_2 19 rfl rfl)
theorem dX3_together_66 : decode cX3_together 66 = .ok (.ifCond .ne 19, 3) := dk_154 0 19 (dk_at dksX3_together_2 20 rfl rfl)
theorem dX3_together_69 : decode cX3_together 69 = .ok (.iload 6, 2) := dk_21 6 (dk_at dksX3_together_3 0 rfl rfl)
theorem dX3_together_71 : decode cX3_together 71 = .ok (.ifCond .ne 8, 3) := dk_154 0 8 (dk_at dksX3_together_3 2 rfl rfl)
theorem dX3_together_74 : decode cX3_together 74 = .ok (.iload 5, 2) := dk_21 5 (dk_at dksX3_together_3 5 rfl rfl)
theorem dX3_together_76 : decode cX3_together 76 = .ok (.ifCond .eq 7, 3) := dk_153 0 7 (dk_at dksX3_together_3 7 rfl rfl)
theorem dX3_together_79 : decode cX3_together 79 = .ok (.iconst 1, 1) := dk_4 (dk_at dksX3_together_3 10 rfl rfl)
theorem dX3_together_80 : decode cX3_together 80 = .ok (.goto 4, 3) := dk_167 0 4 (dk_at dksX3_together_3 11 rfl rfl)
theorem dX3_together_83 : decode cX3_together 83 = .ok (.iconst 0, 1) := dk_3 (dk_at dksX3_together_3 14 rfl rfl)
theorem dX3_together_84 : decode cX3_together 84 = .ok (.ireturn, 1) := dk_172 (dk_at dksX3_together_3 15 rfl rfl)
theorem dX3_together_85 : decode cX3_together 85 = .ok (.iload 5, 2) := dk_21 5 (dk_at dksX3_together_3 16 rfl rfl)
theorem dX3_together_87 : decode cX3_together 87 = .ok (.ifCond .eq 9, 3) := dk_153 0 9 (dk_at dksX3_together_3 18 rfl rfl)
theorem dX3_together_90 : decode cX3_together 90 = .ok (.ldc2_w 266, 3) := dk_20 1 10 (dk_at dksX3_together_3 21 rfl rfl)
theorem dX3_together_93 : decode cX3_together 93 = .ok (.goto 4, 3) := dk_167 0 4 (dk_at dksX3_together_4 0 rfl rfl)
theorem dX3_together_96 : decode cX3_together 96 = .ok (.lconst 1, 1) := dk_10 (dk_at dksX3_together_4 3 rfl rfl)
theorem dX3_together_97 : decode cX3_together 97 = .ok (.lstore 7, 2) := dk_55 7 (dk_at dksX3_together_4 4 rfl rfl)
theorem dX3_together_99 : decode cX3_together 99 = .ok (.iconst 0, 1) := dk_3 (dk_at dksX3_together_4 6 rfl rfl)
theorem dX3_together_100 : decode cX3_together 100 = .ok (.istore 9, 2) := dk_54 9 (dk_at dksX3_together_4 7 rfl rfl)
theorem dX3_together_102 : decode cX3_together 102 = .ok (.iload 9, 2) := dk_21 9 (dk_at dksX3_together_4 9 rfl rfl)
theorem dX3_together_104 : decode cX3_together 104 = .ok (.aload_n 0, 1) := dk_42 (dk_at dksX3_together_4 11 rfl rfl)
theorem dX3_together_105 : decode cX3_together 105 = .ok (.getfield 257, 3) := dk_180 1 1 (dk_at dksX3_together_4 12 rfl rfl)
theorem dX3_together_108 : decode cX3_together 108 = .ok (.if_icmp .ge 78, 3) := dk_162 0 78 (dk_at dksX3_together_4 15 rfl rfl)
theorem dX3_together_111 : decode cX3_together 111 = .ok (.iload 9, 2) := dk_21 9 (dk_at dksX3_together_4 18 rfl rfl)
theorem dX3_together_113 : decode cX3_together 113 = .ok (.aload_n 0, 1) := dk_42 (dk_at dksX3_together_4 20 rfl rfl)
theorem dX3_together_114 : decode cX3_together 114 = .ok (.invokevirtual 251, 3) := dk_182 0 251 (dk_at dksX3_together_4 21 rfl rfl)
theorem dX3_together_117 : decode cX3_together 117 = .ok (.if_icmp .ge 28, 3) := dk_162 0 28 (dk_at dksX3_together_5 0 rfl rfl)
theorem dX3_together_120 : decode cX3_together 120 = .ok (.iload 9, 2) := dk_21 9 (dk_at dksX3_together_5 3 rfl rfl)
theorem dX3_together_122 : decode cX3_together 122 = .ok (.iload_n 1, 1) := dk_27 (dk_at dksX3_together_5 5 rfl rfl)
theorem dX3_together_123 : decode cX3_together 123 = .ok (.ishr, 1) := dk_122 (dk_at dksX3_together_5 6 rfl rfl)
theorem dX3_together_124 : decode cX3_together 124 = .ok (.iconst 1, 1) := dk_4 (dk_at dksX3_together_5 7 rfl rfl)
theorem dX3_together_125 : decode cX3_together 125 = .ok (.iand, 1) := dk_126 (dk_at dksX3_together_5 8 rfl rfl)
theorem dX3_together_126 : decode cX3_together 126 = .ok (.iload_n 2, 1) := dk_28 (dk_at dksX3_together_5 9 rfl rfl)
theorem dX3_together_127 : decode cX3_together 127 = .ok (.if_icmp .ne 18, 3) := dk_160 0 18 (dk_at dksX3_together_5 10 rfl rfl)
theorem dX3_together_130 : decode cX3_together 130 = .ok (.iload 9, 2) := dk_21 9 (dk_at dksX3_together_5 13 rfl rfl)
theorem dX3_together_132 : decode cX3_together 132 = .ok (.iload_n 3, 1) := dk_29 (dk_at dksX3_together_5 15 rfl rfl)
theorem dX3_together_133 : decode cX3_together 133 = .ok (.ishr, 1) := dk_122 (dk_at dksX3_together_5 16 rfl rfl)
theorem dX3_together_134 : decode cX3_together 134 = .ok (.iconst 1, 1) := dk_4 (dk_at dksX3_together_5 17 rfl rfl)
theorem dX3_together_135 : decode cX3_together 135 = .ok (.iand, 1) := dk_126 (dk_at dksX3_together_5 18 rfl rfl)
theorem dX3_together_136 : decode cX3_together 136 = .ok (.iload 4, 2) := dk_21 4 (dk_at dksX3_together_5 19 rfl rfl)
theorem dX3_together_138 : decode cX3_together 138 = .ok (.if_icmp .ne 7, 3) := dk_160 0 7 (dk_at dksX3_together_5 21 rfl rfl)
theorem dX3_together_141 : decode cX3_together 141 = .ok (.iconst 1, 1) := dk_4 (dk_at dksX3_together_6 0 rfl rfl)
theorem dX3_together_142 : decode cX3_together 142 = .ok (.goto 4, 3) := dk_167 0 4 (dk_at dksX3_together_6 1 rfl rfl)
theorem dX3_together_145 : decode cX3_together 145 = .ok (.iconst 0, 1) := dk_3 (dk_at dksX3_together_6 4 rfl rfl)
theorem dX3_together_146 : decode cX3_together 146 = .ok (.istore 10, 2) := dk_54 10 (dk_at dksX3_together_6 5 rfl rfl)
theorem dX3_together_148 : decode cX3_together 148 = .ok (.aload_n 0, 1) := dk_42 (dk_at dksX3_together_6 7 rfl rfl)
theorem dX3_together_149 : decode cX3_together 149 = .ok (.getfield 47, 3) := dk_180 0 47 (dk_at dksX3_together_6 8 rfl rfl)
theorem dX3_together_152 : decode cX3_together 152 = .ok (.aload_n 0, 1) := dk_42 (dk_at dksX3_together_6 11 rfl rfl)
theorem dX3_together_153 : decode cX3_together 153 = .ok (.getfield 254, 3) := dk_180 0 254 (dk_at dksX3_together_6 12 rfl rfl)
theorem dX3_together_156 : decode cX3_together 156 = .ok (.iconst 1, 1) := dk_4 (dk_at dksX3_together_6 15 rfl rfl)
theorem dX3_together_157 : decode cX3_together 157 = .ok (.iadd, 1) := dk_96 (dk_at dksX3_together_6 16 rfl rfl)
theorem dX3_together_158 : decode cX3_together 158 = .ok (.iload 9, 2) := dk_21 9 (dk_at dksX3_together_6 17 rfl rfl)
theorem dX3_together_160 : decode cX3_together 160 = .ok (.invokestatic 260, 3) := dk_184 1 4 (dk_at dksX3_together_6 19 rfl rfl)
theorem dX3_together_163 : decode cX3_together 163 = .ok (.iload 10, 2) := dk_21 10 (dk_at dksX3_together_6 22 rfl rfl)
theorem dX3_together_165 : decode cX3_together 165 = .ok (.ifCond .eq 13, 3) := dk_153 0 13 (dk_at dksX3_together_7 0 rfl rfl)
theorem dX3_together_168 : decode cX3_together 168 = .ok (.lload 7, 2) := dk_22 7 (dk_at dksX3_together_7 3 rfl rfl)
theorem dX3_together_170 : decode cX3_together 170 = .ok (.aload_n 0, 1) := dk_42 (dk_at dksX3_together_7 5 rfl rfl)
theorem dX3_together_171 : decode cX3_together 171 = .ok (.getfield 268, 3) := dk_180 1 12 (dk_at dksX3_together_7 6 rfl rfl)
theorem dX3_together_174 : decode cX3_together 174 = .ok (.lmul, 1) := dk_105 (dk_at dksX3_together_7 9 rfl rfl)
theorem dX3_together_175 : decode cX3_together 175 = .ok (.goto 4, 3) := dk_167 0 4 (dk_at dksX3_together_7 10 rfl rfl)
theorem dX3_together_178 : decode cX3_together 178 = .ok (.lconst 0, 1) := dk_9 (dk_at dksX3_together_7 13 rfl rfl)
theorem dX3_together_179 : decode cX3_together 179 = .ok (.lastore, 1) := dk_80 (dk_at dksX3_together_7 14 rfl rfl)
theorem dX3_together_180 : decode cX3_together 180 = .ok (.iinc 9 1, 3) := dk_132 9 1 (dk_at dksX3_together_7 15 rfl rfl)
theorem dX3_together_183 : decode cX3_together 183 = .ok (.goto (-81), 3) := dk_167 255 175 (dk_at dksX3_together_7 18 rfl rfl)
theorem dX3_together_186 : decode cX3_together 186 = .ok (.iconst 0, 1) := dk_3 (dk_at dksX3_together_7 21 rfl rfl)
theorem dX3_together_187 : decode cX3_together 187 = .ok (.istore 9, 2) := dk_54 9 (dk_at dksX3_together_7 22 rfl rfl)
theorem dX3_together_189 : decode cX3_together 189 = .ok (.iload 9, 2) := dk_21 9 (dk_at dksX3_together_8 0 rfl rfl)
theorem dX3_together_191 : decode cX3_together 191 = .ok (.aload_n 0, 1) := dk_42 (dk_at dksX3_together_8 2 rfl rfl)
theorem dX3_together_192 : decode cX3_together 192 = .ok (.getfield 254, 3) := dk_180 0 254 (dk_at dksX3_together_8 3 rfl rfl)
theorem dX3_together_195 : decode cX3_together 195 = .ok (.if_icmp .ge 112, 3) := dk_162 0 112 (dk_at dksX3_together_8 6 rfl rfl)
theorem dX3_together_198 : decode cX3_together 198 = .ok (.aload_n 0, 1) := dk_42 (dk_at dksX3_together_8 9 rfl rfl)
theorem dX3_together_199 : decode cX3_together 199 = .ok (.getfield 51, 3) := dk_180 0 51 (dk_at dksX3_together_8 10 rfl rfl)
theorem dX3_together_202 : decode cX3_together 202 = .ok (.iload 9, 2) := dk_21 9 (dk_at dksX3_together_8 13 rfl rfl)
theorem dX3_together_204 : decode cX3_together 204 = .ok (.iaload, 1) := dk_46 (dk_at dksX3_together_8 15 rfl rfl)
theorem dX3_together_205 : decode cX3_together 205 = .ok (.istore 10, 2) := dk_54 10 (dk_at dksX3_together_8 16 rfl rfl)
theorem dX3_together_207 : decode cX3_together 207 = .ok (.iload 10, 2) := dk_21 10 (dk_at dksX3_together_8 18 rfl rfl)
theorem dX3_together_209 : decode cX3_together 209 = .ok (.aload_n 0, 1) := dk_42 (dk_at dksX3_together_8 20 rfl rfl)
theorem dX3_together_210 : decode cX3_together 210 = .ok (.invokevirtual 251, 3) := dk_182 0 251 (dk_at dksX3_together_8 21 rfl rfl)
theorem dX3_together_213 : decode cX3_together 213 = .ok (.if_icmp .ge 28, 3) := dk_162 0 28 (dk_at dksX3_together_9 0 rfl rfl)
theorem dX3_together_216 : decode cX3_together 216 = .ok (.iload 10, 2) := dk_21 10 (dk_at dksX3_together_9 3 rfl rfl)
theorem dX3_together_218 : decode cX3_together 218 = .ok (.iload_n 1, 1) := dk_27 (dk_at dksX3_together_9 5 rfl rfl)
theorem dX3_together_219 : decode cX3_together 219 = .ok (.ishr, 1) := dk_122 (dk_at dksX3_together_9 6 rfl rfl)
theorem dX3_together_220 : decode cX3_together 220 = .ok (.iconst 1, 1) := dk_4 (dk_at dksX3_together_9 7 rfl rfl)
theorem dX3_together_221 : decode cX3_together 221 = .ok (.iand, 1) := dk_126 (dk_at dksX3_together_9 8 rfl rfl)
theorem dX3_together_222 : decode cX3_together 222 = .ok (.iload_n 2, 1) := dk_28 (dk_at dksX3_together_9 9 rfl rfl)
theorem dX3_together_223 : decode cX3_together 223 = .ok (.if_icmp .ne 18, 3) := dk_160 0 18 (dk_at dksX3_together_9 10 rfl rfl)
theorem dX3_together_226 : decode cX3_together 226 = .ok (.iload 10, 2) := dk_21 10 (dk_at dksX3_together_9 13 rfl rfl)
theorem dX3_together_228 : decode cX3_together 228 = .ok (.iload_n 3, 1) := dk_29 (dk_at dksX3_together_9 15 rfl rfl)
theorem dX3_together_229 : decode cX3_together 229 = .ok (.ishr, 1) := dk_122 (dk_at dksX3_together_9 16 rfl rfl)
theorem dX3_together_230 : decode cX3_together 230 = .ok (.iconst 1, 1) := dk_4 (dk_at dksX3_together_9 17 rfl rfl)
theorem dX3_together_231 : decode cX3_together 231 = .ok (.iand, 1) := dk_126 (dk_at dksX3_together_9 18 rfl rfl)
theorem dX3_together_232 : decode cX3_together 232 = .ok (.iload 4, 2) := dk_21 4 (dk_at dksX3_together_9 19 rfl rfl)
theorem dX3_together_234 : decode cX3_together 234 = .ok (.if_icmp .ne 7, 3) := dk_160 0 7 (dk_at dksX3_together_9 21 rfl rfl)
theorem dX3_together_237 : decode cX3_together 237 = .ok (.iconst 1, 1) := dk_4 (dk_at dksX3_together_10 0 rfl rfl)
theorem dX3_together_238 : decode cX3_together 238 = .ok (.goto 4, 3) := dk_167 0 4 (dk_at dksX3_together_10 1 rfl rfl)
theorem dX3_together_241 : decode cX3_together 241 = .ok (.iconst 0, 1) := dk_3 (dk_at dksX3_together_10 4 rfl rfl)
theorem dX3_together_242 : decode cX3_together 242 = .ok (.istore 11, 2) := dk_54 11 (dk_at dksX3_together_10 5 rfl rfl)
theorem dX3_together_244 : decode cX3_together 244 = .ok (.iconst 0, 1) := dk_3 (dk_at dksX3_together_10 7 rfl rfl)
theorem dX3_together_245 : decode cX3_together 245 = .ok (.istore 12, 2) := dk_54 12 (dk_at dksX3_together_10 8 rfl rfl)
theorem dX3_together_247 : decode cX3_together 247 = .ok (.iload 12, 2) := dk_21 12 (dk_at dksX3_together_10 10 rfl rfl)
theorem dX3_together_249 : decode cX3_together 249 = .ok (.aload_n 0, 1) := dk_42 (dk_at dksX3_together_10 12 rfl rfl)
theorem dX3_together_250 : decode cX3_together 250 = .ok (.getfield 257, 3) := dk_180 1 1 (dk_at dksX3_together_10 13 rfl rfl)
theorem dX3_together_253 : decode cX3_together 253 = .ok (.if_icmp .ge 48, 3) := dk_162 0 48 (dk_at dksX3_together_10 16 rfl rfl)
theorem dX3_together_256 : decode cX3_together 256 = .ok (.iload 11, 2) := dk_21 11 (dk_at dksX3_together_10 19 rfl rfl)
theorem dX3_together_258 : decode cX3_together 258 = .ok (.ifCond .eq 43, 3) := dk_153 0 43 (dk_at dksX3_together_10 21 rfl rfl)
theorem dX3_together_261 : decode cX3_together 261 = .ok (.aload_n 0, 1) := dk_42 (dk_at dksX3_together_11 0 rfl rfl)
theorem dX3_together_262 : decode cX3_together 262 = .ok (.getfield 47, 3) := dk_180 0 47 (dk_at dksX3_together_11 1 rfl rfl)
theorem dX3_together_265 : decode cX3_together 265 = .ok (.aload_n 0, 1) := dk_42 (dk_at dksX3_together_11 4 rfl rfl)
theorem dX3_together_266 : decode cX3_together 266 = .ok (.getfield 254, 3) := dk_180 0 254 (dk_at dksX3_together_11 5 rfl rfl)
theorem dX3_together_269 : decode cX3_together 269 = .ok (.iconst 1, 1) := dk_4 (dk_at dksX3_together_11 8 rfl rfl)
theorem dX3_together_270 : decode cX3_together 270 = .ok (.iadd, 1) := dk_96 (dk_at dksX3_together_11 9 rfl rfl)
theorem dX3_together_271 : decode cX3_together 271 = .ok (.iload 12, 2) := dk_21 12 (dk_at dksX3_together_11 10 rfl rfl)
theorem dX3_together_273 : decode cX3_together 273 = .ok (.invokestatic 260, 3) := dk_184 1 4 (dk_at dksX3_together_11 12 rfl rfl)
theorem dX3_together_276 : decode cX3_together 276 = .ok (.dup2, 1) := dk_92 (dk_at dksX3_together_11 15 rfl rfl)
theorem dX3_together_277 : decode cX3_together 277 = .ok (.laload, 1) := dk_47 (dk_at dksX3_together_11 16 rfl rfl)
theorem dX3_together_278 : decode cX3_together 278 = .ok (.lload 7, 2) := dk_22 7 (dk_at dksX3_together_11 17 rfl rfl)
theorem dX3_together_280 : decode cX3_together 280 = .ok (.aload_n 0, 1) := dk_42 (dk_at dksX3_together_11 19 rfl rfl)
theorem dX3_together_281 : decode cX3_together 281 = .ok (.getfield 47, 3) := dk_180 0 47 (dk_at dksX3_together_11 20 rfl rfl)
theorem dX3_together_284 : decode cX3_together 284 = .ok (.iload 9, 2) := dk_21 9 (dk_at dksX3_together_12 0 rfl rfl)
theorem dX3_together_286 : decode cX3_together 286 = .ok (.iload 12, 2) := dk_21 12 (dk_at dksX3_together_12 2 rfl rfl)
theorem dX3_together_288 : decode cX3_together 288 = .ok (.invokestatic 260, 3) := dk_184 1 4 (dk_at dksX3_together_12 4 rfl rfl)
theorem dX3_together_291 : decode cX3_together 291 = .ok (.laload, 1) := dk_47 (dk_at dksX3_together_12 7 rfl rfl)
theorem dX3_together_292 : decode cX3_together 292 = .ok (.lmul, 1) := dk_105 (dk_at dksX3_together_12 8 rfl rfl)
theorem dX3_together_293 : decode cX3_together 293 = .ok (.lsub, 1) := dk_101 (dk_at dksX3_together_12 9 rfl rfl)
theorem dX3_together_294 : decode cX3_together 294 = .ok (.lastore, 1) := dk_80 (dk_at dksX3_together_12 10 rfl rfl)
theorem dX3_together_295 : decode cX3_together 295 = .ok (.iinc 12 1, 3) := dk_132 12 1 (dk_at dksX3_together_12 11 rfl rfl)
theorem dX3_together_298 : decode cX3_together 298 = .ok (.goto (-51), 3) := dk_167 255 205 (dk_at dksX3_together_12 14 rfl rfl)
theorem dX3_together_301 : decode cX3_together 301 = .ok (.iinc 9 1, 3) := dk_132 9 1 (dk_at dksX3_together_12 17 rfl rfl)
theorem dX3_together_304 : decode cX3_together 304 = .ok (.goto (-115), 3) := dk_167 255 141 (dk_at dksX3_together_12 20 rfl rfl)
theorem dX3_together_307 : decode cX3_together 307 = .ok (.aload_n 0, 1) := dk_42 (dk_at dksX3_together_12 23 rfl rfl)
theorem dX3_together_308 : decode cX3_together 308 = .ok (.aload_n 0, 1) := dk_42 (dk_at dksX3_together_13 0 rfl rfl)
theorem dX3_together_309 : decode cX3_together 309 = .ok (.getfield 254, 3) := dk_180 0 254 (dk_at dksX3_together_13 1 rfl rfl)
theorem dX3_together_312 : decode cX3_together 312 = .ok (.iconst 1, 1) := dk_4 (dk_at dksX3_together_13 4 rfl rfl)
theorem dX3_together_313 : decode cX3_together 313 = .ok (.iadd, 1) := dk_96 (dk_at dksX3_together_13 5 rfl rfl)
theorem dX3_together_314 : decode cX3_together 314 = .ok (.invokevirtual 285, 3) := dk_182 1 29 (dk_at dksX3_together_13 6 rfl rfl)
theorem dX3_together_317 : decode cX3_together 317 = .ok (.lload 7, 2) := dk_22 7 (dk_at dksX3_together_13 9 rfl rfl)
theorem dX3_together_319 : decode cX3_together 319 = .ok (.lneg, 1) := dk_117 (dk_at dksX3_together_13 11 rfl rfl)
theorem dX3_together_320 : decode cX3_together 320 = .ok (.aload_n 0, 1) := dk_42 (dk_at dksX3_together_13 12 rfl rfl)
theorem dX3_together_321 : decode cX3_together 321 = .ok (.getfield 47, 3) := dk_180 0 47 (dk_at dksX3_together_13 13 rfl rfl)
theorem dX3_together_324 : decode cX3_together 324 = .ok (.aload_n 0, 1) := dk_42 (dk_at dksX3_together_13 16 rfl rfl)
theorem dX3_together_325 : decode cX3_together 325 = .ok (.getfield 254, 3) := dk_180 0 254 (dk_at dksX3_together_13 17 rfl rfl)
theorem dX3_together_328 : decode cX3_together 328 = .ok (.iconst 1, 1) := dk_4 (dk_at dksX3_together_13 20 rfl rfl)
theorem dX3_together_329 : decode cX3_together 329 = .ok (.iadd, 1) := dk_96 (dk_at dksX3_together_13 21 rfl rfl)
theorem dX3_together_330 : decode cX3_together 330 = .ok (.aload_n 0, 1) := dk_42 (dk_at dksX3_together_13 22 rfl rfl)
theorem dX3_together_331 : decode cX3_together 331 = .ok (.getfield 257, 3) := dk_180 1 1 (dk_at dksX3_together_14 0 rfl rfl)
theorem dX3_together_334 : decode cX3_together 334 = .ok (.iconst 1, 1) := dk_4 (dk_at dksX3_together_14 3 rfl rfl)
theorem dX3_together_335 : decode cX3_together 335 = .ok (.isub, 1) := dk_100 (dk_at dksX3_together_14 4 rfl rfl)
theorem dX3_together_336 : decode cX3_together 336 = .ok (.invokestatic 260, 3) := dk_184 1 4 (dk_at dksX3_together_14 5 rfl rfl)
theorem dX3_together_339 : decode cX3_together 339 = .ok (.laload, 1) := dk_47 (dk_at dksX3_together_14 8 rfl rfl)
theorem dX3_together_340 : decode cX3_together 340 = .ok (.lmul, 1) := dk_105 (dk_at dksX3_together_14 9 rfl rfl)
theorem dX3_together_341 : decode cX3_together 341 = .ok (.lstore 9, 2) := dk_55 9 (dk_at dksX3_together_14 10 rfl rfl)
theorem dX3_together_343 : decode cX3_together 343 = .ok (.lload 9, 2) := dk_22 9 (dk_at dksX3_together_14 12 rfl rfl)
theorem dX3_together_345 : decode cX3_together 345 = .ok (.aload_n 0, 1) := dk_42 (dk_at dksX3_together_14 14 rfl rfl)
theorem dX3_together_346 : decode cX3_together 346 = .ok (.getfield 268, 3) := dk_180 1 12 (dk_at dksX3_together_14 15 rfl rfl)
theorem dX3_together_349 : decode cX3_together 349 = .ok (.aload_n 0, 1) := dk_42 (dk_at dksX3_together_14 18 rfl rfl)
theorem dX3_together_350 : decode cX3_together 350 = .ok (.getfield 20, 3) := dk_180 0 20 (dk_at dksX3_together_14 19 rfl rfl)
theorem dX3_together_353 : decode cX3_together 353 = .ok (.bipush 49, 2) := dk_16 49 (dk_at dksX3_together_14 22 rfl rfl)
theorem dX3_together_355 : decode cX3_together 355 = .ok (.iaload, 1) := dk_46 (dk_at dksX3_together_15 0 rfl rfl)
theorem dX3_together_356 : decode cX3_together 356 = .ok (.i2l, 1) := dk_133 (dk_at dksX3_together_15 1 rfl rfl)
theorem dX3_together_357 : decode cX3_together 357 = .ok (.lmul, 1) := dk_105 (dk_at dksX3_together_15 2 rfl rfl)
theorem dX3_together_358 : decode cX3_together 358 = .ok (.iload 6, 2) := dk_21 6 (dk_at dksX3_together_15 3 rfl rfl)
theorem dX3_together_360 : decode cX3_together 360 = .ok (.invokestatic 292, 3) := dk_184 1 36 (dk_at dksX3_together_15 5 rfl rfl)
theorem dX3_together_363 : decode cX3_together 363 = .ok (.ireturn, 1) := dk_172 (dk_at dksX3_together_15 8 rfl rfl)
abbrev cX3_isLook : ByteArray := prog_18_method_39_code
def yX3_isLook : MethodName := ⟨RX3, "isLook", "(I)Z"⟩
def dkwX3_isLook_1 : List UInt8 := [4, 167, 0, 4, 3, 172]
abbrev dktX3_isLook_1 : List UInt8 := dkwX3_isLook_1 ++ []
def dkwX3_isLook_0 : List UInt8 := [42, 180, 0, 183, 153, 0, 24, 27, 3, 42, 180, 0, 20, 16, 50, 46, 4, 100, 184, 0, 170, 153, 0, 7]
abbrev dktX3_isLook_0 : List UInt8 := dkwX3_isLook_0 ++ dktX3_isLook_1
theorem dksX3_isLook_0 : cX3_isLook.data.toList.drop 0 = dktX3_isLook_0 := by decide +kernel
theorem dksX3_isLook_1 : cX3_isLook.data.toList.drop 24 = dktX3_isLook_1 := dk_seg dksX3_isLook_0 24 rfl rfl
theorem dX3_isLook_0 : decode cX3_isLook 0 = .ok (.aload_n 0, 1) := dk_42 (dk_at dksX3_isLook_0 0 rfl rfl)
theorem dX3_isLook_1 : decode cX3_isLook 1 = .ok (.getfield 183, 3) := dk_180 0 183 (dk_at dksX3_isLook_0 1 rfl rfl)
theorem dX3_isLook_4 : decode cX3_isLook 4 = .ok (.ifCond .eq 24, 3) := dk_153 0 24 (dk_at dksX3_isLook_0 4 rfl rfl)
theorem dX3_isLook_7 : decode cX3_isLook 7 = .ok (.iload_n 1, 1) := dk_27 (dk_at dksX3_isLook_0 7 rfl rfl)
theorem dX3_isLook_8 : decode cX3_isLook 8 = .ok (.iconst 0, 1) := dk_3 (dk_at dksX3_isLook_0 8 rfl rfl)
theorem dX3_isLook_9 : decode cX3_isLook 9 = .ok (.aload_n 0, 1) := dk_42 (dk_at dksX3_isLook_0 9 rfl rfl)
theorem dX3_isLook_10 : decode cX3_isLook 10 = .ok (.getfield 20, 3) := dk_180 0 20 (dk_at dksX3_isLook_0 10 rfl rfl)
theorem dX3_isLook_13 : decode cX3_isLook 13 = .ok (.bipush 50, 2) := dk_16 50 (dk_at dksX3_isLook_0 13 rfl rfl)
theorem dX3_isLook_15 : decode cX3_isLook 15 = .ok (.iaload, 1) := dk_46 (dk_at dksX3_isLook_0 15 rfl rfl)
theorem dX3_isLook_16 : decode cX3_isLook 16 = .ok (.iconst 1, 1) := dk_4 (dk_at dksX3_isLook_0 16 rfl rfl)
theorem dX3_isLook_17 : decode cX3_isLook 17 = .ok (.isub, 1) := dk_100 (dk_at dksX3_isLook_0 17 rfl rfl)
theorem dX3_isLook_18 : decode cX3_isLook 18 = .ok (.invokestatic 170, 3) := dk_184 0 170 (dk_at dksX3_isLook_0 18 rfl rfl)
theorem dX3_isLook_21 : decode cX3_isLook 21 = .ok (.ifCond .eq 7, 3) := dk_153 0 7 (dk_at dksX3_isLook_0 21 rfl rfl)
theorem dX3_isLook_24 : decode cX3_isLook 24 = .ok (.iconst 1, 1) := dk_4 (dk_at dksX3_isLook_1 0 rfl rfl)
theorem dX3_isLook_25 : decode cX3_isLook 25 = .ok (.goto 4, 3) := dk_167 0 4 (dk_at dksX3_isLook_1 1 rfl rfl)
theorem dX3_isLook_28 : decode cX3_isLook 28 = .ok (.iconst 0, 1) := dk_3 (dk_at dksX3_isLook_1 4 rfl rfl)
theorem dX3_isLook_29 : decode cX3_isLook 29 = .ok (.ireturn, 1) := dk_172 (dk_at dksX3_isLook_1 5 rfl rfl)
abbrev cX3_isBit : ByteArray := prog_18_method_53_code
def yX3_isBit : MethodName := ⟨RX3, "isBit", "(I)Z"⟩
def dkwX3_isBit_0 : List UInt8 := [26, 153, 0, 8, 26, 4, 160, 0, 7, 4, 167, 0, 4, 3, 172]
abbrev dktX3_isBit_0 : List UInt8 := dkwX3_isBit_0 ++ []
theorem dksX3_isBit_0 : cX3_isBit.data.toList.drop 0 = dktX3_isBit_0 := by decide +kernel
theorem dX3_isBit_0 : decode cX3_isBit 0 = .ok (.iload_n 0, 1) := dk_26 (dk_at dksX3_isBit_0 0 rfl rfl)
theorem dX3_isBit_1 : decode cX3_isBit 1 = .ok (.ifCond .eq 8, 3) := dk_153 0 8 (dk_at dksX3_isBit_0 1 rfl rfl)
theorem dX3_isBit_4 : decode cX3_isBit 4 = .ok (.iload_n 0, 1) := dk_26 (dk_at dksX3_isBit_0 4 rfl rfl)
theorem dX3_isBit_5 : decode cX3_isBit 5 = .ok (.iconst 1, 1) := dk_4 (dk_at dksX3_isBit_0 5 rfl rfl)
theorem dX3_isBit_6 : decode cX3_isBit 6 = .ok (.if_icmp .ne 7, 3) := dk_160 0 7 (dk_at dksX3_isBit_0 6 rfl rfl)
theorem dX3_isBit_9 : decode cX3_isBit 9 = .ok (.iconst 1, 1) := dk_4 (dk_at dksX3_isBit_0 9 rfl rfl)
theorem dX3_isBit_10 : decode cX3_isBit 10 = .ok (.goto 4, 3) := dk_167 0 4 (dk_at dksX3_isBit_0 10 rfl rfl)
theorem dX3_isBit_13 : decode cX3_isBit 13 = .ok (.iconst 0, 1) := dk_3 (dk_at dksX3_isBit_0 13 rfl rfl)
theorem dX3_isBit_14 : decode cX3_isBit 14 = .ok (.ireturn, 1) := dk_172 (dk_at dksX3_isBit_0 14 rfl rfl)
abbrev cX3_extend : ByteArray := prog_18_method_57_code
def yX3_extend : MethodName := ⟨RX3, "extend", "(II)I"⟩
def dkwX3_extend_1 : List UInt8 := [167, 0, 12, 3, 167, 0, 8, 42, 4, 182, 0, 177, 172]
abbrev dktX3_extend_1 : List UInt8 := dkwX3_extend_1 ++ []
def dkwX3_extend_0 : List UInt8 := [42, 182, 0, 174, 42, 27, 28, 182, 1, 49, 153, 0, 20, 42, 27, 28, 182, 1, 52, 153, 0, 7, 4]
abbrev dktX3_extend_0 : List UInt8 := dkwX3_extend_0 ++ dktX3_extend_1
theorem dksX3_extend_0 : cX3_extend.data.toList.drop 0 = dktX3_extend_0 := by decide +kernel
theorem dksX3_extend_1 : cX3_extend.data.toList.drop 23 = dktX3_extend_1 := dk_seg dksX3_extend_0 23 rfl rfl
theorem dX3_extend_0 : decode cX3_extend 0 = .ok (.aload_n 0, 1) := dk_42 (dk_at dksX3_extend_0 0 rfl rfl)
theorem dX3_extend_1 : decode cX3_extend 1 = .ok (.invokevirtual 174, 3) := dk_182 0 174 (dk_at dksX3_extend_0 1 rfl rfl)
theorem dX3_extend_4 : decode cX3_extend 4 = .ok (.aload_n 0, 1) := dk_42 (dk_at dksX3_extend_0 4 rfl rfl)
theorem dX3_extend_5 : decode cX3_extend 5 = .ok (.iload_n 1, 1) := dk_27 (dk_at dksX3_extend_0 5 rfl rfl)
theorem dX3_extend_6 : decode cX3_extend 6 = .ok (.iload_n 2, 1) := dk_28 (dk_at dksX3_extend_0 6 rfl rfl)
theorem dX3_extend_7 : decode cX3_extend 7 = .ok (.invokevirtual 305, 3) := dk_182 1 49 (dk_at dksX3_extend_0 7 rfl rfl)
theorem dX3_extend_10 : decode cX3_extend 10 = .ok (.ifCond .eq 20, 3) := dk_153 0 20 (dk_at dksX3_extend_0 10 rfl rfl)
theorem dX3_extend_13 : decode cX3_extend 13 = .ok (.aload_n 0, 1) := dk_42 (dk_at dksX3_extend_0 13 rfl rfl)
theorem dX3_extend_14 : decode cX3_extend 14 = .ok (.iload_n 1, 1) := dk_27 (dk_at dksX3_extend_0 14 rfl rfl)
theorem dX3_extend_15 : decode cX3_extend 15 = .ok (.iload_n 2, 1) := dk_28 (dk_at dksX3_extend_0 15 rfl rfl)
theorem dX3_extend_16 : decode cX3_extend 16 = .ok (.invokevirtual 308, 3) := dk_182 1 52 (dk_at dksX3_extend_0 16 rfl rfl)
theorem dX3_extend_19 : decode cX3_extend 19 = .ok (.ifCond .eq 7, 3) := dk_153 0 7 (dk_at dksX3_extend_0 19 rfl rfl)
theorem dX3_extend_22 : decode cX3_extend 22 = .ok (.iconst 1, 1) := dk_4 (dk_at dksX3_extend_0 22 rfl rfl)
theorem dX3_extend_23 : decode cX3_extend 23 = .ok (.goto 12, 3) := dk_167 0 12 (dk_at dksX3_extend_1 0 rfl rfl)
theorem dX3_extend_26 : decode cX3_extend 26 = .ok (.iconst 0, 1) := dk_3 (dk_at dksX3_extend_1 3 rfl rfl)
theorem dX3_extend_27 : decode cX3_extend 27 = .ok (.goto 8, 3) := dk_167 0 8 (dk_at dksX3_extend_1 4 rfl rfl)
theorem dX3_extend_30 : decode cX3_extend 30 = .ok (.aload_n 0, 1) := dk_42 (dk_at dksX3_extend_1 7 rfl rfl)
theorem dX3_extend_31 : decode cX3_extend 31 = .ok (.iconst 1, 1) := dk_4 (dk_at dksX3_extend_1 8 rfl rfl)
theorem dX3_extend_32 : decode cX3_extend 32 = .ok (.invokevirtual 177, 3) := dk_182 0 177 (dk_at dksX3_extend_1 9 rfl rfl)
theorem dX3_extend_35 : decode cX3_extend 35 = .ok (.ireturn, 1) := dk_172 (dk_at dksX3_extend_1 12 rfl rfl)
abbrev cX3_isOutcome : ByteArray := prog_18_method_41_code
def yX3_isOutcome : MethodName := ⟨RX3, "isOutcome", "(II)Z"⟩
def dkwX3_isOutcome_1 : List UInt8 := [153, 0, 7, 4, 167, 0, 4, 3, 172]
abbrev dktX3_isOutcome_1 : List UInt8 := dkwX3_isOutcome_1 ++ []
def dkwX3_isOutcome_0 : List UInt8 := [42, 27, 182, 0, 244, 153, 0, 25, 28, 3, 42, 180, 0, 20, 27, 184, 0, 247, 4, 100, 184, 0, 170]
abbrev dktX3_isOutcome_0 : List UInt8 := dkwX3_isOutcome_0 ++ dktX3_isOutcome_1
theorem dksX3_isOutcome_0 : cX3_isOutcome.data.toList.drop 0 = dktX3_isOutcome_0 := by decide +kernel
theorem dksX3_isOutcome_1 : cX3_isOutcome.data.toList.drop 23 = dktX3_isOutcome_1 := dk_seg dksX3_isOutcome_0 23 rfl rfl
theorem dX3_isOutcome_0 : decode cX3_isOutcome 0 = .ok (.aload_n 0, 1) := dk_42 (dk_at dksX3_isOutcome_0 0 rfl rfl)
theorem dX3_isOutcome_1 : decode cX3_isOutcome 1 = .ok (.iload_n 1, 1) := dk_27 (dk_at dksX3_isOutcome_0 1 rfl rfl)
theorem dX3_isOutcome_2 : decode cX3_isOutcome 2 = .ok (.invokevirtual 244, 3) := dk_182 0 244 (dk_at dksX3_isOutcome_0 2 rfl rfl)
theorem dX3_isOutcome_5 : decode cX3_isOutcome 5 = .ok (.ifCond .eq 25, 3) := dk_153 0 25 (dk_at dksX3_isOutcome_0 5 rfl rfl)
theorem dX3_isOutcome_8 : decode cX3_isOutcome 8 = .ok (.iload_n 2, 1) := dk_28 (dk_at dksX3_isOutcome_0 8 rfl rfl)
theorem dX3_isOutcome_9 : decode cX3_isOutcome 9 = .ok (.iconst 0, 1) := dk_3 (dk_at dksX3_isOutcome_0 9 rfl rfl)
theorem dX3_isOutcome_10 : decode cX3_isOutcome 10 = .ok (.aload_n 0, 1) := dk_42 (dk_at dksX3_isOutcome_0 10 rfl rfl)
theorem dX3_isOutcome_11 : decode cX3_isOutcome 11 = .ok (.getfield 20, 3) := dk_180 0 20 (dk_at dksX3_isOutcome_0 11 rfl rfl)
theorem dX3_isOutcome_14 : decode cX3_isOutcome 14 = .ok (.iload_n 1, 1) := dk_27 (dk_at dksX3_isOutcome_0 14 rfl rfl)
theorem dX3_isOutcome_15 : decode cX3_isOutcome 15 = .ok (.invokestatic 247, 3) := dk_184 0 247 (dk_at dksX3_isOutcome_0 15 rfl rfl)
theorem dX3_isOutcome_18 : decode cX3_isOutcome 18 = .ok (.iconst 1, 1) := dk_4 (dk_at dksX3_isOutcome_0 18 rfl rfl)
theorem dX3_isOutcome_19 : decode cX3_isOutcome 19 = .ok (.isub, 1) := dk_100 (dk_at dksX3_isOutcome_0 19 rfl rfl)
theorem dX3_isOutcome_20 : decode cX3_isOutcome 20 = .ok (.invokestatic 170, 3) := dk_184 0 170 (dk_at dksX3_isOutcome_0 20 rfl rfl)
theorem dX3_isOutcome_23 : decode cX3_isOutcome 23 = .ok (.ifCond .eq 7, 3) := dk_153 0 7 (dk_at dksX3_isOutcome_1 0 rfl rfl)
theorem dX3_isOutcome_26 : decode cX3_isOutcome 26 = .ok (.iconst 1, 1) := dk_4 (dk_at dksX3_isOutcome_1 3 rfl rfl)
theorem dX3_isOutcome_27 : decode cX3_isOutcome 27 = .ok (.goto 4, 3) := dk_167 0 4 (dk_at dksX3_isOutcome_1 4 rfl rfl)
theorem dX3_isOutcome_30 : decode cX3_isOutcome 30 = .ok (.iconst 0, 1) := dk_3 (dk_at dksX3_isOutcome_1 7 rfl rfl)
theorem dX3_isOutcome_31 : decode cX3_isOutcome 31 = .ok (.ireturn, 1) := dk_172 (dk_at dksX3_isOutcome_1 8 rfl rfl)
abbrev cX3_isSet : ByteArray := prog_18_method_38_code
def yX3_isSet : MethodName := ⟨RX3, "isSet", "(I)Z"⟩
def dkwX3_isSet_1 : List UInt8 := [167, 0, 4, 3, 172]
abbrev dktX3_isSet_1 : List UInt8 := dkwX3_isSet_1 ++ []
def dkwX3_isSet_0 : List UInt8 := [42, 180, 0, 183, 153, 0, 23, 27, 3, 42, 180, 0, 20, 3, 46, 4, 100, 184, 0, 170, 153, 0, 7, 4]
abbrev dktX3_isSet_0 : List UInt8 := dkwX3_isSet_0 ++ dktX3_isSet_1
theorem dksX3_isSet_0 : cX3_isSet.data.toList.drop 0 = dktX3_isSet_0 := by decide +kernel
theorem dksX3_isSet_1 : cX3_isSet.data.toList.drop 24 = dktX3_isSet_1 := dk_seg dksX3_isSet_0 24 rfl rfl
theorem dX3_isSet_0 : decode cX3_isSet 0 = .ok (.aload_n 0, 1) := dk_42 (dk_at dksX3_isSet_0 0 rfl rfl)
theorem dX3_isSet_1 : decode cX3_isSet 1 = .ok (.getfield 183, 3) := dk_180 0 183 (dk_at dksX3_isSet_0 1 rfl rfl)
theorem dX3_isSet_4 : decode cX3_isSet 4 = .ok (.ifCond .eq 23, 3) := dk_153 0 23 (dk_at dksX3_isSet_0 4 rfl rfl)
theorem dX3_isSet_7 : decode cX3_isSet 7 = .ok (.iload_n 1, 1) := dk_27 (dk_at dksX3_isSet_0 7 rfl rfl)
theorem dX3_isSet_8 : decode cX3_isSet 8 = .ok (.iconst 0, 1) := dk_3 (dk_at dksX3_isSet_0 8 rfl rfl)
theorem dX3_isSet_9 : decode cX3_isSet 9 = .ok (.aload_n 0, 1) := dk_42 (dk_at dksX3_isSet_0 9 rfl rfl)
theorem dX3_isSet_10 : decode cX3_isSet 10 = .ok (.getfield 20, 3) := dk_180 0 20 (dk_at dksX3_isSet_0 10 rfl rfl)
theorem dX3_isSet_13 : decode cX3_isSet 13 = .ok (.iconst 0, 1) := dk_3 (dk_at dksX3_isSet_0 13 rfl rfl)
theorem dX3_isSet_14 : decode cX3_isSet 14 = .ok (.iaload, 1) := dk_46 (dk_at dksX3_isSet_0 14 rfl rfl)
theorem dX3_isSet_15 : decode cX3_isSet 15 = .ok (.iconst 1, 1) := dk_4 (dk_at dksX3_isSet_0 15 rfl rfl)
theorem dX3_isSet_16 : decode cX3_isSet 16 = .ok (.isub, 1) := dk_100 (dk_at dksX3_isSet_0 16 rfl rfl)
theorem dX3_isSet_17 : decode cX3_isSet 17 = .ok (.invokestatic 170, 3) := dk_184 0 170 (dk_at dksX3_isSet_0 17 rfl rfl)
theorem dX3_isSet_20 : decode cX3_isSet 20 = .ok (.ifCond .eq 7, 3) := dk_153 0 7 (dk_at dksX3_isSet_0 20 rfl rfl)
theorem dX3_isSet_23 : decode cX3_isSet 23 = .ok (.iconst 1, 1) := dk_4 (dk_at dksX3_isSet_0 23 rfl rfl)
theorem dX3_isSet_24 : decode cX3_isSet 24 = .ok (.goto 4, 3) := dk_167 0 4 (dk_at dksX3_isSet_1 0 rfl rfl)
theorem dX3_isSet_27 : decode cX3_isSet 27 = .ok (.iconst 0, 1) := dk_3 (dk_at dksX3_isSet_1 3 rfl rfl)
theorem dX3_isSet_28 : decode cX3_isSet 28 = .ok (.ireturn, 1) := dk_172 (dk_at dksX3_isSet_1 4 rfl rfl)
abbrev cX3_doesExtend : ByteArray := prog_18_method_56_code
def yX3_doesExtend : MethodName := ⟨RX3, "doesExtend", "(II)Z"⟩
def dkwX3_doesExtend_2 : List UInt8 := [132, 4, 1, 167, 255, 213, 29, 172]
abbrev dktX3_doesExtend_2 : List UInt8 := dkwX3_doesExtend_2 ++ []
def dkwX3_doesExtend_1 : List UInt8 := [182, 1, 7, 28, 160, 0, 17, 42, 21, 4, 27, 182, 1, 46, 153, 0, 7, 4, 167, 0, 4, 3, 62]
abbrev dktX3_doesExtend_1 : List UInt8 := dkwX3_doesExtend_1 ++ dktX3_doesExtend_2
def dkwX3_doesExtend_0 : List UInt8 := [3, 62, 3, 54, 4, 21, 4, 42, 182, 0, 251, 162, 0, 40, 29, 154, 0, 24, 42, 27, 21, 4]
abbrev dktX3_doesExtend_0 : List UInt8 := dkwX3_doesExtend_0 ++ dktX3_doesExtend_1
theorem dksX3_doesExtend_0 : cX3_doesExtend.data.toList.drop 0 = dktX3_doesExtend_0 := by decide +kernel
theorem dksX3_doesExtend_1 : cX3_doesExtend.data.toList.drop 22 = dktX3_doesExtend_1 := dk_seg dksX3_doesExtend_0 22 rfl rfl
theorem dksX3_doesExtend_2 : cX3_doesExtend.data.toList.drop 45 = dktX3_doesExtend_2 := dk_seg dksX3_doesExtend_1 23 rfl rfl
theorem dX3_doesExtend_0 : decode cX3_doesExtend 0 = .ok (.iconst 0, 1) := dk_3 (dk_at dksX3_doesExtend_0 0 rfl rfl)
theorem dX3_doesExtend_1 : decode cX3_doesExtend 1 = .ok (.istore_n 3, 1) := dk_62 (dk_at dksX3_doesExtend_0 1 rfl rfl)
theorem dX3_doesExtend_2 : decode cX3_doesExtend 2 = .ok (.iconst 0, 1) := dk_3 (dk_at dksX3_doesExtend_0 2 rfl rfl)
theorem dX3_doesExtend_3 : decode cX3_doesExtend 3 = .ok (.istore 4, 2) := dk_54 4 (dk_at dksX3_doesExtend_0 3 rfl rfl)
theorem dX3_doesExtend_5 : decode cX3_doesExtend 5 = .ok (.iload 4, 2) := dk_21 4 (dk_at dksX3_doesExtend_0 5 rfl rfl)
theorem dX3_doesExtend_7 : decode cX3_doesExtend 7 = .ok (.aload_n 0, 1) := dk_42 (dk_at dksX3_doesExtend_0 7 rfl rfl)
theorem dX3_doesExtend_8 : decode cX3_doesExtend 8 = .ok (.invokevirtual 251, 3) := dk_182 0 251 (dk_at dksX3_doesExtend_0 8 rfl rfl)
theorem dX3_doesExtend_11 : decode cX3_doesExtend 11 = .ok (.if_icmp .ge 40, 3) := dk_162 0 40 (dk_at dksX3_doesExtend_0 11 rfl rfl)
theorem dX3_doesExtend_14 : decode cX3_doesExtend 14 = .ok (.iload_n 3, 1) := dk_29 (dk_at dksX3_doesExtend_0 14 rfl rfl)
theorem dX3_doesExtend_15 : decode cX3_doesExtend 15 = .ok (.ifCond .ne 24, 3) := dk_154 0 24 (dk_at dksX3_doesExtend_0 15 rfl rfl)
theorem dX3_doesExtend_18 : decode cX3_doesExtend 18 = .ok (.aload_n 0, 1) := dk_42 (dk_at dksX3_doesExtend_0 18 rfl rfl)
theorem dX3_doesExtend_19 : decode cX3_doesExtend 19 = .ok (.iload_n 1, 1) := dk_27 (dk_at dksX3_doesExtend_0 19 rfl rfl)
theorem dX3_doesExtend_20 : decode cX3_doesExtend 20 = .ok (.iload 4, 2) := dk_21 4 (dk_at dksX3_doesExtend_0 20 rfl rfl)
theorem dX3_doesExtend_22 : decode cX3_doesExtend 22 = .ok (.invokevirtual 263, 3) := dk_182 1 7 (dk_at dksX3_doesExtend_1 0 rfl rfl)
theorem dX3_doesExtend_25 : decode cX3_doesExtend 25 = .ok (.iload_n 2, 1) := dk_28 (dk_at dksX3_doesExtend_1 3 rfl rfl)
theorem dX3_doesExtend_26 : decode cX3_doesExtend 26 = .ok (.if_icmp .ne 17, 3) := dk_160 0 17 (dk_at dksX3_doesExtend_1 4 rfl rfl)
theorem dX3_doesExtend_29 : decode cX3_doesExtend 29 = .ok (.aload_n 0, 1) := dk_42 (dk_at dksX3_doesExtend_1 7 rfl rfl)
theorem dX3_doesExtend_30 : decode cX3_doesExtend 30 = .ok (.iload 4, 2) := dk_21 4 (dk_at dksX3_doesExtend_1 8 rfl rfl)
theorem dX3_doesExtend_32 : decode cX3_doesExtend 32 = .ok (.iload_n 1, 1) := dk_27 (dk_at dksX3_doesExtend_1 10 rfl rfl)
theorem dX3_doesExtend_33 : decode cX3_doesExtend 33 = .ok (.invokevirtual 302, 3) := dk_182 1 46 (dk_at dksX3_doesExtend_1 11 rfl rfl)
theorem dX3_doesExtend_36 : decode cX3_doesExtend 36 = .ok (.ifCond .eq 7, 3) := dk_153 0 7 (dk_at dksX3_doesExtend_1 14 rfl rfl)
theorem dX3_doesExtend_39 : decode cX3_doesExtend 39 = .ok (.iconst 1, 1) := dk_4 (dk_at dksX3_doesExtend_1 17 rfl rfl)
theorem dX3_doesExtend_40 : decode cX3_doesExtend 40 = .ok (.goto 4, 3) := dk_167 0 4 (dk_at dksX3_doesExtend_1 18 rfl rfl)
theorem dX3_doesExtend_43 : decode cX3_doesExtend 43 = .ok (.iconst 0, 1) := dk_3 (dk_at dksX3_doesExtend_1 21 rfl rfl)
theorem dX3_doesExtend_44 : decode cX3_doesExtend 44 = .ok (.istore_n 3, 1) := dk_62 (dk_at dksX3_doesExtend_1 22 rfl rfl)
theorem dX3_doesExtend_45 : decode cX3_doesExtend 45 = .ok (.iinc 4 1, 3) := dk_132 4 1 (dk_at dksX3_doesExtend_2 0 rfl rfl)
theorem dX3_doesExtend_48 : decode cX3_doesExtend 48 = .ok (.goto (-43), 3) := dk_167 255 213 (dk_at dksX3_doesExtend_2 3 rfl rfl)
theorem dX3_doesExtend_51 : decode cX3_doesExtend 51 = .ok (.iload_n 3, 1) := dk_29 (dk_at dksX3_doesExtend_2 6 rfl rfl)
theorem dX3_doesExtend_52 : decode cX3_doesExtend 52 = .ok (.ireturn, 1) := dk_172 (dk_at dksX3_doesExtend_2 7 rfl rfl)
abbrev cX3_fitsAll : ByteArray := prog_18_method_55_code
def yX3_fitsAll : MethodName := ⟨RX3, "fitsAll", "(II)Z"⟩
def dkwX3_fitsAll_2 : List UInt8 := [158, 0, 7, 4, 167, 0, 4, 3, 62, 132, 4, 1, 167, 255, 203, 29, 172]
abbrev dktX3_fitsAll_2 : List UInt8 := dkwX3_fitsAll_2 ++ []
def dkwX3_fitsAll_1 : List UInt8 := [159, 0, 26, 42, 180, 0, 20, 16, 17, 7, 21, 4, 104, 96, 42, 21, 4, 27, 182, 1, 7, 96, 46]
abbrev dktX3_fitsAll_1 : List UInt8 := dkwX3_fitsAll_1 ++ dktX3_fitsAll_2
def dkwX3_fitsAll_0 : List UInt8 := [4, 62, 3, 54, 4, 21, 4, 42, 180, 0, 20, 3, 46, 162, 0, 48, 29, 153, 0, 36, 21, 4, 28]
abbrev dktX3_fitsAll_0 : List UInt8 := dkwX3_fitsAll_0 ++ dktX3_fitsAll_1
theorem dksX3_fitsAll_0 : cX3_fitsAll.data.toList.drop 0 = dktX3_fitsAll_0 := by decide +kernel
theorem dksX3_fitsAll_1 : cX3_fitsAll.data.toList.drop 23 = dktX3_fitsAll_1 := dk_seg dksX3_fitsAll_0 23 rfl rfl
theorem dksX3_fitsAll_2 : cX3_fitsAll.data.toList.drop 46 = dktX3_fitsAll_2 := dk_seg dksX3_fitsAll_1 23 rfl rfl
theorem dX3_fitsAll_0 : decode cX3_fitsAll 0 = .ok (.iconst 1, 1) := dk_4 (dk_at dksX3_fitsAll_0 0 rfl rfl)
theorem dX3_fitsAll_1 : decode cX3_fitsAll 1 = .ok (.istore_n 3, 1) := dk_62 (dk_at dksX3_fitsAll_0 1 rfl rfl)
theorem dX3_fitsAll_2 : decode cX3_fitsAll 2 = .ok (.iconst 0, 1) := dk_3 (dk_at dksX3_fitsAll_0 2 rfl rfl)
theorem dX3_fitsAll_3 : decode cX3_fitsAll 3 = .ok (.istore 4, 2) := dk_54 4 (dk_at dksX3_fitsAll_0 3 rfl rfl)
theorem dX3_fitsAll_5 : decode cX3_fitsAll 5 = .ok (.iload 4, 2) := dk_21 4 (dk_at dksX3_fitsAll_0 5 rfl rfl)
theorem dX3_fitsAll_7 : decode cX3_fitsAll 7 = .ok (.aload_n 0, 1) := dk_42 (dk_at dksX3_fitsAll_0 7 rfl rfl)
theorem dX3_fitsAll_8 : decode cX3_fitsAll 8 = .ok (.getfield 20, 3) := dk_180 0 20 (dk_at dksX3_fitsAll_0 8 rfl rfl)
theorem dX3_fitsAll_11 : decode cX3_fitsAll 11 = .ok (.iconst 0, 1) := dk_3 (dk_at dksX3_fitsAll_0 11 rfl rfl)
theorem dX3_fitsAll_12 : decode cX3_fitsAll 12 = .ok (.iaload, 1) := dk_46 (dk_at dksX3_fitsAll_0 12 rfl rfl)
theorem dX3_fitsAll_13 : decode cX3_fitsAll 13 = .ok (.if_icmp .ge 48, 3) := dk_162 0 48 (dk_at dksX3_fitsAll_0 13 rfl rfl)
theorem dX3_fitsAll_16 : decode cX3_fitsAll 16 = .ok (.iload_n 3, 1) := dk_29 (dk_at dksX3_fitsAll_0 16 rfl rfl)
theorem dX3_fitsAll_17 : decode cX3_fitsAll 17 = .ok (.ifCond .eq 36, 3) := dk_153 0 36 (dk_at dksX3_fitsAll_0 17 rfl rfl)
theorem dX3_fitsAll_20 : decode cX3_fitsAll 20 = .ok (.iload 4, 2) := dk_21 4 (dk_at dksX3_fitsAll_0 20 rfl rfl)
theorem dX3_fitsAll_22 : decode cX3_fitsAll 22 = .ok (.iload_n 2, 1) := dk_28 (dk_at dksX3_fitsAll_0 22 rfl rfl)
theorem dX3_fitsAll_23 : decode cX3_fitsAll 23 = .ok (.if_icmp .eq 26, 3) := dk_159 0 26 (dk_at dksX3_fitsAll_1 0 rfl rfl)
theorem dX3_fitsAll_26 : decode cX3_fitsAll 26 = .ok (.aload_n 0, 1) := dk_42 (dk_at dksX3_fitsAll_1 3 rfl rfl)
theorem dX3_fitsAll_27 : decode cX3_fitsAll 27 = .ok (.getfield 20, 3) := dk_180 0 20 (dk_at dksX3_fitsAll_1 4 rfl rfl)
theorem dX3_fitsAll_30 : decode cX3_fitsAll 30 = .ok (.bipush 17, 2) := dk_16 17 (dk_at dksX3_fitsAll_1 7 rfl rfl)
theorem dX3_fitsAll_32 : decode cX3_fitsAll 32 = .ok (.iconst 4, 1) := dk_7 (dk_at dksX3_fitsAll_1 9 rfl rfl)
theorem dX3_fitsAll_33 : decode cX3_fitsAll 33 = .ok (.iload 4, 2) := dk_21 4 (dk_at dksX3_fitsAll_1 10 rfl rfl)
theorem dX3_fitsAll_35 : decode cX3_fitsAll 35 = .ok (.imul, 1) := dk_104 (dk_at dksX3_fitsAll_1 12 rfl rfl)
theorem dX3_fitsAll_36 : decode cX3_fitsAll 36 = .ok (.iadd, 1) := dk_96 (dk_at dksX3_fitsAll_1 13 rfl rfl)
theorem dX3_fitsAll_37 : decode cX3_fitsAll 37 = .ok (.aload_n 0, 1) := dk_42 (dk_at dksX3_fitsAll_1 14 rfl rfl)
theorem dX3_fitsAll_38 : decode cX3_fitsAll 38 = .ok (.iload 4, 2) := dk_21 4 (dk_at dksX3_fitsAll_1 15 rfl rfl)
theorem dX3_fitsAll_40 : decode cX3_fitsAll 40 = .ok (.iload_n 1, 1) := dk_27 (dk_at dksX3_fitsAll_1 17 rfl rfl)
theorem dX3_fitsAll_41 : decode cX3_fitsAll 41 = .ok (.invokevirtual 263, 3) := dk_182 1 7 (dk_at dksX3_fitsAll_1 18 rfl rfl)
theorem dX3_fitsAll_44 : decode cX3_fitsAll 44 = .ok (.iadd, 1) := dk_96 (dk_at dksX3_fitsAll_1 21 rfl rfl)
theorem dX3_fitsAll_45 : decode cX3_fitsAll 45 = .ok (.iaload, 1) := dk_46 (dk_at dksX3_fitsAll_1 22 rfl rfl)
theorem dX3_fitsAll_46 : decode cX3_fitsAll 46 = .ok (.ifCond .le 7, 3) := dk_158 0 7 (dk_at dksX3_fitsAll_2 0 rfl rfl)
theorem dX3_fitsAll_49 : decode cX3_fitsAll 49 = .ok (.iconst 1, 1) := dk_4 (dk_at dksX3_fitsAll_2 3 rfl rfl)
theorem dX3_fitsAll_50 : decode cX3_fitsAll 50 = .ok (.goto 4, 3) := dk_167 0 4 (dk_at dksX3_fitsAll_2 4 rfl rfl)
theorem dX3_fitsAll_53 : decode cX3_fitsAll 53 = .ok (.iconst 0, 1) := dk_3 (dk_at dksX3_fitsAll_2 7 rfl rfl)
theorem dX3_fitsAll_54 : decode cX3_fitsAll 54 = .ok (.istore_n 3, 1) := dk_62 (dk_at dksX3_fitsAll_2 8 rfl rfl)
theorem dX3_fitsAll_55 : decode cX3_fitsAll 55 = .ok (.iinc 4 1, 3) := dk_132 4 1 (dk_at dksX3_fitsAll_2 9 rfl rfl)
theorem dX3_fitsAll_58 : decode cX3_fitsAll 58 = .ok (.goto (-53), 3) := dk_167 255 203 (dk_at dksX3_fitsAll_2 12 rfl rfl)
theorem dX3_fitsAll_61 : decode cX3_fitsAll 61 = .ok (.iload_n 3, 1) := dk_29 (dk_at dksX3_fitsAll_2 15 rfl rfl)
theorem dX3_fitsAll_62 : decode cX3_fitsAll 62 = .ok (.ireturn, 1) := dk_172 (dk_at dksX3_fitsAll_2 16 rfl rfl)
abbrev cX3_level : ByteArray := prog_18_method_58_code
def yX3_level : MethodName := ⟨RX3, "level", "()I"⟩
def dkwX3_level_5 : List UInt8 := [158, 0, 7, 5, 167, 0, 4, 6, 172]
abbrev dktX3_level_5 : List UInt8 := dkwX3_level_5 ++ []
def dkwX3_level_4 : List UInt8 := [132, 2, 1, 132, 4, 1, 167, 255, 201, 132, 3, 1, 167, 255, 182, 28, 154, 0, 7, 4, 167, 0, 12, 27]
abbrev dktX3_level_4 : List UInt8 := dkwX3_level_4 ++ dktX3_level_5
def dkwX3_level_3 : List UInt8 := [154, 0, 6, 167, 0, 22, 42, 29, 21, 4, 182, 1, 52, 153, 0, 9, 132, 1, 1, 167, 0, 6]
abbrev dktX3_level_3 : List UInt8 := dkwX3_level_3 ++ dktX3_level_4
def dkwX3_level_2 : List UInt8 := [180, 0, 20, 29, 184, 0, 247, 162, 0, 48, 42, 180, 0, 20, 16, 17, 7, 29, 104, 96, 21, 4, 96, 46]
abbrev dktX3_level_2 : List UInt8 := dkwX3_level_2 ++ dktX3_level_3
def dkwX3_level_1 : List UInt8 := [3, 172, 3, 60, 3, 61, 3, 62, 29, 42, 180, 0, 20, 3, 46, 162, 0, 70, 3, 54, 4, 21, 4, 42]
abbrev dktX3_level_1 : List UInt8 := dkwX3_level_1 ++ dktX3_level_2
def dkwX3_level_0 : List UInt8 := [42, 182, 0, 174, 42, 180, 0, 183, 154, 0, 9, 42, 4, 182, 0, 177, 172, 42, 182, 1, 33, 153, 0, 5]
abbrev dktX3_level_0 : List UInt8 := dkwX3_level_0 ++ dktX3_level_1
theorem dksX3_level_0 : cX3_level.data.toList.drop 0 = dktX3_level_0 := by decide +kernel
theorem dksX3_level_1 : cX3_level.data.toList.drop 24 = dktX3_level_1 := dk_seg dksX3_level_0 24 rfl rfl
theorem dksX3_level_2 : cX3_level.data.toList.drop 48 = dktX3_level_2 := dk_seg dksX3_level_1 24 rfl rfl
theorem dksX3_level_3 : cX3_level.data.toList.drop 72 = dktX3_level_3 := dk_seg dksX3_level_2 24 rfl rfl
theorem dksX3_level_4 : cX3_level.data.toList.drop 94 = dktX3_level_4 := dk_seg dksX3_level_3 22 rfl rfl
theorem dksX3_level_5 : cX3_level.data.toList.drop 118 = dktX3_level_5 := dk_seg dksX3_level_4 24 rfl rfl
theorem dX3_level_0 : decode cX3_level 0 = .ok (.aload_n 0, 1) := dk_42 (dk_at dksX3_level_0 0 rfl rfl)
theorem dX3_level_1 : decode cX3_level 1 = .ok (.invokevirtual 174, 3) := dk_182 0 174 (dk_at dksX3_level_0 1 rfl rfl)
theorem dX3_level_4 : decode cX3_level 4 = .ok (.aload_n 0, 1) := dk_42 (dk_at dksX3_level_0 4 rfl rfl)
theorem dX3_level_5 : decode cX3_level 5 = .ok (.getfield 183, 3) := dk_180 0 183 (dk_at dksX3_level_0 5 rfl rfl)
theorem dX3_level_8 : decode cX3_level 8 = .ok (.ifCond .ne 9, 3) := dk_154 0 9 (dk_at dksX3_level_0 8 rfl rfl)
theorem dX3_level_11 : decode cX3_level 11 = .ok (.aload_n 0, 1) := dk_42 (dk_at dksX3_level_0 11 rfl rfl)
theorem dX3_level_12 : decode cX3_level 12 = .ok (.iconst 1, 1) := dk_4 (dk_at dksX3_level_0 12 rfl rfl)
theorem dX3_level_13 : decode cX3_level 13 = .ok (.invokevirtual 177, 3) := dk_182 0 177 (dk_at dksX3_level_0 13 rfl rfl)
theorem dX3_level_16 : decode cX3_level 16 = .ok (.ireturn, 1) := dk_172 (dk_at dksX3_level_0 16 rfl rfl)
theorem dX3_level_17 : decode cX3_level 17 = .ok (.aload_n 0, 1) := dk_42 (dk_at dksX3_level_0 17 rfl rfl)
theorem dX3_level_18 : decode cX3_level 18 = .ok (.invokevirtual 289, 3) := dk_182 1 33 (dk_at dksX3_level_0 18 rfl rfl)
theorem dX3_level_21 : decode cX3_level 21 = .ok (.ifCond .eq 5, 3) := dk_153 0 5 (dk_at dksX3_level_0 21 rfl rfl)
theorem dX3_level_24 : decode cX3_level 24 = .ok (.iconst 0, 1) := dk_3 (dk_at dksX3_level_1 0 rfl rfl)
theorem dX3_level_25 : decode cX3_level 25 = .ok (.ireturn, 1) := dk_172 (dk_at dksX3_level_1 1 rfl rfl)
theorem dX3_level_26 : decode cX3_level 26 = .ok (.iconst 0, 1) := dk_3 (dk_at dksX3_level_1 2 rfl rfl)
theorem dX3_level_27 : decode cX3_level 27 = .ok (.istore_n 1, 1) := dk_60 (dk_at dksX3_level_1 3 rfl rfl)
theorem dX3_level_28 : decode cX3_level 28 = .ok (.iconst 0, 1) := dk_3 (dk_at dksX3_level_1 4 rfl rfl)
theorem dX3_level_29 : decode cX3_level 29 = .ok (.istore_n 2, 1) := dk_61 (dk_at dksX3_level_1 5 rfl rfl)
theorem dX3_level_30 : decode cX3_level 30 = .ok (.iconst 0, 1) := dk_3 (dk_at dksX3_level_1 6 rfl rfl)
theorem dX3_level_31 : decode cX3_level 31 = .ok (.istore_n 3, 1) := dk_62 (dk_at dksX3_level_1 7 rfl rfl)
theorem dX3_level_32 : decode cX3_level 32 = .ok (.iload_n 3, 1) := dk_29 (dk_at dksX3_level_1 8 rfl rfl)
theorem dX3_level_33 : decode cX3_level 33 = .ok (.aload_n 0, 1) := dk_42 (dk_at dksX3_level_1 9 rfl rfl)
theorem dX3_level_34 : decode cX3_level 34 = .ok (.getfield 20, 3) := dk_180 0 20 (dk_at dksX3_level_1 10 rfl rfl)
theorem dX3_level_37 : decode cX3_level 37 = .ok (.iconst 0, 1) := dk_3 (dk_at dksX3_level_1 13 rfl rfl)
theorem dX3_level_38 : decode cX3_level 38 = .ok (.iaload, 1) := dk_46 (dk_at dksX3_level_1 14 rfl rfl)
theorem dX3_level_39 : decode cX3_level 39 = .ok (.if_icmp .ge 70, 3) := dk_162 0 70 (dk_at dksX3_level_1 15 rfl rfl)
theorem dX3_level_42 : decode cX3_level 42 = .ok (.iconst 0, 1) := dk_3 (dk_at dksX3_level_1 18 rfl rfl)
theorem dX3_level_43 : decode cX3_level 43 = .ok (.istore 4, 2) := dk_54 4 (dk_at dksX3_level_1 19 rfl rfl)
theorem dX3_level_45 : decode cX3_level 45 = .ok (.iload 4, 2) := dk_21 4 (dk_at dksX3_level_1 21 rfl rfl)
theorem dX3_level_47 : decode cX3_level 47 = .ok (.aload_n 0, 1) := dk_42 (dk_at dksX3_level_1 23 rfl rfl)
theorem dX3_level_48 : decode cX3_level 48 = .ok (.getfield 20, 3) := dk_180 0 20 (dk_at dksX3_level_2 0 rfl rfl)
theorem dX3_level_51 : decode cX3_level 51 = .ok (.iload_n 3, 1) := dk_29 (dk_at dksX3_level_2 3 rfl rfl)
theorem dX3_level_52 : decode cX3_level 52 = .ok (.invokestatic 247, 3) := dk_184 0 247 (dk_at dksX3_level_2 4 rfl rfl)
theorem dX3_level_55 : decode cX3_level 55 = .ok (.if_icmp .ge 48, 3) := dk_162 0 48 (dk_at dksX3_level_2 7 rfl rfl)
theorem dX3_level_58 : decode cX3_level 58 = .ok (.aload_n 0, 1) := dk_42 (dk_at dksX3_level_2 10 rfl rfl)
theorem dX3_level_59 : decode cX3_level 59 = .ok (.getfield 20, 3) := dk_180 0 20 (dk_at dksX3_level_2 11 rfl rfl)
theorem dX3_level_62 : decode cX3_level 62 = .ok (.bipush 17, 2) := dk_16 17 (dk_at dksX3_level_2 14 rfl rfl)
theorem dX3_level_64 : decode cX3_level 64 = .ok (.iconst 4, 1) := dk_7 (dk_at dksX3_level_2 16 rfl rfl)
theorem dX3_level_65 : decode cX3_level 65 = .ok (.iload_n 3, 1) := dk_29 (dk_at dksX3_level_2 17 rfl rfl)
theorem dX3_level_66 : decode cX3_level 66 = .ok (.imul, 1) := dk_104 (dk_at dksX3_level_2 18 rfl rfl)
theorem dX3_level_67 : decode cX3_level 67 = .ok (.iadd, 1) := dk_96 (dk_at dksX3_level_2 19 rfl rfl)
theorem dX3_level_68 : decode cX3_level 68 = .ok (.iload 4, 2) := dk_21 4 (dk_at dksX3_level_2 20 rfl rfl)
theorem dX3_level_70 : decode cX3_level 70 = .ok (.iadd, 1) := dk_96 (dk_at dksX3_level_2 22 rfl rfl)
theorem dX3_level_71 : decode cX3_level 71 = .ok (.iaload, 1) := dk_46 (dk_at dksX3_level_2 23 rfl rfl)
theorem dX3_level_72 : decode cX3_level 72 = .ok (.ifCond .ne 6, 3) := dk_154 0 6 (dk_at dksX3_level_3 0 rfl rfl)
theorem dX3_level_75 : decode cX3_level 75 = .ok (.goto 22, 3) := dk_167 0 22 (dk_at dksX3_level_3 3 rfl rfl)
theorem dX3_level_78 : decode cX3_level 78 = .ok (.aload_n 0, 1) := dk_42 (dk_at dksX3_level_3 6 rfl rfl)
theorem dX3_level_79 : decode cX3_level 79 = .ok (.iload_n 3, 1) := dk_29 (dk_at dksX3_level_3 7 rfl rfl)
theorem dX3_level_80 : decode cX3_level 80 = .ok (.iload 4, 2) := dk_21 4 (dk_at dksX3_level_3 8 rfl rfl)
theorem dX3_level_82 : decode cX3_level 82 = .ok (.invokevirtual 308, 3) := dk_182 1 52 (dk_at dksX3_level_3 10 rfl rfl)
theorem dX3_level_85 : decode cX3_level 85 = .ok (.ifCond .eq 9, 3) := dk_153 0 9 (dk_at dksX3_level_3 13 rfl rfl)
theorem dX3_level_88 : decode cX3_level 88 = .ok (.iinc 1 1, 3) := dk_132 1 1 (dk_at dksX3_level_3 16 rfl rfl)
theorem dX3_level_91 : decode cX3_level 91 = .ok (.goto 6, 3) := dk_167 0 6 (dk_at dksX3_level_3 19 rfl rfl)
theorem dX3_level_94 : decode cX3_level 94 = .ok (.iinc 2 1, 3) := dk_132 2 1 (dk_at dksX3_level_4 0 rfl rfl)
theorem dX3_level_97 : decode cX3_level 97 = .ok (.iinc 4 1, 3) := dk_132 4 1 (dk_at dksX3_level_4 3 rfl rfl)
theorem dX3_level_100 : decode cX3_level 100 = .ok (.goto (-55), 3) := dk_167 255 201 (dk_at dksX3_level_4 6 rfl rfl)
theorem dX3_level_103 : decode cX3_level 103 = .ok (.iinc 3 1, 3) := dk_132 3 1 (dk_at dksX3_level_4 9 rfl rfl)
theorem dX3_level_106 : decode cX3_level 106 = .ok (.goto (-74), 3) := dk_167 255 182 (dk_at dksX3_level_4 12 rfl rfl)
theorem dX3_level_109 : decode cX3_level 109 = .ok (.iload_n 2, 1) := dk_28 (dk_at dksX3_level_4 15 rfl rfl)
theorem dX3_level_110 : decode cX3_level 110 = .ok (.ifCond .ne 7, 3) := dk_154 0 7 (dk_at dksX3_level_4 16 rfl rfl)
theorem dX3_level_113 : decode cX3_level 113 = .ok (.iconst 1, 1) := dk_4 (dk_at dksX3_level_4 19 rfl rfl)
theorem dX3_level_114 : decode cX3_level 114 = .ok (.goto 12, 3) := dk_167 0 12 (dk_at dksX3_level_4 20 rfl rfl)
theorem dX3_level_117 : decode cX3_level 117 = .ok (.iload_n 1, 1) := dk_27 (dk_at dksX3_level_4 23 rfl rfl)
theorem dX3_level_118 : decode cX3_level 118 = .ok (.ifCond .le 7, 3) := dk_158 0 7 (dk_at dksX3_level_5 0 rfl rfl)
theorem dX3_level_121 : decode cX3_level 121 = .ok (.iconst 2, 1) := dk_5 (dk_at dksX3_level_5 3 rfl rfl)
theorem dX3_level_122 : decode cX3_level 122 = .ok (.goto 4, 3) := dk_167 0 4 (dk_at dksX3_level_5 4 rfl rfl)
theorem dX3_level_125 : decode cX3_level 125 = .ok (.iconst 3, 1) := dk_6 (dk_at dksX3_level_5 7 rfl rfl)
theorem dX3_level_126 : decode cX3_level 126 = .ok (.ireturn, 1) := dk_172 (dk_at dksX3_level_5 8 rfl rfl)
abbrev cX3_hidden : ByteArray := prog_18_method_60_code
def yX3_hidden : MethodName := ⟨RX3, "hidden", "()I"⟩
def dkwX3_hidden_1 : List UInt8 := [4, 182, 0, 177, 172]
abbrev dktX3_hidden_1 : List UInt8 := dkwX3_hidden_1 ++ []
def dkwX3_hidden_0 : List UInt8 := [42, 182, 0, 174, 42, 180, 0, 183, 153, 0, 15, 42, 2, 182, 1, 55, 17, 3, 232, 96, 167, 0, 8, 42]
abbrev dktX3_hidden_0 : List UInt8 := dkwX3_hidden_0 ++ dktX3_hidden_1
theorem dksX3_hidden_0 : cX3_hidden.data.toList.drop 0 = dktX3_hidden_0 := by decide +kernel
theorem dksX3_hidden_1 : cX3_hidden.data.toList.drop 24 = dktX3_hidden_1 := dk_seg dksX3_hidden_0 24 rfl rfl
theorem dX3_hidden_0 : decode cX3_hidden 0 = .ok (.aload_n 0, 1) := dk_42 (dk_at dksX3_hidden_0 0 rfl rfl)
theorem dX3_hidden_1 : decode cX3_hidden 1 = .ok (.invokevirtual 174, 3) := dk_182 0 174 (dk_at dksX3_hidden_0 1 rfl rfl)
theorem dX3_hidden_4 : decode cX3_hidden 4 = .ok (.aload_n 0, 1) := dk_42 (dk_at dksX3_hidden_0 4 rfl rfl)
theorem dX3_hidden_5 : decode cX3_hidden 5 = .ok (.getfield 183, 3) := dk_180 0 183 (dk_at dksX3_hidden_0 5 rfl rfl)
theorem dX3_hidden_8 : decode cX3_hidden 8 = .ok (.ifCond .eq 15, 3) := dk_153 0 15 (dk_at dksX3_hidden_0 8 rfl rfl)
theorem dX3_hidden_11 : decode cX3_hidden 11 = .ok (.aload_n 0, 1) := dk_42 (dk_at dksX3_hidden_0 11 rfl rfl)
theorem dX3_hidden_12 : decode cX3_hidden 12 = .ok (.iconst (-1), 1) := dk_2 (dk_at dksX3_hidden_0 12 rfl rfl)
theorem dX3_hidden_13 : decode cX3_hidden 13 = .ok (.invokevirtual 311, 3) := dk_182 1 55 (dk_at dksX3_hidden_0 13 rfl rfl)
theorem dX3_hidden_16 : decode cX3_hidden 16 = .ok (.sipush 1000, 3) := dk_17 3 232 (dk_at dksX3_hidden_0 16 rfl rfl)
theorem dX3_hidden_19 : decode cX3_hidden 19 = .ok (.iadd, 1) := dk_96 (dk_at dksX3_hidden_0 19 rfl rfl)
theorem dX3_hidden_20 : decode cX3_hidden 20 = .ok (.goto 8, 3) := dk_167 0 8 (dk_at dksX3_hidden_0 20 rfl rfl)
theorem dX3_hidden_23 : decode cX3_hidden 23 = .ok (.aload_n 0, 1) := dk_42 (dk_at dksX3_hidden_0 23 rfl rfl)
theorem dX3_hidden_24 : decode cX3_hidden 24 = .ok (.iconst 1, 1) := dk_4 (dk_at dksX3_hidden_1 0 rfl rfl)
theorem dX3_hidden_25 : decode cX3_hidden 25 = .ok (.invokevirtual 177, 3) := dk_182 0 177 (dk_at dksX3_hidden_1 1 rfl rfl)
theorem dX3_hidden_28 : decode cX3_hidden 28 = .ok (.ireturn, 1) := dk_172 (dk_at dksX3_hidden_1 4 rfl rfl)
abbrev cX3_fittingAnswer : ByteArray := prog_18_method_59_code
def yX3_fittingAnswer : MethodName := ⟨RX3, "fittingAnswe\x72", "(I)I"⟩
def dkwX3_fittingAnswer_1 : List UInt8 := [28, 27, 160, 0, 5, 29, 172, 132, 2, 1, 132, 3, 1, 167, 255, 223, 28, 17, 3, 232, 100, 172]
abbrev dktX3_fittingAnswer_1 : List UInt8 := dkwX3_fittingAnswer_1 ++ []
def dkwX3_fittingAnswer_0 : List UInt8 := [3, 61, 3, 62, 29, 42, 182, 0, 251, 162, 0, 31, 42, 29, 2, 182, 1, 46, 154, 0, 6, 167, 0, 13]
abbrev dktX3_fittingAnswer_0 : List UInt8 := dkwX3_fittingAnswer_0 ++ dktX3_fittingAnswer_1
theorem dksX3_fittingAnswer_0 : cX3_fittingAnswer.data.toList.drop 0 = dktX3_fittingAnswer_0 := by decide +kernel
theorem dksX3_fittingAnswer_1 : cX3_fittingAnswer.data.toList.drop 24 = dktX3_fittingAnswer_1 := dk_seg dksX3_fittingAnswer_0 24 rfl rfl
theorem dX3_fittingAnswer_0 : decode cX3_fittingAnswer 0 = .ok (.iconst 0, 1) := dk_3 (dk_at dksX3_fittingAnswer_0 0 rfl rfl)
theorem dX3_fittingAnswer_1 : decode cX3_fittingAnswer 1 = .ok (.istore_n 2, 1) := dk_61 (dk_at dksX3_fittingAnswer_0 1 rfl rfl)
theorem dX3_fittingAnswer_2 : decode cX3_fittingAnswer 2 = .ok (.iconst 0, 1) := dk_3 (dk_at dksX3_fittingAnswer_0 2 rfl rfl)
theorem dX3_fittingAnswer_3 : decode cX3_fittingAnswer 3 = .ok (.istore_n 3, 1) := dk_62 (dk_at dksX3_fittingAnswer_0 3 rfl rfl)
theorem dX3_fittingAnswer_4 : decode cX3_fittingAnswer 4 = .ok (.iload_n 3, 1) := dk_29 (dk_at dksX3_fittingAnswer_0 4 rfl rfl)
theorem dX3_fittingAnswer_5 : decode cX3_fittingAnswer 5 = .ok (.aload_n 0, 1) := dk_42 (dk_at dksX3_fittingAnswer_0 5 rfl rfl)
theorem dX3_fittingAnswer_6 : decode cX3_fittingAnswer 6 = .ok (.invokevirtual 251, 3) := dk_182 0 251 (dk_at dksX3_fittingAnswer_0 6 rfl rfl)
theorem dX3_fittingAnswer_9 : decode cX3_fittingAnswer 9 = .ok (.if_icmp .ge 31, 3) := dk_162 0 31 (dk_at dksX3_fittingAnswer_0 9 rfl rfl)
theorem dX3_fittingAnswer_12 : decode cX3_fittingAnswer 12 = .ok (.aload_n 0, 1) := dk_42 (dk_at dksX3_fittingAnswer_0 12 rfl rfl)
theorem dX3_fittingAnswer_13 : decode cX3_fittingAnswer 13 = .ok (.iload_n 3, 1) := dk_29 (dk_at dksX3_fittingAnswer_0 13 rfl rfl)
theorem dX3_fittingAnswer_14 : decode cX3_fittingAnswer 14 = .ok (.iconst (-1), 1) := dk_2 (dk_at dksX3_fittingAnswer_0 14 rfl rfl)
theorem dX3_fittingAnswer_15 : decode cX3_fittingAnswer 15 = .ok (.invokevirtual 302, 3) := dk_182 1 46 (dk_at dksX3_fittingAnswer_0 15 rfl rfl)
theorem dX3_fittingAnswer_18 : decode cX3_fittingAnswer 18 = .ok (.ifCond .ne 6, 3) := dk_154 0 6 (dk_at dksX3_fittingAnswer_0 18 rfl rfl)
theorem dX3_fittingAnswer_21 : decode cX3_fittingAnswer 21 = .ok (.goto 13, 3) := dk_167 0 13 (dk_at dksX3_fittingAnswer_0 21 rfl rfl)
theorem dX3_fittingAnswer_24 : decode cX3_fittingAnswer 24 = .ok (.iload_n 2, 1) := dk_28 (dk_at dksX3_fittingAnswer_1 0 rfl rfl)
theorem dX3_fittingAnswer_25 : decode cX3_fittingAnswer 25 = .ok (.iload_n 1, 1) := dk_27 (dk_at dksX3_fittingAnswer_1 1 rfl rfl)
theorem dX3_fittingAnswer_26 : decode cX3_fittingAnswer 26 = .ok (.if_icmp .ne 5, 3) := dk_160 0 5 (dk_at dksX3_fittingAnswer_1 2 rfl rfl)
theorem dX3_fittingAnswer_29 : decode cX3_fittingAnswer 29 = .ok (.iload_n 3, 1) := dk_29 (dk_at dksX3_fittingAnswer_1 5 rfl rfl)
theorem dX3_fittingAnswer_30 : decode cX3_fittingAnswer 30 = .ok (.ireturn, 1) := dk_172 (dk_at dksX3_fittingAnswer_1 6 rfl rfl)
theorem dX3_fittingAnswer_31 : decode cX3_fittingAnswer 31 = .ok (.iinc 2 1, 3) := dk_132 2 1 (dk_at dksX3_fittingAnswer_1 7 rfl rfl)
theorem dX3_fittingAnswer_34 : decode cX3_fittingAnswer 34 = .ok (.iinc 3 1, 3) := dk_132 3 1 (dk_at dksX3_fittingAnswer_1 10 rfl rfl)
theorem dX3_fittingAnswer_37 : decode cX3_fittingAnswer 37 = .ok (.goto (-33), 3) := dk_167 255 223 (dk_at dksX3_fittingAnswer_1 13 rfl rfl)
theorem dX3_fittingAnswer_40 : decode cX3_fittingAnswer 40 = .ok (.iload_n 2, 1) := dk_28 (dk_at dksX3_fittingAnswer_1 16 rfl rfl)
theorem dX3_fittingAnswer_41 : decode cX3_fittingAnswer 41 = .ok (.sipush 1000, 3) := dk_17 3 232 (dk_at dksX3_fittingAnswer_1 17 rfl rfl)
theorem dX3_fittingAnswer_44 : decode cX3_fittingAnswer 44 = .ok (.isub, 1) := dk_100 (dk_at dksX3_fittingAnswer_1 20 rfl rfl)
theorem dX3_fittingAnswer_45 : decode cX3_fittingAnswer 45 = .ok (.ireturn, 1) := dk_172 (dk_at dksX3_fittingAnswer_1 21 rfl rfl)
abbrev cX3_answer : ByteArray := prog_18_method_61_code
def yX3_answer : MethodName := ⟨RX3, "answe\x72", "(I)I"⟩
def dkwX3_answer_1 : List UInt8 := [182, 1, 55, 61, 28, 156, 0, 11, 42, 4, 182, 0, 177, 167, 0, 4, 28, 172]
abbrev dktX3_answer_1 : List UInt8 := dkwX3_answer_1 ++ []
def dkwX3_answer_0 : List UInt8 := [42, 182, 0, 174, 42, 180, 0, 183, 153, 0, 7, 27, 156, 0, 9, 42, 4, 182, 0, 177, 172, 42, 27]
abbrev dktX3_answer_0 : List UInt8 := dkwX3_answer_0 ++ dktX3_answer_1
theorem dksX3_answer_0 : cX3_answer.data.toList.drop 0 = dktX3_answer_0 := by decide +kernel
theorem dksX3_answer_1 : cX3_answer.data.toList.drop 23 = dktX3_answer_1 := dk_seg dksX3_answer_0 23 rfl rfl
theorem dX3_answer_0 : decode cX3_answer 0 = .ok (.aload_n 0, 1) := dk_42 (dk_at dksX3_answer_0 0 rfl rfl)
theorem dX3_answer_1 : decode cX3_answer 1 = .ok (.invokevirtual 174, 3) := dk_182 0 174 (dk_at dksX3_answer_0 1 rfl rfl)
theorem dX3_answer_4 : decode cX3_answer 4 = .ok (.aload_n 0, 1) := dk_42 (dk_at dksX3_answer_0 4 rfl rfl)
theorem dX3_answer_5 : decode cX3_answer 5 = .ok (.getfield 183, 3) := dk_180 0 183 (dk_at dksX3_answer_0 5 rfl rfl)
theorem dX3_answer_8 : decode cX3_answer 8 = .ok (.ifCond .eq 7, 3) := dk_153 0 7 (dk_at dksX3_answer_0 8 rfl rfl)
theorem dX3_answer_11 : decode cX3_answer 11 = .ok (.iload_n 1, 1) := dk_27 (dk_at dksX3_answer_0 11 rfl rfl)
theorem dX3_answer_12 : decode cX3_answer 12 = .ok (.ifCond .ge 9, 3) := dk_156 0 9 (dk_at dksX3_answer_0 12 rfl rfl)
theorem dX3_answer_15 : decode cX3_answer 15 = .ok (.aload_n 0, 1) := dk_42 (dk_at dksX3_answer_0 15 rfl rfl)
theorem dX3_answer_16 : decode cX3_answer 16 = .ok (.iconst 1, 1) := dk_4 (dk_at dksX3_answer_0 16 rfl rfl)
theorem dX3_answer_17 : decode cX3_answer 17 = .ok (.invokevirtual 177, 3) := dk_182 0 177 (dk_at dksX3_answer_0 17 rfl rfl)
theorem dX3_answer_20 : decode cX3_answer 20 = .ok (.ireturn, 1) := dk_172 (dk_at dksX3_answer_0 20 rfl rfl)
theorem dX3_answer_21 : decode cX3_answer 21 = .ok (.aload_n 0, 1) := dk_42 (dk_at dksX3_answer_0 21 rfl rfl)
theorem dX3_answer_22 : decode cX3_answer 22 = .ok (.iload_n 1, 1) := dk_27 (dk_at dksX3_answer_0 22 rfl rfl)
theorem dX3_answer_23 : decode cX3_answer 23 = .ok (.invokevirtual 311, 3) := dk_182 1 55 (dk_at dksX3_answer_1 0 rfl rfl)
theorem dX3_answer_26 : decode cX3_answer 26 = .ok (.istore_n 2, 1) := dk_61 (dk_at dksX3_answer_1 3 rfl rfl)
theorem dX3_answer_27 : decode cX3_answer 27 = .ok (.iload_n 2, 1) := dk_28 (dk_at dksX3_answer_1 4 rfl rfl)
theorem dX3_answer_28 : decode cX3_answer 28 = .ok (.ifCond .ge 11, 3) := dk_156 0 11 (dk_at dksX3_answer_1 5 rfl rfl)
theorem dX3_answer_31 : decode cX3_answer 31 = .ok (.aload_n 0, 1) := dk_42 (dk_at dksX3_answer_1 8 rfl rfl)
theorem dX3_answer_32 : decode cX3_answer 32 = .ok (.iconst 1, 1) := dk_4 (dk_at dksX3_answer_1 9 rfl rfl)
theorem dX3_answer_33 : decode cX3_answer 33 = .ok (.invokevirtual 177, 3) := dk_182 0 177 (dk_at dksX3_answer_1 10 rfl rfl)
theorem dX3_answer_36 : decode cX3_answer 36 = .ok (.goto 4, 3) := dk_167 0 4 (dk_at dksX3_answer_1 13 rfl rfl)
theorem dX3_answer_39 : decode cX3_answer 39 = .ok (.iload_n 2, 1) := dk_28 (dk_at dksX3_answer_1 16 rfl rfl)
theorem dX3_answer_40 : decode cX3_answer 40 = .ok (.ireturn, 1) := dk_172 (dk_at dksX3_answer_1 17 rfl rfl)
abbrev cX3_disturbed : ByteArray := prog_18_method_63_code
def yX3_disturbed : MethodName := ⟨RX3, "disturbed", "()I"⟩
def dkwX3_disturbed_4 : List UInt8 := [172]
abbrev dktX3_disturbed_4 : List UInt8 := dkwX3_disturbed_4 ++ []
def dkwX3_disturbed_3 : List UInt8 := [155, 0, 8, 21, 4, 167, 0, 4, 28, 61, 132, 3, 1, 167, 255, 206, 132, 1, 1, 167, 255, 185, 16, 254]
abbrev dktX3_disturbed_3 : List UInt8 := dkwX3_disturbed_3 ++ dktX3_disturbed_4
def dkwX3_disturbed_2 : List UInt8 := [182, 1, 58, 54, 4, 21, 4, 155, 0, 15, 28, 155, 0, 11, 21, 4, 28, 159, 0, 5, 27, 172, 21, 4]
abbrev dktX3_disturbed_2 : List UInt8 := dkwX3_disturbed_2 ++ dktX3_disturbed_3
def dkwX3_disturbed_1 : List UInt8 := [16, 50, 46, 162, 0, 66, 2, 61, 3, 62, 29, 42, 180, 0, 20, 3, 46, 162, 0, 46, 42, 29, 27]
abbrev dktX3_disturbed_1 : List UInt8 := dkwX3_disturbed_1 ++ dktX3_disturbed_2
def dkwX3_disturbed_0 : List UInt8 := [42, 182, 0, 174, 42, 180, 0, 183, 154, 0, 9, 42, 4, 182, 0, 177, 172, 3, 60, 27, 42, 180, 0, 20]
abbrev dktX3_disturbed_0 : List UInt8 := dkwX3_disturbed_0 ++ dktX3_disturbed_1
theorem dksX3_disturbed_0 : cX3_disturbed.data.toList.drop 0 = dktX3_disturbed_0 := by decide +kernel
theorem dksX3_disturbed_1 : cX3_disturbed.data.toList.drop 24 = dktX3_disturbed_1 := dk_seg dksX3_disturbed_0 24 rfl rfl
theorem dksX3_disturbed_2 : cX3_disturbed.data.toList.drop 47 = dktX3_disturbed_2 := dk_seg dksX3_disturbed_1 23 rfl rfl
theorem dksX3_disturbed_3 : cX3_disturbed.data.toList.drop 71 = dktX3_disturbed_3 := dk_seg dksX3_disturbed_2 24 rfl rfl
theorem dksX3_disturbed_4 : cX3_disturbed.data.toList.drop 95 = dktX3_disturbed_4 := dk_seg dksX3_disturbed_3 24 rfl rfl
theorem dX3_disturbed_0 : decode cX3_disturbed 0 = .ok (.aload_n 0, 1) := dk_42 (dk_at dksX3_disturbed_0 0 rfl rfl)
theorem dX3_disturbed_1 : decode cX3_disturbed 1 = .ok (.invokevirtual 174, 3) := dk_182 0 174 (dk_at dksX3_disturbed_0 1 rfl rfl)
theorem dX3_disturbed_4 : decode cX3_disturbed 4 = .ok (.aload_n 0, 1) := dk_42 (dk_at dksX3_disturbed_0 4 rfl rfl)
theorem dX3_disturbed_5 : decode cX3_disturbed 5 = .ok (.getfield 183, 3) := dk_180 0 183 (dk_at dksX3_disturbed_0 5 rfl rfl)
theorem dX3_disturbed_8 : decode cX3_disturbed 8 = .ok (.ifCond .ne 9, 3) := dk_154 0 9 (dk_at dksX3_disturbed_0 8 rfl rfl)
theorem dX3_disturbed_11 : decode cX3_disturbed 11 = .ok (.aload_n 0, 1) := dk_42 (dk_at dksX3_disturbed_0 11 rfl rfl)
theorem dX3_disturbed_12 : decode cX3_disturbed 12 = .ok (.iconst 1, 1) := dk_4 (dk_at dksX3_disturbed_0 12 rfl rfl)
theorem dX3_disturbed_13 : decode cX3_disturbed 13 = .ok (.invokevirtual 177, 3) := dk_182 0 177 (dk_at dksX3_disturbed_0 13 rfl rfl)
theorem dX3_disturbed_16 : decode cX3_disturbed 16 = .ok (.ireturn, 1) := dk_172 (dk_at dksX3_disturbed_0 16 rfl rfl)
theorem dX3_disturbed_17 : decode cX3_disturbed 17 = .ok (.iconst 0, 1) := dk_3 (dk_at dksX3_disturbed_0 17 rfl rfl)
theorem dX3_disturbed_18 : decode cX3_disturbed 18 = .ok (.istore_n 1, 1) := dk_60 (dk_at dksX3_disturbed_0 18 rfl rfl)
theorem dX3_disturbed_19 : decode cX3_disturbed 19 = .ok (.iload_n 1, 1) := dk_27 (dk_at dksX3_disturbed_0 19 rfl rfl)
theorem dX3_disturbed_20 : decode cX3_disturbed 20 = .ok (.aload_n 0, 1) := dk_42 (dk_at dksX3_disturbed_0 20 rfl rfl)
theorem dX3_disturbed_21 : decode cX3_disturbed 21 = .ok (.getfield 20, 3) := dk_180 0 20 (dk_at dksX3_disturbed_0 21 rfl rfl)
theorem dX3_disturbed_24 : decode cX3_disturbed 24 = .ok (.bipush 50, 2) := dk_16 50 (dk_at dksX3_disturbed_1 0 rfl rfl)
theorem dX3_disturbed_26 : decode cX3_disturbed 26 = .ok (.iaload, 1) := dk_46 (dk_at dksX3_disturbed_1 2 rfl rfl)
theorem dX3_disturbed_27 : decode cX3_disturbed 27 = .ok (.if_icmp .ge 66, 3) := dk_162 0 66 (dk_at dksX3_disturbed_1 3 rfl rfl)
theorem dX3_disturbed_30 : decode cX3_disturbed 30 = .ok (.iconst (-1), 1) := dk_2 (dk_at dksX3_disturbed_1 6 rfl rfl)
theorem dX3_disturbed_31 : decode cX3_disturbed 31 = .ok (.istore_n 2, 1) := dk_61 (dk_at dksX3_disturbed_1 7 rfl rfl)
theorem dX3_disturbed_32 : decode cX3_disturbed 32 = .ok (.iconst 0, 1) := dk_3 (dk_at dksX3_disturbed_1 8 rfl rfl)
theorem dX3_disturbed_33 : decode cX3_disturbed 33 = .ok (.istore_n 3, 1) := dk_62 (dk_at dksX3_disturbed_1 9 rfl rfl)
theorem dX3_disturbed_34 : decode cX3_disturbed 34 = .ok (.iload_n 3, 1) := dk_29 (dk_at dksX3_disturbed_1 10 rfl rfl)
theorem dX3_disturbed_35 : decode cX3_disturbed 35 = .ok (.aload_n 0, 1) := dk_42 (dk_at dksX3_disturbed_1 11 rfl rfl)
theorem dX3_disturbed_36 : decode cX3_disturbed 36 = .ok (.getfield 20, 3) := dk_180 0 20 (dk_at dksX3_disturbed_1 12 rfl rfl)
theorem dX3_disturbed_39 : decode cX3_disturbed 39 = .ok (.iconst 0, 1) := dk_3 (dk_at dksX3_disturbed_1 15 rfl rfl)
theorem dX3_disturbed_40 : decode cX3_disturbed 40 = .ok (.iaload, 1) := dk_46 (dk_at dksX3_disturbed_1 16 rfl rfl)
theorem dX3_disturbed_41 : decode cX3_disturbed 41 = .ok (.if_icmp .ge 46, 3) := dk_162 0 46 (dk_at dksX3_disturbed_1 17 rfl rfl)
theorem dX3_disturbed_44 : decode cX3_disturbed 44 = .ok (.aload_n 0, 1) := dk_42 (dk_at dksX3_disturbed_1 20 rfl rfl)
theorem dX3_disturbed_45 : decode cX3_disturbed 45 = .ok (.iload_n 3, 1) := dk_29 (dk_at dksX3_disturbed_1 21 rfl rfl)
theorem dX3_disturbed_46 : decode cX3_disturbed 46 = .ok (.iload_n 1, 1) := dk_27 (dk_at dksX3_disturbed_1 22 rfl rfl)
theorem dX3_disturbed_47 : decode cX3_disturbed 47 = .ok (.invokevirtual 314, 3) := dk_182 1 58 (dk_at dksX3_disturbed_2 0 rfl rfl)
theorem dX3_disturbed_50 : decode cX3_disturbed 50 = .ok (.istore 4, 2) := dk_54 4 (dk_at dksX3_disturbed_2 3 rfl rfl)
theorem dX3_disturbed_52 : decode cX3_disturbed 52 = .ok (.iload 4, 2) := dk_21 4 (dk_at dksX3_disturbed_2 5 rfl rfl)
theorem dX3_disturbed_54 : decode cX3_disturbed 54 = .ok (.ifCond .lt 15, 3) := dk_155 0 15 (dk_at dksX3_disturbed_2 7 rfl rfl)
theorem dX3_disturbed_57 : decode cX3_disturbed 57 = .ok (.iload_n 2, 1) := dk_28 (dk_at dksX3_disturbed_2 10 rfl rfl)
theorem dX3_disturbed_58 : decode cX3_disturbed 58 = .ok (.ifCond .lt 11, 3) := dk_155 0 11 (dk_at dksX3_disturbed_2 11 rfl rfl)
theorem dX3_disturbed_61 : decode cX3_disturbed 61 = .ok (.iload 4, 2) := dk_21 4 (dk_at dksX3_disturbed_2 14 rfl rfl)
theorem dX3_disturbed_63 : decode cX3_disturbed 63 = .ok (.iload_n 2, 1) := dk_28 (dk_at dksX3_disturbed_2 16 rfl rfl)
theorem dX3_disturbed_64 : decode cX3_disturbed 64 = .ok (.if_icmp .eq 5, 3) := dk_159 0 5 (dk_at dksX3_disturbed_2 17 rfl rfl)
theorem dX3_disturbed_67 : decode cX3_disturbed 67 = .ok (.iload_n 1, 1) := dk_27 (dk_at dksX3_disturbed_2 20 rfl rfl)
theorem dX3_disturbed_68 : decode cX3_disturbed 68 = .ok (.ireturn, 1) := dk_172 (dk_at dksX3_disturbed_2 21 rfl rfl)
theorem dX3_disturbed_69 : decode cX3_disturbed 69 = .ok (.iload 4, 2) := dk_21 4 (dk_at dksX3_disturbed_2 22 rfl rfl)
theorem dX3_disturbed_71 : decode cX3_disturbed 71 = .ok (.ifCond .lt 8, 3) := dk_155 0 8 (dk_at dksX3_disturbed_3 0 rfl rfl)
theorem dX3_disturbed_74 : decode cX3_disturbed 74 = .ok (.iload 4, 2) := dk_21 4 (dk_at dksX3_disturbed_3 3 rfl rfl)
theorem dX3_disturbed_76 : decode cX3_disturbed 76 = .ok (.goto 4, 3) := dk_167 0 4 (dk_at dksX3_disturbed_3 5 rfl rfl)
theorem dX3_disturbed_79 : decode cX3_disturbed 79 = .ok (.iload_n 2, 1) := dk_28 (dk_at dksX3_disturbed_3 8 rfl rfl)
theorem dX3_disturbed_80 : decode cX3_disturbed 80 = .ok (.istore_n 2, 1) := dk_61 (dk_at dksX3_disturbed_3 9 rfl rfl)
theorem dX3_disturbed_81 : decode cX3_disturbed 81 = .ok (.iinc 3 1, 3) := dk_132 3 1 (dk_at dksX3_disturbed_3 10 rfl rfl)
theorem dX3_disturbed_84 : decode cX3_disturbed 84 = .ok (.goto (-50), 3) := dk_167 255 206 (dk_at dksX3_disturbed_3 13 rfl rfl)
theorem dX3_disturbed_87 : decode cX3_disturbed 87 = .ok (.iinc 1 1, 3) := dk_132 1 1 (dk_at dksX3_disturbed_3 16 rfl rfl)
theorem dX3_disturbed_90 : decode cX3_disturbed 90 = .ok (.goto (-71), 3) := dk_167 255 185 (dk_at dksX3_disturbed_3 19 rfl rfl)
theorem dX3_disturbed_93 : decode cX3_disturbed 93 = .ok (.bipush (-2), 2) := dk_16 254 (dk_at dksX3_disturbed_3 22 rfl rfl)
theorem dX3_disturbed_95 : decode cX3_disturbed 95 = .ok (.ireturn, 1) := dk_172 (dk_at dksX3_disturbed_4 0 rfl rfl)
abbrev cX3_onesOf : ByteArray := prog_18_method_62_code
def yX3_onesOf : MethodName := ⟨RX3, "onesOf", "(II)I"⟩
def dkwX3_onesOf_4 : List UInt8 := [180, 0, 20, 29, 4, 96, 46, 42, 180, 0, 20, 29, 6, 96, 46, 96, 167, 0, 4, 2, 172]
abbrev dktX3_onesOf_4 : List UInt8 := dkwX3_onesOf_4 ++ []
def dkwX3_onesOf_3 : List UInt8 := [29, 6, 96, 46, 96, 167, 0, 37, 42, 180, 0, 20, 16, 9, 27, 96, 46, 28, 160, 0, 23, 42]
abbrev dktX3_onesOf_3 : List UInt8 := dkwX3_onesOf_3 ++ dktX3_onesOf_4
def dkwX3_onesOf_2 : List UInt8 := [42, 180, 0, 20, 4, 27, 96, 46, 28, 160, 0, 23, 42, 180, 0, 20, 29, 5, 96, 46, 42, 180, 0, 20]
abbrev dktX3_onesOf_2 : List UInt8 := dkwX3_onesOf_2 ++ dktX3_onesOf_3
def dkwX3_onesOf_1 : List UInt8 := [180, 0, 20, 4, 27, 96, 46, 28, 160, 0, 14, 42, 180, 0, 20, 29, 4, 96, 46, 167, 0, 4, 2, 172]
abbrev dktX3_onesOf_1 : List UInt8 := dkwX3_onesOf_1 ++ dktX3_onesOf_2
def dkwX3_onesOf_0 : List UInt8 := [16, 17, 7, 27, 104, 96, 62, 42, 180, 0, 20, 16, 9, 27, 96, 46, 16, 254, 160, 0, 28, 42]
abbrev dktX3_onesOf_0 : List UInt8 := dkwX3_onesOf_0 ++ dktX3_onesOf_1
theorem dksX3_onesOf_0 : cX3_onesOf.data.toList.drop 0 = dktX3_onesOf_0 := by decide +kernel
theorem dksX3_onesOf_1 : cX3_onesOf.data.toList.drop 22 = dktX3_onesOf_1 := dk_seg dksX3_onesOf_0 22 rfl rfl
theorem dksX3_onesOf_2 : cX3_onesOf.data.toList.drop 46 = dktX3_onesOf_2 := dk_seg dksX3_onesOf_1 24 rfl rfl
theorem dksX3_onesOf_3 : cX3_onesOf.data.toList.drop 70 = dktX3_onesOf_3 := dk_seg dksX3_onesOf_2 24 rfl rfl
theorem dksX3_onesOf_4 : cX3_onesOf.data.toList.drop 92 = dktX3_onesOf_4 := dk_seg dksX3_onesOf_3 22 rfl rfl
theorem dX3_onesOf_0 : decode cX3_onesOf 0 = .ok (.bipush 17, 2) := dk_16 17 (dk_at dksX3_onesOf_0 0 rfl rfl)
theorem dX3_onesOf_2 : decode cX3_onesOf 2 = .ok (.iconst 4, 1) := dk_7 (dk_at dksX3_onesOf_0 2 rfl rfl)
theorem dX3_onesOf_3 : decode cX3_onesOf 3 = .ok (.iload_n 1, 1) := dk_27 (dk_at dksX3_onesOf_0 3 rfl rfl)
theorem dX3_onesOf_4 : decode cX3_onesOf 4 = .ok (.imul, 1) := dk_104 (dk_at dksX3_onesOf_0 4 rfl rfl)
theorem dX3_onesOf_5 : decode cX3_onesOf 5 = .ok (.iadd, 1) := dk_96 (dk_at dksX3_onesOf_0 5 rfl rfl)
theorem dX3_onesOf_6 : decode cX3_onesOf 6 = .ok (.istore_n 3, 1) := dk_62 (dk_at dksX3_onesOf_0 6 rfl rfl)
theorem dX3_onesOf_7 : decode cX3_onesOf 7 = .ok (.aload_n 0, 1) := dk_42 (dk_at dksX3_onesOf_0 7 rfl rfl)
theorem dX3_onesOf_8 : decode cX3_onesOf 8 = .ok (.getfield 20, 3) := dk_180 0 20 (dk_at dksX3_onesOf_0 8 rfl rfl)
theorem dX3_onesOf_11 : decode cX3_onesOf 11 = .ok (.bipush 9, 2) := dk_16 9 (dk_at dksX3_onesOf_0 11 rfl rfl)
theorem dX3_onesOf_13 : decode cX3_onesOf 13 = .ok (.iload_n 1, 1) := dk_27 (dk_at dksX3_onesOf_0 13 rfl rfl)
theorem dX3_onesOf_14 : decode cX3_onesOf 14 = .ok (.iadd, 1) := dk_96 (dk_at dksX3_onesOf_0 14 rfl rfl)
theorem dX3_onesOf_15 : decode cX3_onesOf 15 = .ok (.iaload, 1) := dk_46 (dk_at dksX3_onesOf_0 15 rfl rfl)
theorem dX3_onesOf_16 : decode cX3_onesOf 16 = .ok (.bipush (-2), 2) := dk_16 254 (dk_at dksX3_onesOf_0 16 rfl rfl)
theorem dX3_onesOf_18 : decode cX3_onesOf 18 = .ok (.if_icmp .ne 28, 3) := dk_160 0 28 (dk_at dksX3_onesOf_0 18 rfl rfl)
theorem dX3_onesOf_21 : decode cX3_onesOf 21 = .ok (.aload_n 0, 1) := dk_42 (dk_at dksX3_onesOf_0 21 rfl rfl)
theorem dX3_onesOf_22 : decode cX3_onesOf 22 = .ok (.getfield 20, 3) := dk_180 0 20 (dk_at dksX3_onesOf_1 0 rfl rfl)
theorem dX3_onesOf_25 : decode cX3_onesOf 25 = .ok (.iconst 1, 1) := dk_4 (dk_at dksX3_onesOf_1 3 rfl rfl)
theorem dX3_onesOf_26 : decode cX3_onesOf 26 = .ok (.iload_n 1, 1) := dk_27 (dk_at dksX3_onesOf_1 4 rfl rfl)
theorem dX3_onesOf_27 : decode cX3_onesOf 27 = .ok (.iadd, 1) := dk_96 (dk_at dksX3_onesOf_1 5 rfl rfl)
theorem dX3_onesOf_28 : decode cX3_onesOf 28 = .ok (.iaload, 1) := dk_46 (dk_at dksX3_onesOf_1 6 rfl rfl)
theorem dX3_onesOf_29 : decode cX3_onesOf 29 = .ok (.iload_n 2, 1) := dk_28 (dk_at dksX3_onesOf_1 7 rfl rfl)
theorem dX3_onesOf_30 : decode cX3_onesOf 30 = .ok (.if_icmp .ne 14, 3) := dk_160 0 14 (dk_at dksX3_onesOf_1 8 rfl rfl)
theorem dX3_onesOf_33 : decode cX3_onesOf 33 = .ok (.aload_n 0, 1) := dk_42 (dk_at dksX3_onesOf_1 11 rfl rfl)
theorem dX3_onesOf_34 : decode cX3_onesOf 34 = .ok (.getfield 20, 3) := dk_180 0 20 (dk_at dksX3_onesOf_1 12 rfl rfl)
theorem dX3_onesOf_37 : decode cX3_onesOf 37 = .ok (.iload_n 3, 1) := dk_29 (dk_at dksX3_onesOf_1 15 rfl rfl)
theorem dX3_onesOf_38 : decode cX3_onesOf 38 = .ok (.iconst 1, 1) := dk_4 (dk_at dksX3_onesOf_1 16 rfl rfl)
theorem dX3_onesOf_39 : decode cX3_onesOf 39 = .ok (.iadd, 1) := dk_96 (dk_at dksX3_onesOf_1 17 rfl rfl)
theorem dX3_onesOf_40 : decode cX3_onesOf 40 = .ok (.iaload, 1) := dk_46 (dk_at dksX3_onesOf_1 18 rfl rfl)
theorem dX3_onesOf_41 : decode cX3_onesOf 41 = .ok (.goto 4, 3) := dk_167 0 4 (dk_at dksX3_onesOf_1 19 rfl rfl)
theorem dX3_onesOf_44 : decode cX3_onesOf 44 = .ok (.iconst (-1), 1) := dk_2 (dk_at dksX3_onesOf_1 22 rfl rfl)
theorem dX3_onesOf_45 : decode cX3_onesOf 45 = .ok (.ireturn, 1) := dk_172 (dk_at dksX3_onesOf_1 23 rfl rfl)
theorem dX3_onesOf_46 : decode cX3_onesOf 46 = .ok (.aload_n 0, 1) := dk_42 (dk_at dksX3_onesOf_2 0 rfl rfl)
theorem dX3_onesOf_47 : decode cX3_onesOf 47 = .ok (.getfield 20, 3) := dk_180 0 20 (dk_at dksX3_onesOf_2 1 rfl rfl)
theorem dX3_onesOf_50 : decode cX3_onesOf 50 = .ok (.iconst 1, 1) := dk_4 (dk_at dksX3_onesOf_2 4 rfl rfl)
theorem dX3_onesOf_51 : decode cX3_onesOf 51 = .ok (.iload_n 1, 1) := dk_27 (dk_at dksX3_onesOf_2 5 rfl rfl)
theorem dX3_onesOf_52 : decode cX3_onesOf 52 = .ok (.iadd, 1) := dk_96 (dk_at dksX3_onesOf_2 6 rfl rfl)
theorem dX3_onesOf_53 : decode cX3_onesOf 53 = .ok (.iaload, 1) := dk_46 (dk_at dksX3_onesOf_2 7 rfl rfl)
theorem dX3_onesOf_54 : decode cX3_onesOf 54 = .ok (.iload_n 2, 1) := dk_28 (dk_at dksX3_onesOf_2 8 rfl rfl)
theorem dX3_onesOf_55 : decode cX3_onesOf 55 = .ok (.if_icmp .ne 23, 3) := dk_160 0 23 (dk_at dksX3_onesOf_2 9 rfl rfl)
theorem dX3_onesOf_58 : decode cX3_onesOf 58 = .ok (.aload_n 0, 1) := dk_42 (dk_at dksX3_onesOf_2 12 rfl rfl)
theorem dX3_onesOf_59 : decode cX3_onesOf 59 = .ok (.getfield 20, 3) := dk_180 0 20 (dk_at dksX3_onesOf_2 13 rfl rfl)
theorem dX3_onesOf_62 : decode cX3_onesOf 62 = .ok (.iload_n 3, 1) := dk_29 (dk_at dksX3_onesOf_2 16 rfl rfl)
theorem dX3_onesOf_63 : decode cX3_onesOf 63 = .ok (.iconst 2, 1) := dk_5 (dk_at dksX3_onesOf_2 17 rfl rfl)
theorem dX3_onesOf_64 : decode cX3_onesOf 64 = .ok (.iadd, 1) := dk_96 (dk_at dksX3_onesOf_2 18 rfl rfl)
theorem dX3_onesOf_65 : decode cX3_onesOf 65 = .ok (.iaload, 1) := dk_46 (dk_at dksX3_onesOf_2 19 rfl rfl)
theorem dX3_onesOf_66 : decode cX3_onesOf 66 = .ok (.aload_n 0, 1) := dk_42 (dk_at dksX3_onesOf_2 20 rfl rfl)
theorem dX3_onesOf_67 : decode cX3_onesOf 67 = .ok (.getfield 20, 3) := dk_180 0 20 (dk_at dksX3_onesOf_2 21 rfl rfl)
theorem dX3_onesOf_70 : decode cX3_onesOf 70 = .ok (.iload_n 3, 1) := dk_29 (dk_at dksX3_onesOf_3 0 rfl rfl)
theorem dX3_onesOf_71 : decode cX3_onesOf 71 = .ok (.iconst 3, 1) := dk_6 (dk_at dksX3_onesOf_3 1 rfl rfl)
theorem dX3_onesOf_72 : decode cX3_onesOf 72 = .ok (.iadd, 1) := dk_96 (dk_at dksX3_onesOf_3 2 rfl rfl)
theorem dX3_onesOf_73 : decode cX3_onesOf 73 = .ok (.iaload, 1) := dk_46 (dk_at dksX3_onesOf_3 3 rfl rfl)
theorem dX3_onesOf_74 : decode cX3_onesOf 74 = .ok (.iadd, 1) := dk_96 (dk_at dksX3_onesOf_3 4 rfl rfl)
theorem dX3_onesOf_75 : decode cX3_onesOf 75 = .ok (.goto 37, 3) := dk_167 0 37 (dk_at dksX3_onesOf_3 5 rfl rfl)
theorem dX3_onesOf_78 : decode cX3_onesOf 78 = .ok (.aload_n 0, 1) := dk_42 (dk_at dksX3_onesOf_3 8 rfl rfl)
theorem dX3_onesOf_79 : decode cX3_onesOf 79 = .ok (.getfield 20, 3) := dk_180 0 20 (dk_at dksX3_onesOf_3 9 rfl rfl)
theorem dX3_onesOf_82 : decode cX3_onesOf 82 = .ok (.bipush 9, 2) := dk_16 9 (dk_at dksX3_onesOf_3 12 rfl rfl)
theorem dX3_onesOf_84 : decode cX3_onesOf 84 = .ok (.iload_n 1, 1) := dk_27 (dk_at dksX3_onesOf_3 14 rfl rfl)
theorem dX3_onesOf_85 : decode cX3_onesOf 85 = .ok (.iadd, 1) := dk_96 (dk_at dksX3_onesOf_3 15 rfl rfl)
theorem dX3_onesOf_86 : decode cX3_onesOf 86 = .ok (.iaload, 1) := dk_46 (dk_at dksX3_onesOf_3 16 rfl rfl)
theorem dX3_onesOf_87 : decode cX3_onesOf 87 = .ok (.iload_n 2, 1) := dk_28 (dk_at dksX3_onesOf_3 17 rfl rfl)
theorem dX3_onesOf_88 : decode cX3_onesOf 88 = .ok (.if_icmp .ne 23, 3) := dk_160 0 23 (dk_at dksX3_onesOf_3 18 rfl rfl)
theorem dX3_onesOf_91 : decode cX3_onesOf 91 = .ok (.aload_n 0, 1) := dk_42 (dk_at dksX3_onesOf_3 21 rfl rfl)
theorem dX3_onesOf_92 : decode cX3_onesOf 92 = .ok (.getfield 20, 3) := dk_180 0 20 (dk_at dksX3_onesOf_4 0 rfl rfl)
theorem dX3_onesOf_95 : decode cX3_onesOf 95 = .ok (.iload_n 3, 1) := dk_29 (dk_at dksX3_onesOf_4 3 rfl rfl)
theorem dX3_onesOf_96 : decode cX3_onesOf 96 = .ok (.iconst 1, 1) := dk_4 (dk_at dksX3_onesOf_4 4 rfl rfl)
theorem dX3_onesOf_97 : decode cX3_onesOf 97 = .ok (.iadd, 1) := dk_96 (dk_at dksX3_onesOf_4 5 rfl rfl)
theorem dX3_onesOf_98 : decode cX3_onesOf 98 = .ok (.iaload, 1) := dk_46 (dk_at dksX3_onesOf_4 6 rfl rfl)
theorem dX3_onesOf_99 : decode cX3_onesOf 99 = .ok (.aload_n 0, 1) := dk_42 (dk_at dksX3_onesOf_4 7 rfl rfl)
theorem dX3_onesOf_100 : decode cX3_onesOf 100 = .ok (.getfield 20, 3) := dk_180 0 20 (dk_at dksX3_onesOf_4 8 rfl rfl)
theorem dX3_onesOf_103 : decode cX3_onesOf 103 = .ok (.iload_n 3, 1) := dk_29 (dk_at dksX3_onesOf_4 11 rfl rfl)
theorem dX3_onesOf_104 : decode cX3_onesOf 104 = .ok (.iconst 3, 1) := dk_6 (dk_at dksX3_onesOf_4 12 rfl rfl)
theorem dX3_onesOf_105 : decode cX3_onesOf 105 = .ok (.iadd, 1) := dk_96 (dk_at dksX3_onesOf_4 13 rfl rfl)
theorem dX3_onesOf_106 : decode cX3_onesOf 106 = .ok (.iaload, 1) := dk_46 (dk_at dksX3_onesOf_4 14 rfl rfl)
theorem dX3_onesOf_107 : decode cX3_onesOf 107 = .ok (.iadd, 1) := dk_96 (dk_at dksX3_onesOf_4 15 rfl rfl)
theorem dX3_onesOf_108 : decode cX3_onesOf 108 = .ok (.goto 4, 3) := dk_167 0 4 (dk_at dksX3_onesOf_4 16 rfl rfl)
theorem dX3_onesOf_111 : decode cX3_onesOf 111 = .ok (.iconst (-1), 1) := dk_2 (dk_at dksX3_onesOf_4 19 rfl rfl)
theorem dX3_onesOf_112 : decode cX3_onesOf 112 = .ok (.ireturn, 1) := dk_172 (dk_at dksX3_onesOf_4 20 rfl rfl)
abbrev cX3_same : ByteArray := prog_18_method_65_code
def yX3_same : MethodName := ⟨RX3, "same", "(I)I"⟩
def dkwX3_same_1 : List UInt8 := [159, 0, 11, 42, 27, 182, 1, 61, 167, 0, 11, 42, 4, 17, 252, 24, 182, 1, 64, 172]
abbrev dktX3_same_1 : List UInt8 := dkwX3_same_1 ++ []
def dkwX3_same_0 : List UInt8 := [42, 182, 0, 174, 42, 27, 182, 0, 244, 153, 0, 25, 42, 180, 0, 20, 16, 9, 27, 96, 46, 16, 254]
abbrev dktX3_same_0 : List UInt8 := dkwX3_same_0 ++ dktX3_same_1
theorem dksX3_same_0 : cX3_same.data.toList.drop 0 = dktX3_same_0 := by decide +kernel
theorem dksX3_same_1 : cX3_same.data.toList.drop 23 = dktX3_same_1 := dk_seg dksX3_same_0 23 rfl rfl
theorem dX3_same_0 : decode cX3_same 0 = .ok (.aload_n 0, 1) := dk_42 (dk_at dksX3_same_0 0 rfl rfl)
theorem dX3_same_1 : decode cX3_same 1 = .ok (.invokevirtual 174, 3) := dk_182 0 174 (dk_at dksX3_same_0 1 rfl rfl)
theorem dX3_same_4 : decode cX3_same 4 = .ok (.aload_n 0, 1) := dk_42 (dk_at dksX3_same_0 4 rfl rfl)
theorem dX3_same_5 : decode cX3_same 5 = .ok (.iload_n 1, 1) := dk_27 (dk_at dksX3_same_0 5 rfl rfl)
theorem dX3_same_6 : decode cX3_same 6 = .ok (.invokevirtual 244, 3) := dk_182 0 244 (dk_at dksX3_same_0 6 rfl rfl)
theorem dX3_same_9 : decode cX3_same 9 = .ok (.ifCond .eq 25, 3) := dk_153 0 25 (dk_at dksX3_same_0 9 rfl rfl)
theorem dX3_same_12 : decode cX3_same 12 = .ok (.aload_n 0, 1) := dk_42 (dk_at dksX3_same_0 12 rfl rfl)
theorem dX3_same_13 : decode cX3_same 13 = .ok (.getfield 20, 3) := dk_180 0 20 (dk_at dksX3_same_0 13 rfl rfl)
theorem dX3_same_16 : decode cX3_same 16 = .ok (.bipush 9, 2) := dk_16 9 (dk_at dksX3_same_0 16 rfl rfl)
theorem dX3_same_18 : decode cX3_same 18 = .ok (.iload_n 1, 1) := dk_27 (dk_at dksX3_same_0 18 rfl rfl)
theorem dX3_same_19 : decode cX3_same 19 = .ok (.iadd, 1) := dk_96 (dk_at dksX3_same_0 19 rfl rfl)
theorem dX3_same_20 : decode cX3_same 20 = .ok (.iaload, 1) := dk_46 (dk_at dksX3_same_0 20 rfl rfl)
theorem dX3_same_21 : decode cX3_same 21 = .ok (.bipush (-2), 2) := dk_16 254 (dk_at dksX3_same_0 21 rfl rfl)
theorem dX3_same_23 : decode cX3_same 23 = .ok (.if_icmp .eq 11, 3) := dk_159 0 11 (dk_at dksX3_same_1 0 rfl rfl)
theorem dX3_same_26 : decode cX3_same 26 = .ok (.aload_n 0, 1) := dk_42 (dk_at dksX3_same_1 3 rfl rfl)
theorem dX3_same_27 : decode cX3_same 27 = .ok (.iload_n 1, 1) := dk_27 (dk_at dksX3_same_1 4 rfl rfl)
theorem dX3_same_28 : decode cX3_same 28 = .ok (.invokevirtual 317, 3) := dk_182 1 61 (dk_at dksX3_same_1 5 rfl rfl)
theorem dX3_same_31 : decode cX3_same 31 = .ok (.goto 11, 3) := dk_167 0 11 (dk_at dksX3_same_1 8 rfl rfl)
theorem dX3_same_34 : decode cX3_same 34 = .ok (.aload_n 0, 1) := dk_42 (dk_at dksX3_same_1 11 rfl rfl)
theorem dX3_same_35 : decode cX3_same 35 = .ok (.iconst 1, 1) := dk_4 (dk_at dksX3_same_1 12 rfl rfl)
theorem dX3_same_36 : decode cX3_same 36 = .ok (.sipush (-1000), 3) := dk_17 252 24 (dk_at dksX3_same_1 13 rfl rfl)
theorem dX3_same_39 : decode cX3_same 39 = .ok (.invokevirtual 320, 3) := dk_182 1 64 (dk_at dksX3_same_1 16 rfl rfl)
theorem dX3_same_42 : decode cX3_same 42 = .ok (.ireturn, 1) := dk_172 (dk_at dksX3_same_1 19 rfl rfl)
abbrev cX3_sameOf : ByteArray := prog_18_method_64_code
def yX3_sameOf : MethodName := ⟨RX3, "sameOf", "(I)I"⟩
def dkwX3_sameOf_1 : List UInt8 := [180, 0, 20, 28, 4, 96, 46, 100, 42, 180, 0, 20, 28, 5, 96, 46, 100, 172]
abbrev dktX3_sameOf_1 : List UInt8 := dkwX3_sameOf_1 ++ []
def dkwX3_sameOf_0 : List UInt8 := [16, 17, 7, 27, 104, 96, 61, 42, 180, 0, 20, 28, 46, 42, 180, 0, 20, 28, 6, 96, 46, 96, 42]
abbrev dktX3_sameOf_0 : List UInt8 := dkwX3_sameOf_0 ++ dktX3_sameOf_1
theorem dksX3_sameOf_0 : cX3_sameOf.data.toList.drop 0 = dktX3_sameOf_0 := by decide +kernel
theorem dksX3_sameOf_1 : cX3_sameOf.data.toList.drop 23 = dktX3_sameOf_1 := dk_seg dksX3_sameOf_0 23 rfl rfl
theorem dX3_sameOf_0 : decode cX3_sameOf 0 = .ok (.bipush 17, 2) := dk_16 17 (dk_at dksX3_sameOf_0 0 rfl rfl)
theorem dX3_sameOf_2 : decode cX3_sameOf 2 = .ok (.iconst 4, 1) := dk_7 (dk_at dksX3_sameOf_0 2 rfl rfl)
theorem dX3_sameOf_3 : decode cX3_sameOf 3 = .ok (.iload_n 1, 1) := dk_27 (dk_at dksX3_sameOf_0 3 rfl rfl)
theorem dX3_sameOf_4 : decode cX3_sameOf 4 = .ok (.imul, 1) := dk_104 (dk_at dksX3_sameOf_0 4 rfl rfl)
theorem dX3_sameOf_5 : decode cX3_sameOf 5 = .ok (.iadd, 1) := dk_96 (dk_at dksX3_sameOf_0 5 rfl rfl)
theorem dX3_sameOf_6 : decode cX3_sameOf 6 = .ok (.istore_n 2, 1) := dk_61 (dk_at dksX3_sameOf_0 6 rfl rfl)
theorem dX3_sameOf_7 : decode cX3_sameOf 7 = .ok (.aload_n 0, 1) := dk_42 (dk_at dksX3_sameOf_0 7 rfl rfl)
theorem dX3_sameOf_8 : decode cX3_sameOf 8 = .ok (.getfield 20, 3) := dk_180 0 20 (dk_at dksX3_sameOf_0 8 rfl rfl)
theorem dX3_sameOf_11 : decode cX3_sameOf 11 = .ok (.iload_n 2, 1) := dk_28 (dk_at dksX3_sameOf_0 11 rfl rfl)
theorem dX3_sameOf_12 : decode cX3_sameOf 12 = .ok (.iaload, 1) := dk_46 (dk_at dksX3_sameOf_0 12 rfl rfl)
theorem dX3_sameOf_13 : decode cX3_sameOf 13 = .ok (.aload_n 0, 1) := dk_42 (dk_at dksX3_sameOf_0 13 rfl rfl)
theorem dX3_sameOf_14 : decode cX3_sameOf 14 = .ok (.getfield 20, 3) := dk_180 0 20 (dk_at dksX3_sameOf_0 14 rfl rfl)
theorem dX3_sameOf_17 : decode cX3_sameOf 17 = .ok (.iload_n 2, 1) := dk_28 (dk_at dksX3_sameOf_0 17 rfl rfl)
theorem dX3_sameOf_18 : decode cX3_sameOf 18 = .ok (.iconst 3, 1) := dk_6 (dk_at dksX3_sameOf_0 18 rfl rfl)
theorem dX3_sameOf_19 : decode cX3_sameOf 19 = .ok (.iadd, 1) := dk_96 (dk_at dksX3_sameOf_0 19 rfl rfl)
theorem dX3_sameOf_20 : decode cX3_sameOf 20 = .ok (.iaload, 1) := dk_46 (dk_at dksX3_sameOf_0 20 rfl rfl)
theorem dX3_sameOf_21 : decode cX3_sameOf 21 = .ok (.iadd, 1) := dk_96 (dk_at dksX3_sameOf_0 21 rfl rfl)
theorem dX3_sameOf_22 : decode cX3_sameOf 22 = .ok (.aload_n 0, 1) := dk_42 (dk_at dksX3_sameOf_0 22 rfl rfl)
theorem dX3_sameOf_23 : decode cX3_sameOf 23 = .ok (.getfield 20, 3) := dk_180 0 20 (dk_at dksX3_sameOf_1 0 rfl rfl)
theorem dX3_sameOf_26 : decode cX3_sameOf 26 = .ok (.iload_n 2, 1) := dk_28 (dk_at dksX3_sameOf_1 3 rfl rfl)
theorem dX3_sameOf_27 : decode cX3_sameOf 27 = .ok (.iconst 1, 1) := dk_4 (dk_at dksX3_sameOf_1 4 rfl rfl)
theorem dX3_sameOf_28 : decode cX3_sameOf 28 = .ok (.iadd, 1) := dk_96 (dk_at dksX3_sameOf_1 5 rfl rfl)
theorem dX3_sameOf_29 : decode cX3_sameOf 29 = .ok (.iaload, 1) := dk_46 (dk_at dksX3_sameOf_1 6 rfl rfl)
theorem dX3_sameOf_30 : decode cX3_sameOf 30 = .ok (.isub, 1) := dk_100 (dk_at dksX3_sameOf_1 7 rfl rfl)
theorem dX3_sameOf_31 : decode cX3_sameOf 31 = .ok (.aload_n 0, 1) := dk_42 (dk_at dksX3_sameOf_1 8 rfl rfl)
theorem dX3_sameOf_32 : decode cX3_sameOf 32 = .ok (.getfield 20, 3) := dk_180 0 20 (dk_at dksX3_sameOf_1 9 rfl rfl)
theorem dX3_sameOf_35 : decode cX3_sameOf 35 = .ok (.iload_n 2, 1) := dk_28 (dk_at dksX3_sameOf_1 12 rfl rfl)
theorem dX3_sameOf_36 : decode cX3_sameOf 36 = .ok (.iconst 2, 1) := dk_5 (dk_at dksX3_sameOf_1 13 rfl rfl)
theorem dX3_sameOf_37 : decode cX3_sameOf 37 = .ok (.iadd, 1) := dk_96 (dk_at dksX3_sameOf_1 14 rfl rfl)
theorem dX3_sameOf_38 : decode cX3_sameOf 38 = .ok (.iaload, 1) := dk_46 (dk_at dksX3_sameOf_1 15 rfl rfl)
theorem dX3_sameOf_39 : decode cX3_sameOf 39 = .ok (.isub, 1) := dk_100 (dk_at dksX3_sameOf_1 16 rfl rfl)
theorem dX3_sameOf_40 : decode cX3_sameOf 40 = .ok (.ireturn, 1) := dk_172 (dk_at dksX3_sameOf_1 17 rfl rfl)
abbrev cX3_less : ByteArray := prog_18_method_5_code
def yX3_less : MethodName := ⟨RX3, "less", "(II)I"⟩
def dkwX3_less_0 : List UInt8 := [42, 27, 181, 0, 72, 28, 172]
abbrev dktX3_less_0 : List UInt8 := dkwX3_less_0 ++ []
theorem dksX3_less_0 : cX3_less.data.toList.drop 0 = dktX3_less_0 := by decide +kernel
theorem dX3_less_0 : decode cX3_less 0 = .ok (.aload_n 0, 1) := dk_42 (dk_at dksX3_less_0 0 rfl rfl)
theorem dX3_less_1 : decode cX3_less 1 = .ok (.iload_n 1, 1) := dk_27 (dk_at dksX3_less_0 1 rfl rfl)
theorem dX3_less_2 : decode cX3_less 2 = .ok (.putfield 72, 3) := dk_181 0 72 (dk_at dksX3_less_0 2 rfl rfl)
theorem dX3_less_5 : decode cX3_less 5 = .ok (.iload_n 2, 1) := dk_28 (dk_at dksX3_less_0 5 rfl rfl)
theorem dX3_less_6 : decode cX3_less 6 = .ok (.ireturn, 1) := dk_172 (dk_at dksX3_less_0 6 rfl rfl)
abbrev cX3_cycles : ByteArray := prog_18_method_68_code
def yX3_cycles : MethodName := ⟨RX3, "cycles", "()I"⟩
def dkwX3_cycles_1 : List UInt8 := [4, 182, 0, 177, 172]
abbrev dktX3_cycles_1 : List UInt8 := dkwX3_cycles_1 ++ []
def dkwX3_cycles_0 : List UInt8 := [42, 182, 0, 174, 42, 180, 0, 183, 153, 0, 15, 42, 2, 182, 1, 73, 17, 3, 232, 96, 167, 0, 8, 42]
abbrev dktX3_cycles_0 : List UInt8 := dkwX3_cycles_0 ++ dktX3_cycles_1
theorem dksX3_cycles_0 : cX3_cycles.data.toList.drop 0 = dktX3_cycles_0 := by decide +kernel
theorem dksX3_cycles_1 : cX3_cycles.data.toList.drop 24 = dktX3_cycles_1 := dk_seg dksX3_cycles_0 24 rfl rfl
theorem dX3_cycles_0 : decode cX3_cycles 0 = .ok (.aload_n 0, 1) := dk_42 (dk_at dksX3_cycles_0 0 rfl rfl)
theorem dX3_cycles_1 : decode cX3_cycles 1 = .ok (.invokevirtual 174, 3) := dk_182 0 174 (dk_at dksX3_cycles_0 1 rfl rfl)
theorem dX3_cycles_4 : decode cX3_cycles 4 = .ok (.aload_n 0, 1) := dk_42 (dk_at dksX3_cycles_0 4 rfl rfl)
theorem dX3_cycles_5 : decode cX3_cycles 5 = .ok (.getfield 183, 3) := dk_180 0 183 (dk_at dksX3_cycles_0 5 rfl rfl)
theorem dX3_cycles_8 : decode cX3_cycles 8 = .ok (.ifCond .eq 15, 3) := dk_153 0 15 (dk_at dksX3_cycles_0 8 rfl rfl)
theorem dX3_cycles_11 : decode cX3_cycles 11 = .ok (.aload_n 0, 1) := dk_42 (dk_at dksX3_cycles_0 11 rfl rfl)
theorem dX3_cycles_12 : decode cX3_cycles 12 = .ok (.iconst (-1), 1) := dk_2 (dk_at dksX3_cycles_0 12 rfl rfl)
theorem dX3_cycles_13 : decode cX3_cycles 13 = .ok (.invokevirtual 329, 3) := dk_182 1 73 (dk_at dksX3_cycles_0 13 rfl rfl)
theorem dX3_cycles_16 : decode cX3_cycles 16 = .ok (.sipush 1000, 3) := dk_17 3 232 (dk_at dksX3_cycles_0 16 rfl rfl)
theorem dX3_cycles_19 : decode cX3_cycles 19 = .ok (.iadd, 1) := dk_96 (dk_at dksX3_cycles_0 19 rfl rfl)
theorem dX3_cycles_20 : decode cX3_cycles 20 = .ok (.goto 8, 3) := dk_167 0 8 (dk_at dksX3_cycles_0 20 rfl rfl)
theorem dX3_cycles_23 : decode cX3_cycles 23 = .ok (.aload_n 0, 1) := dk_42 (dk_at dksX3_cycles_0 23 rfl rfl)
theorem dX3_cycles_24 : decode cX3_cycles 24 = .ok (.iconst 1, 1) := dk_4 (dk_at dksX3_cycles_1 0 rfl rfl)
theorem dX3_cycles_25 : decode cX3_cycles 25 = .ok (.invokevirtual 177, 3) := dk_182 0 177 (dk_at dksX3_cycles_1 1 rfl rfl)
theorem dX3_cycles_28 : decode cX3_cycles 28 = .ok (.ireturn, 1) := dk_172 (dk_at dksX3_cycles_1 4 rfl rfl)
abbrev cX3_cycleOf : ByteArray := prog_18_method_67_code
def yX3_cycleOf : MethodName := ⟨RX3, "cycleOf", "(I)I"⟩
def dkwX3_cycleOf_2 : List UInt8 := [172]
abbrev dktX3_cycleOf_2 : List UInt8 := dkwX3_cycleOf_2 ++ []
def dkwX3_cycleOf_1 : List UInt8 := [167, 0, 13, 28, 27, 160, 0, 5, 29, 172, 132, 2, 1, 132, 3, 1, 167, 255, 220, 28, 17, 3, 232, 100]
abbrev dktX3_cycleOf_1 : List UInt8 := dkwX3_cycleOf_1 ++ dktX3_cycleOf_2
def dkwX3_cycleOf_0 : List UInt8 := [3, 61, 3, 62, 29, 4, 42, 180, 0, 20, 3, 46, 120, 162, 0, 30, 42, 29, 182, 1, 70, 154, 0, 6]
abbrev dktX3_cycleOf_0 : List UInt8 := dkwX3_cycleOf_0 ++ dktX3_cycleOf_1
theorem dksX3_cycleOf_0 : cX3_cycleOf.data.toList.drop 0 = dktX3_cycleOf_0 := by decide +kernel
theorem dksX3_cycleOf_1 : cX3_cycleOf.data.toList.drop 24 = dktX3_cycleOf_1 := dk_seg dksX3_cycleOf_0 24 rfl rfl
theorem dksX3_cycleOf_2 : cX3_cycleOf.data.toList.drop 48 = dktX3_cycleOf_2 := dk_seg dksX3_cycleOf_1 24 rfl rfl
theorem dX3_cycleOf_0 : decode cX3_cycleOf 0 = .ok (.iconst 0, 1) := dk_3 (dk_at dksX3_cycleOf_0 0 rfl rfl)
theorem dX3_cycleOf_1 : decode cX3_cycleOf 1 = .ok (.istore_n 2, 1) := dk_61 (dk_at dksX3_cycleOf_0 1 rfl rfl)
theorem dX3_cycleOf_2 : decode cX3_cycleOf 2 = .ok (.iconst 0, 1) := dk_3 (dk_at dksX3_cycleOf_0 2 rfl rfl)
theorem dX3_cycleOf_3 : decode cX3_cycleOf 3 = .ok (.istore_n 3, 1) := dk_62 (dk_at dksX3_cycleOf_0 3 rfl rfl)
theorem dX3_cycleOf_4 : decode cX3_cycleOf 4 = .ok (.iload_n 3, 1) := dk_29 (dk_at dksX3_cycleOf_0 4 rfl rfl)
theorem dX3_cycleOf_5 : decode cX3_cycleOf 5 = .ok (.iconst 1, 1) := dk_4 (dk_at dksX3_cycleOf_0 5 rfl rfl)
theorem dX3_cycleOf_6 : decode cX3_cycleOf 6 = .ok (.aload_n 0, 1) := dk_42 (dk_at dksX3_cycleOf_0 6 rfl rfl)
theorem dX3_cycleOf_7 : decode cX3_cycleOf 7 = .ok (.getfield 20, 3) := dk_180 0 20 (dk_at dksX3_cycleOf_0 7 rfl rfl)
theorem dX3_cycleOf_10 : decode cX3_cycleOf 10 = .ok (.iconst 0, 1) := dk_3 (dk_at dksX3_cycleOf_0 10 rfl rfl)
theorem dX3_cycleOf_11 : decode cX3_cycleOf 11 = .ok (.iaload, 1) := dk_46 (dk_at dksX3_cycleOf_0 11 rfl rfl)
theorem dX3_cycleOf_12 : decode cX3_cycleOf 12 = .ok (.ishl, 1) := dk_120 (dk_at dksX3_cycleOf_0 12 rfl rfl)
theorem dX3_cycleOf_13 : decode cX3_cycleOf 13 = .ok (.if_icmp .ge 30, 3) := dk_162 0 30 (dk_at dksX3_cycleOf_0 13 rfl rfl)
theorem dX3_cycleOf_16 : decode cX3_cycleOf 16 = .ok (.aload_n 0, 1) := dk_42 (dk_at dksX3_cycleOf_0 16 rfl rfl)
theorem dX3_cycleOf_17 : decode cX3_cycleOf 17 = .ok (.iload_n 3, 1) := dk_29 (dk_at dksX3_cycleOf_0 17 rfl rfl)
theorem dX3_cycleOf_18 : decode cX3_cycleOf 18 = .ok (.invokevirtual 326, 3) := dk_182 1 70 (dk_at dksX3_cycleOf_0 18 rfl rfl)
theorem dX3_cycleOf_21 : decode cX3_cycleOf 21 = .ok (.ifCond .ne 6, 3) := dk_154 0 6 (dk_at dksX3_cycleOf_0 21 rfl rfl)
theorem dX3_cycleOf_24 : decode cX3_cycleOf 24 = .ok (.goto 13, 3) := dk_167 0 13 (dk_at dksX3_cycleOf_1 0 rfl rfl)
theorem dX3_cycleOf_27 : decode cX3_cycleOf 27 = .ok (.iload_n 2, 1) := dk_28 (dk_at dksX3_cycleOf_1 3 rfl rfl)
theorem dX3_cycleOf_28 : decode cX3_cycleOf 28 = .ok (.iload_n 1, 1) := dk_27 (dk_at dksX3_cycleOf_1 4 rfl rfl)
theorem dX3_cycleOf_29 : decode cX3_cycleOf 29 = .ok (.if_icmp .ne 5, 3) := dk_160 0 5 (dk_at dksX3_cycleOf_1 5 rfl rfl)
theorem dX3_cycleOf_32 : decode cX3_cycleOf 32 = .ok (.iload_n 3, 1) := dk_29 (dk_at dksX3_cycleOf_1 8 rfl rfl)
theorem dX3_cycleOf_33 : decode cX3_cycleOf 33 = .ok (.ireturn, 1) := dk_172 (dk_at dksX3_cycleOf_1 9 rfl rfl)
theorem dX3_cycleOf_34 : decode cX3_cycleOf 34 = .ok (.iinc 2 1, 3) := dk_132 2 1 (dk_at dksX3_cycleOf_1 10 rfl rfl)
theorem dX3_cycleOf_37 : decode cX3_cycleOf 37 = .ok (.iinc 3 1, 3) := dk_132 3 1 (dk_at dksX3_cycleOf_1 13 rfl rfl)
theorem dX3_cycleOf_40 : decode cX3_cycleOf 40 = .ok (.goto (-36), 3) := dk_167 255 220 (dk_at dksX3_cycleOf_1 16 rfl rfl)
theorem dX3_cycleOf_43 : decode cX3_cycleOf 43 = .ok (.iload_n 2, 1) := dk_28 (dk_at dksX3_cycleOf_1 19 rfl rfl)
theorem dX3_cycleOf_44 : decode cX3_cycleOf 44 = .ok (.sipush 1000, 3) := dk_17 3 232 (dk_at dksX3_cycleOf_1 20 rfl rfl)
theorem dX3_cycleOf_47 : decode cX3_cycleOf 47 = .ok (.isub, 1) := dk_100 (dk_at dksX3_cycleOf_1 23 rfl rfl)
theorem dX3_cycleOf_48 : decode cX3_cycleOf 48 = .ok (.ireturn, 1) := dk_172 (dk_at dksX3_cycleOf_2 0 rfl rfl)
abbrev cX3_isCycle : ByteArray := prog_18_method_66_code
def yX3_isCycle : MethodName := ⟨RX3, "isCycle", "(I)Z"⟩
def dkwX3_isCycle_10 : List UInt8 := [21, 4, 28, 160, 0, 7, 4, 167, 0, 4, 3, 172]
abbrev dktX3_isCycle_10 : List UInt8 := dkwX3_isCycle_10 ++ []
def dkwX3_isCycle_9 : List UInt8 := [21, 4, 126, 153, 0, 8, 21, 7, 167, 0, 4, 3, 128, 54, 4, 132, 6, 1, 167, 255, 184, 167, 255, 167]
abbrev dktX3_isCycle_9 : List UInt8 := dkwX3_isCycle_9 ++ dktX3_isCycle_10
def dkwX3_isCycle_8 : List UInt8 := [4, 42, 180, 0, 20, 16, 9, 21, 6, 96, 46, 120, 128, 167, 0, 4, 3, 54, 7, 21, 4, 21, 7]
abbrev dktX3_isCycle_8 : List UInt8 := dkwX3_isCycle_8 ++ dktX3_isCycle_9
def dkwX3_isCycle_7 : List UInt8 := [46, 162, 0, 67, 27, 21, 6, 184, 0, 162, 153, 0, 30, 4, 42, 180, 0, 20, 4, 21, 6, 96, 46, 120]
abbrev dktX3_isCycle_7 : List UInt8 := dkwX3_isCycle_7 ++ dktX3_isCycle_8
def dkwX3_isCycle_6 : List UInt8 := [3, 54, 5, 21, 4, 21, 5, 159, 0, 88, 21, 4, 54, 5, 3, 54, 6, 21, 6, 42, 180, 0, 20, 3]
abbrev dktX3_isCycle_6 : List UInt8 := dkwX3_isCycle_6 ++ dktX3_isCycle_7
def dkwX3_isCycle_5 : List UInt8 := [128, 62, 28, 21, 6, 128, 61, 21, 6, 54, 4, 132, 5, 1, 167, 255, 162, 28, 29, 159, 0, 5, 3, 172]
abbrev dktX3_isCycle_5 : List UInt8 := dkwX3_isCycle_5 ++ dktX3_isCycle_6
def dkwX3_isCycle_4 : List UInt8 := [16, 9, 21, 5, 96, 46, 120, 128, 54, 6, 29, 21, 6, 126, 153, 0, 5, 3, 172, 29, 28, 21, 6, 126]
abbrev dktX3_isCycle_4 : List UInt8 := dkwX3_isCycle_4 ++ dktX3_isCycle_5
def dkwX3_isCycle_3 : List UInt8 := [46, 16, 254, 160, 0, 5, 3, 172, 4, 42, 180, 0, 20, 4, 21, 5, 96, 46, 120, 4, 42, 180, 0, 20]
abbrev dktX3_isCycle_3 : List UInt8 := dkwX3_isCycle_3 ++ dktX3_isCycle_4
def dkwX3_isCycle_2 : List UInt8 := [162, 0, 89, 27, 21, 5, 184, 0, 162, 154, 0, 6, 167, 0, 71, 42, 180, 0, 20, 16, 9, 21, 5, 96]
abbrev dktX3_isCycle_2 : List UInt8 := dkwX3_isCycle_2 ++ dktX3_isCycle_3
def dkwX3_isCycle_1 : List UInt8 := [162, 0, 5, 3, 172, 3, 61, 3, 62, 3, 54, 4, 3, 54, 5, 21, 5, 42, 180, 0, 20, 3, 46]
abbrev dktX3_isCycle_1 : List UInt8 := dkwX3_isCycle_1 ++ dktX3_isCycle_2
def dkwX3_isCycle_0 : List UInt8 := [27, 3, 4, 42, 180, 0, 20, 3, 46, 120, 4, 100, 184, 0, 170, 153, 0, 11, 27, 184, 1, 67, 6]
abbrev dktX3_isCycle_0 : List UInt8 := dkwX3_isCycle_0 ++ dktX3_isCycle_1
theorem dksX3_isCycle_0 : cX3_isCycle.data.toList.drop 0 = dktX3_isCycle_0 := by decide +kernel
theorem dksX3_isCycle_1 : cX3_isCycle.data.toList.drop 23 = dktX3_isCycle_1 := dk_seg dksX3_isCycle_0 23 rfl rfl
theorem dksX3_isCycle_2 : cX3_isCycle.data.toList.drop 46 = dktX3_isCycle_2 := dk_seg dksX3_isCycle_1 23 rfl rfl
theorem dksX3_isCycle_3 : cX3_isCycle.data.toList.drop 70 = dktX3_isCycle_3 := dk_seg dksX3_isCycle_2 24 rfl rfl
theorem dksX3_isCycle_4 : cX3_isCycle.data.toList.drop 94 = dktX3_isCycle_4 := dk_seg dksX3_isCycle_3 24 rfl rfl
theorem dksX3_isCycle_5 : cX3_isCycle.data.toList.drop 118 = dktX3_isCycle_5 := dk_seg dksX3_isCycle_4 24 rfl rfl
theorem dksX3_isCycle_6 : cX3_isCycle.data.toList.drop 142 = dktX3_isCycle_6 := dk_seg dksX3_isCycle_5 24 rfl rfl
theorem dksX3_isCycle_7 : cX3_isCycle.data.toList.drop 166 = dktX3_isCycle_7 := dk_seg dksX3_isCycle_6 24 rfl rfl
theorem dksX3_isCycle_8 : cX3_isCycle.data.toList.drop 190 = dktX3_isCycle_8 := dk_seg dksX3_isCycle_7 24 rfl rfl
theorem dksX3_isCycle_9 : cX3_isCycle.data.toList.drop 213 = dktX3_isCycle_9 := dk_seg dksX3_isCycle_8 23 rfl rfl
theorem dksX3_isCycle_10 : cX3_isCycle.data.toList.drop 237 = dktX3_isCycle_10 := dk_seg dksX3_isCycle_9 24 rfl rfl
theorem dX3_isCycle_0 : decode cX3_isCycle 0 = .ok (.iload_n 1, 1) := dk_27 (dk_at dksX3_isCycle_0 0 rfl rfl)
theorem dX3_isCycle_1 : decode cX3_isCycle 1 = .ok (.iconst 0, 1) := dk_3 (dk_at dksX3_isCycle_0 1 rfl rfl)
theorem dX3_isCycle_2 : decode cX3_isCycle 2 = .ok (.iconst 1, 1) := dk_4 (dk_at dksX3_isCycle_0 2 rfl rfl)
theorem dX3_isCycle_3 : decode cX3_isCycle 3 = .ok (.aload_n 0, 1) := dk_42 (dk_at dksX3_isCycle_0 3 rfl rfl)
theorem dX3_isCycle_4 : decode cX3_isCycle 4 = .ok (.getfield 20, 3) := dk_180 0 20 (dk_at dksX3_isCycle_0 4 rfl rfl)
theorem dX3_isCycle_7 : decode cX3_isCycle 7 = .ok (.iconst 0, 1) := dk_3 (dk_at dksX3_isCycle_0 7 rfl rfl)
theorem dX3_isCycle_8 : decode cX3_isCycle 8 = .ok (.iaload, 1) := dk_46 (dk_at dksX3_isCycle_0 8 rfl rfl)
theorem dX3_isCycle_9 : decode cX3_isCycle 9 = .ok (.ishl, 1) := dk_120 (dk_at dksX3_isCycle_0 9 rfl rfl)
theorem dX3_isCycle_10 : decode cX3_isCycle 10 = .ok (.iconst 1, 1) := dk_4 (dk_at dksX3_isCycle_0 10 rfl rfl)
theorem dX3_isCycle_11 : decode cX3_isCycle 11 = .ok (.isub, 1) := dk_100 (dk_at dksX3_isCycle_0 11 rfl rfl)
theorem dX3_isCycle_12 : decode cX3_isCycle 12 = .ok (.invokestatic 170, 3) := dk_184 0 170 (dk_at dksX3_isCycle_0 12 rfl rfl)
theorem dX3_isCycle_15 : decode cX3_isCycle 15 = .ok (.ifCond .eq 11, 3) := dk_153 0 11 (dk_at dksX3_isCycle_0 15 rfl rfl)
theorem dX3_isCycle_18 : decode cX3_isCycle 18 = .ok (.iload_n 1, 1) := dk_27 (dk_at dksX3_isCycle_0 18 rfl rfl)
theorem dX3_isCycle_19 : decode cX3_isCycle 19 = .ok (.invokestatic 323, 3) := dk_184 1 67 (dk_at dksX3_isCycle_0 19 rfl rfl)
theorem dX3_isCycle_22 : decode cX3_isCycle 22 = .ok (.iconst 3, 1) := dk_6 (dk_at dksX3_isCycle_0 22 rfl rfl)
theorem dX3_isCycle_23 : decode cX3_isCycle 23 = .ok (.if_icmp .ge 5, 3) := dk_162 0 5 (dk_at dksX3_isCycle_1 0 rfl rfl)
theorem dX3_isCycle_26 : decode cX3_isCycle 26 = .ok (.iconst 0, 1) := dk_3 (dk_at dksX3_isCycle_1 3 rfl rfl)
theorem dX3_isCycle_27 : decode cX3_isCycle 27 = .ok (.ireturn, 1) := dk_172 (dk_at dksX3_isCycle_1 4 rfl rfl)
theorem dX3_isCycle_28 : decode cX3_isCycle 28 = .ok (.iconst 0, 1) := dk_3 (dk_at dksX3_isCycle_1 5 rfl rfl)
theorem dX3_isCycle_29 : decode cX3_isCycle 29 = .ok (.istore_n 2, 1) := dk_61 (dk_at dksX3_isCycle_1 6 rfl rfl)
theorem dX3_isCycle_30 : decode cX3_isCycle 30 = .ok (.iconst 0, 1) := dk_3 (dk_at dksX3_isCycle_1 7 rfl rfl)
theorem dX3_isCycle_31 : decode cX3_isCycle 31 = .ok (.istore_n 3, 1) := dk_62 (dk_at dksX3_isCycle_1 8 rfl rfl)
theorem dX3_isCycle_32 : decode cX3_isCycle 32 = .ok (.iconst 0, 1) := dk_3 (dk_at dksX3_isCycle_1 9 rfl rfl)
theorem dX3_isCycle_33 : decode cX3_isCycle 33 = .ok (.istore 4, 2) := dk_54 4 (dk_at dksX3_isCycle_1 10 rfl rfl)
theorem dX3_isCycle_35 : decode cX3_isCycle 35 = .ok (.iconst 0, 1) := dk_3 (dk_at dksX3_isCycle_1 12 rfl rfl)
theorem dX3_isCycle_36 : decode cX3_isCycle 36 = .ok (.istore 5, 2) := dk_54 5 (dk_at dksX3_isCycle_1 13 rfl rfl)
theorem dX3_isCycle_38 : decode cX3_isCycle 38 = .ok (.iload 5, 2) := dk_21 5 (dk_at dksX3_isCycle_1 15 rfl rfl)
theorem dX3_isCycle_40 : decode cX3_isCycle 40 = .ok (.aload_n 0, 1) := dk_42 (dk_at dksX3_isCycle_1 17 rfl rfl)
theorem dX3_isCycle_41 : decode cX3_isCycle 41 = .ok (.getfield 20, 3) := dk_180 0 20 (dk_at dksX3_isCycle_1 18 rfl rfl)
theorem dX3_isCycle_44 : decode cX3_isCycle 44 = .ok (.iconst 0, 1) := dk_3 (dk_at dksX3_isCycle_1 21 rfl rfl)
theorem dX3_isCycle_45 : decode cX3_isCycle 45 = .ok (.iaload, 1) := dk_46 (dk_at dksX3_isCycle_1 22 rfl rfl)
theorem dX3_isCycle_46 : decode cX3_isCycle 46 = .ok (.if_icmp .ge 89, 3) := dk_162 0 89 (dk_at dksX3_isCycle_2 0 rfl rfl)
theorem dX3_isCycle_49 : decode cX3_isCycle 49 = .ok (.iload_n 1, 1) := dk_27 (dk_at dksX3_isCycle_2 3 rfl rfl)
theorem dX3_isCycle_50 : decode cX3_isCycle 50 = .ok (.iload 5, 2) := dk_21 5 (dk_at dksX3_isCycle_2 4 rfl rfl)
theorem dX3_isCycle_52 : decode cX3_isCycle 52 = .ok (.invokestatic 162, 3) := dk_184 0 162 (dk_at dksX3_isCycle_2 6 rfl rfl)
theorem dX3_isCycle_55 : decode cX3_isCycle 55 = .ok (.ifCond .ne 6, 3) := dk_154 0 6 (dk_at dksX3_isCycle_2 9 rfl rfl)
theorem dX3_isCycle_58 : decode cX3_isCycle 58 = .ok (.goto 71, 3) := dk_167 0 71 (dk_at dksX3_isCycle_2 12 rfl rfl)
theorem dX3_isCycle_61 : decode cX3_isCycle 61 = .ok (.aload_n 0, 1) := dk_42 (dk_at dksX3_isCycle_2 15 rfl rfl)
theorem dX3_isCycle_62 : decode cX3_isCycle 62 = .ok (.getfield 20, 3) := dk_180 0 20 (dk_at dksX3_isCycle_2 16 rfl rfl)
theorem dX3_isCycle_65 : decode cX3_isCycle 65 = .ok (.bipush 9, 2) := dk_16 9 (dk_at dksX3_isCycle_2 19 rfl rfl)
theorem dX3_isCycle_67 : decode cX3_isCycle 67 = .ok (.iload 5, 2) := dk_21 5 (dk_at dksX3_isCycle_2 21 rfl rfl)
theorem dX3_isCycle_69 : decode cX3_isCycle 69 = .ok (.iadd, 1) := dk_96 (dk_at dksX3_isCycle_2 23 rfl rfl)
theorem dX3_isCycle_70 : decode cX3_isCycle 70 = .ok (.iaload, 1) := dk_46 (dk_at dksX3_isCycle_3 0 rfl rfl)
theorem dX3_isCycle_71 : decode cX3_isCycle 71 = .ok (.bipush (-2), 2) := dk_16 254 (dk_at dksX3_isCycle_3 1 rfl rfl)
theorem dX3_isCycle_73 : decode cX3_isCycle 73 = .ok (.if_icmp .ne 5, 3) := dk_160 0 5 (dk_at dksX3_isCycle_3 3 rfl rfl)
theorem dX3_isCycle_76 : decode cX3_isCycle 76 = .ok (.iconst 0, 1) := dk_3 (dk_at dksX3_isCycle_3 6 rfl rfl)
theorem dX3_isCycle_77 : decode cX3_isCycle 77 = .ok (.ireturn, 1) := dk_172 (dk_at dksX3_isCycle_3 7 rfl rfl)
theorem dX3_isCycle_78 : decode cX3_isCycle 78 = .ok (.iconst 1, 1) := dk_4 (dk_at dksX3_isCycle_3 8 rfl rfl)
theorem dX3_isCycle_79 : decode cX3_isCycle 79 = .ok (.aload_n 0, 1) := dk_42 (dk_at dksX3_isCycle_3 9 rfl rfl)
theorem dX3_isCycle_80 : decode cX3_isCycle 80 = .ok (.getfield 20, 3) := dk_180 0 20 (dk_at dksX3_isCycle_3 10 rfl rfl)
theorem dX3_isCycle_83 : decode cX3_isCycle 83 = .ok (.iconst 1, 1) := dk_4 (dk_at dksX3_isCycle_3 13 rfl rfl)
theorem dX3_isCycle_84 : decode cX3_isCycle 84 = .ok (.iload 5, 2) := dk_21 5 (dk_at dksX3_isCycle_3 14 rfl rfl)
theorem dX3_isCycle_86 : decode cX3_isCycle 86 = .ok (.iadd, 1) := dk_96 (dk_at dksX3_isCycle_3 16 rfl rfl)
theorem dX3_isCycle_87 : decode cX3_isCycle 87 = .ok (.iaload, 1) := dk_46 (dk_at dksX3_isCycle_3 17 rfl rfl)
theorem dX3_isCycle_88 : decode cX3_isCycle 88 = .ok (.ishl, 1) := dk_120 (dk_at dksX3_isCycle_3 18 rfl rfl)
theorem dX3_isCycle_89 : decode cX3_isCycle 89 = .ok (.iconst 1, 1) := dk_4 (dk_at dksX3_isCycle_3 19 rfl rfl)
theorem dX3_isCycle_90 : decode cX3_isCycle 90 = .ok (.aload_n 0, 1) := dk_42 (dk_at dksX3_isCycle_3 20 rfl rfl)
theorem dX3_isCycle_91 : decode cX3_isCycle 91 = .ok (.getfield 20, 3) := dk_180 0 20 (dk_at dksX3_isCycle_3 21 rfl rfl)
theorem dX3_isCycle_94 : decode cX3_isCycle 94 = .ok (.bipush 9, 2) := dk_16 9 (dk_at dksX3_isCycle_4 0 rfl rfl)
theorem dX3_isCycle_96 : decode cX3_isCycle 96 = .ok (.iload 5, 2) := dk_21 5 (dk_at dksX3_isCycle_4 2 rfl rfl)
theorem dX3_isCycle_98 : decode cX3_isCycle 98 = .ok (.iadd, 1) := dk_96 (dk_at dksX3_isCycle_4 4 rfl rfl)
theorem dX3_isCycle_99 : decode cX3_isCycle 99 = .ok (.iaload, 1) := dk_46 (dk_at dksX3_isCycle_4 5 rfl rfl)
theorem dX3_isCycle_100 : decode cX3_isCycle 100 = .ok (.ishl, 1) := dk_120 (dk_at dksX3_isCycle_4 6 rfl rfl)
theorem dX3_isCycle_101 : decode cX3_isCycle 101 = .ok (.ior, 1) := dk_128 (dk_at dksX3_isCycle_4 7 rfl rfl)
theorem dX3_isCycle_102 : decode cX3_isCycle 102 = .ok (.istore 6, 2) := dk_54 6 (dk_at dksX3_isCycle_4 8 rfl rfl)
theorem dX3_isCycle_104 : decode cX3_isCycle 104 = .ok (.iload_n 3, 1) := dk_29 (dk_at dksX3_isCycle_4 10 rfl rfl)
theorem dX3_isCycle_105 : decode cX3_isCycle 105 = .ok (.iload 6, 2) := dk_21 6 (dk_at dksX3_isCycle_4 11 rfl rfl)
theorem dX3_isCycle_107 : decode cX3_isCycle 107 = .ok (.iand, 1) := dk_126 (dk_at dksX3_isCycle_4 13 rfl rfl)
theorem dX3_isCycle_108 : decode cX3_isCycle 108 = .ok (.ifCond .eq 5, 3) := dk_153 0 5 (dk_at dksX3_isCycle_4 14 rfl rfl)
theorem dX3_isCycle_111 : decode cX3_isCycle 111 = .ok (.iconst 0, 1) := dk_3 (dk_at dksX3_isCycle_4 17 rfl rfl)
theorem dX3_isCycle_112 : decode cX3_isCycle 112 = .ok (.ireturn, 1) := dk_172 (dk_at dksX3_isCycle_4 18 rfl rfl)
theorem dX3_isCycle_113 : decode cX3_isCycle 113 = .ok (.iload_n 3, 1) := dk_29 (dk_at dksX3_isCycle_4 19 rfl rfl)
theorem dX3_isCycle_114 : decode cX3_isCycle 114 = .ok (.iload_n 2, 1) := dk_28 (dk_at dksX3_isCycle_4 20 rfl rfl)
theorem dX3_isCycle_115 : decode cX3_isCycle 115 = .ok (.iload 6, 2) := dk_21 6 (dk_at dksX3_isCycle_4 21 rfl rfl)
theorem dX3_isCycle_117 : decode cX3_isCycle 117 = .ok (.iand, 1) := dk_126 (dk_at dksX3_isCycle_4 23 rfl rfl)
theorem dX3_isCycle_118 : decode cX3_isCycle 118 = .ok (.ior, 1) := dk_128 (dk_at dksX3_isCycle_5 0 rfl rfl)
theorem dX3_isCycle_119 : decode cX3_isCycle 119 = .ok (.istore_n 3, 1) := dk_62 (dk_at dksX3_isCycle_5 1 rfl rfl)
theorem dX3_isCycle_120 : decode cX3_isCycle 120 = .ok (.iload_n 2, 1) := dk_28 (dk_at dksX3_isCycle_5 2 rfl rfl)
theorem dX3_isCycle_121 : decode cX3_isCycle 121 = .ok (.iload 6, 2) := dk_21 6 (dk_at dksX3_isCycle_5 3 rfl rfl)
theorem dX3_isCycle_123 : decode cX3_isCycle 123 = .ok (.ior, 1) := dk_128 (dk_at dksX3_isCycle_5 5 rfl rfl)
theorem dX3_isCycle_124 : decode cX3_isCycle 124 = .ok (.istore_n 2, 1) := dk_61 (dk_at dksX3_isCycle_5 6 rfl rfl)
theorem dX3_isCycle_125 : decode cX3_isCycle 125 = .ok (.iload 6, 2) := dk_21 6 (dk_at dksX3_isCycle_5 7 rfl rfl)
theorem dX3_isCycle_127 : decode cX3_isCycle 127 = .ok (.istore 4, 2) := dk_54 4 (dk_at dksX3_isCycle_5 9 rfl rfl)
theorem dX3_isCycle_129 : decode cX3_isCycle 129 = .ok (.iinc 5 1, 3) := dk_132 5 1 (dk_at dksX3_isCycle_5 11 rfl rfl)
theorem dX3_isCycle_132 : decode cX3_isCycle 132 = .ok (.goto (-94), 3) := dk_167 255 162 (dk_at dksX3_isCycle_5 14 rfl rfl)
theorem dX3_isCycle_135 : decode cX3_isCycle 135 = .ok (.iload_n 2, 1) := dk_28 (dk_at dksX3_isCycle_5 17 rfl rfl)
theorem dX3_isCycle_136 : decode cX3_isCycle 136 = .ok (.iload_n 3, 1) := dk_29 (dk_at dksX3_isCycle_5 18 rfl rfl)
theorem dX3_isCycle_137 : decode cX3_isCycle 137 = .ok (.if_icmp .eq 5, 3) := dk_159 0 5 (dk_at dksX3_isCycle_5 19 rfl rfl)
theorem dX3_isCycle_140 : decode cX3_isCycle 140 = .ok (.iconst 0, 1) := dk_3 (dk_at dksX3_isCycle_5 22 rfl rfl)
theorem dX3_isCycle_141 : decode cX3_isCycle 141 = .ok (.ireturn, 1) := dk_172 (dk_at dksX3_isCycle_5 23 rfl rfl)
theorem dX3_isCycle_142 : decode cX3_isCycle 142 = .ok (.iconst 0, 1) := dk_3 (dk_at dksX3_isCycle_6 0 rfl rfl)
theorem dX3_isCycle_143 : decode cX3_isCycle 143 = .ok (.istore 5, 2) := dk_54 5 (dk_at dksX3_isCycle_6 1 rfl rfl)
theorem dX3_isCycle_145 : decode cX3_isCycle 145 = .ok (.iload 4, 2) := dk_21 4 (dk_at dksX3_isCycle_6 3 rfl rfl)
theorem dX3_isCycle_147 : decode cX3_isCycle 147 = .ok (.iload 5, 2) := dk_21 5 (dk_at dksX3_isCycle_6 5 rfl rfl)
theorem dX3_isCycle_149 : decode cX3_isCycle 149 = .ok (.if_icmp .eq 88, 3) := dk_159 0 88 (dk_at dksX3_isCycle_6 7 rfl rfl)
theorem dX3_isCycle_152 : decode cX3_isCycle 152 = .ok (.iload 4, 2) := dk_21 4 (dk_at dksX3_isCycle_6 10 rfl rfl)
theorem dX3_isCycle_154 : decode cX3_isCycle 154 = .ok (.istore 5, 2) := dk_54 5 (dk_at dksX3_isCycle_6 12 rfl rfl)
theorem dX3_isCycle_156 : decode cX3_isCycle 156 = .ok (.iconst 0, 1) := dk_3 (dk_at dksX3_isCycle_6 14 rfl rfl)
theorem dX3_isCycle_157 : decode cX3_isCycle 157 = .ok (.istore 6, 2) := dk_54 6 (dk_at dksX3_isCycle_6 15 rfl rfl)
theorem dX3_isCycle_159 : decode cX3_isCycle 159 = .ok (.iload 6, 2) := dk_21 6 (dk_at dksX3_isCycle_6 17 rfl rfl)
theorem dX3_isCycle_161 : decode cX3_isCycle 161 = .ok (.aload_n 0, 1) := dk_42 (dk_at dksX3_isCycle_6 19 rfl rfl)
theorem dX3_isCycle_162 : decode cX3_isCycle 162 = .ok (.getfield 20, 3) := dk_180 0 20 (dk_at dksX3_isCycle_6 20 rfl rfl)
theorem dX3_isCycle_165 : decode cX3_isCycle 165 = .ok (.iconst 0, 1) := dk_3 (dk_at dksX3_isCycle_6 23 rfl rfl)
theorem dX3_isCycle_166 : decode cX3_isCycle 166 = .ok (.iaload, 1) := dk_46 (dk_at dksX3_isCycle_7 0 rfl rfl)
theorem dX3_isCycle_167 : decode cX3_isCycle 167 = .ok (.if_icmp .ge 67, 3) := dk_162 0 67 (dk_at dksX3_isCycle_7 1 rfl rfl)
theorem dX3_isCycle_170 : decode cX3_isCycle 170 = .ok (.iload_n 1, 1) := dk_27 (dk_at dksX3_isCycle_7 4 rfl rfl)
theorem dX3_isCycle_171 : decode cX3_isCycle 171 = .ok (.iload 6, 2) := dk_21 6 (dk_at dksX3_isCycle_7 5 rfl rfl)
theorem dX3_isCycle_173 : decode cX3_isCycle 173 = .ok (.invokestatic 162, 3) := dk_184 0 162 (dk_at dksX3_isCycle_7 7 rfl rfl)
theorem dX3_isCycle_176 : decode cX3_isCycle 176 = .ok (.ifCond .eq 30, 3) := dk_153 0 30 (dk_at dksX3_isCycle_7 10 rfl rfl)
theorem dX3_isCycle_179 : decode cX3_isCycle 179 = .ok (.iconst 1, 1) := dk_4 (dk_at dksX3_isCycle_7 13 rfl rfl)
theorem dX3_isCycle_180 : decode cX3_isCycle 180 = .ok (.aload_n 0, 1) := dk_42 (dk_at dksX3_isCycle_7 14 rfl rfl)
theorem dX3_isCycle_181 : decode cX3_isCycle 181 = .ok (.getfield 20, 3) := dk_180 0 20 (dk_at dksX3_isCycle_7 15 rfl rfl)
theorem dX3_isCycle_184 : decode cX3_isCycle 184 = .ok (.iconst 1, 1) := dk_4 (dk_at dksX3_isCycle_7 18 rfl rfl)
theorem dX3_isCycle_185 : decode cX3_isCycle 185 = .ok (.iload 6, 2) := dk_21 6 (dk_at dksX3_isCycle_7 19 rfl rfl)
theorem dX3_isCycle_187 : decode cX3_isCycle 187 = .ok (.iadd, 1) := dk_96 (dk_at dksX3_isCycle_7 21 rfl rfl)
theorem dX3_isCycle_188 : decode cX3_isCycle 188 = .ok (.iaload, 1) := dk_46 (dk_at dksX3_isCycle_7 22 rfl rfl)
theorem dX3_isCycle_189 : decode cX3_isCycle 189 = .ok (.ishl, 1) := dk_120 (dk_at dksX3_isCycle_7 23 rfl rfl)
theorem dX3_isCycle_190 : decode cX3_isCycle 190 = .ok (.iconst 1, 1) := dk_4 (dk_at dksX3_isCycle_8 0 rfl rfl)
theorem dX3_isCycle_191 : decode cX3_isCycle 191 = .ok (.aload_n 0, 1) := dk_42 (dk_at dksX3_isCycle_8 1 rfl rfl)
theorem dX3_isCycle_192 : decode cX3_isCycle 192 = .ok (.getfield 20, 3) := dk_180 0 20 (dk_at dksX3_isCycle_8 2 rfl rfl)
theorem dX3_isCycle_195 : decode cX3_isCycle 195 = .ok (.bipush 9, 2) := dk_16 9 (dk_at dksX3_isCycle_8 5 rfl rfl)
theorem dX3_isCycle_197 : decode cX3_isCycle 197 = .ok (.iload 6, 2) := dk_21 6 (dk_at dksX3_isCycle_8 7 rfl rfl)
theorem dX3_isCycle_199 : decode cX3_isCycle 199 = .ok (.iadd, 1) := dk_96 (dk_at dksX3_isCycle_8 9 rfl rfl)
theorem dX3_isCycle_200 : decode cX3_isCycle 200 = .ok (.iaload, 1) := dk_46 (dk_at dksX3_isCycle_8 10 rfl rfl)
theorem dX3_isCycle_201 : decode cX3_isCycle 201 = .ok (.ishl, 1) := dk_120 (dk_at dksX3_isCycle_8 11 rfl rfl)
theorem dX3_isCycle_202 : decode cX3_isCycle 202 = .ok (.ior, 1) := dk_128 (dk_at dksX3_isCycle_8 12 rfl rfl)
theorem dX3_isCycle_203 : decode cX3_isCycle 203 = .ok (.goto 4, 3) := dk_167 0 4 (dk_at dksX3_isCycle_8 13 rfl rfl)
theorem dX3_isCycle_206 : decode cX3_isCycle 206 = .ok (.iconst 0, 1) := dk_3 (dk_at dksX3_isCycle_8 16 rfl rfl)
theorem dX3_isCycle_207 : decode cX3_isCycle 207 = .ok (.istore 7, 2) := dk_54 7 (dk_at dksX3_isCycle_8 17 rfl rfl)
theorem dX3_isCycle_209 : decode cX3_isCycle 209 = .ok (.iload 4, 2) := dk_21 4 (dk_at dksX3_isCycle_8 19 rfl rfl)
theorem dX3_isCycle_211 : decode cX3_isCycle 211 = .ok (.iload 7, 2) := dk_21 7 (dk_at dksX3_isCycle_8 21 rfl rfl)
theorem dX3_isCycle_213 : decode cX3_isCycle 213 = .ok (.iload 4, 2) := dk_21 4 (dk_at dksX3_isCycle_9 0 rfl rfl)
theorem dX3_isCycle_215 : decode cX3_isCycle 215 = .ok (.iand, 1) := dk_126 (dk_at dksX3_isCycle_9 2 rfl rfl)
theorem dX3_isCycle_216 : decode cX3_isCycle 216 = .ok (.ifCond .eq 8, 3) := dk_153 0 8 (dk_at dksX3_isCycle_9 3 rfl rfl)
theorem dX3_isCycle_219 : decode cX3_isCycle 219 = .ok (.iload 7, 2) := dk_21 7 (dk_at dksX3_isCycle_9 6 rfl rfl)
theorem dX3_isCycle_221 : decode cX3_isCycle 221 = .ok (.goto 4, 3) := dk_167 0 4 (dk_at dksX3_isCycle_9 8 rfl rfl)
theorem dX3_isCycle_224 : decode cX3_isCycle 224 = .ok (.iconst 0, 1) := dk_3 (dk_at dksX3_isCycle_9 11 rfl rfl)
theorem dX3_isCycle_225 : decode cX3_isCycle 225 = .ok (.ior, 1) := dk_128 (dk_at dksX3_isCycle_9 12 rfl rfl)
theorem dX3_isCycle_226 : decode cX3_isCycle 226 = .ok (.istore 4, 2) := dk_54 4 (dk_at dksX3_isCycle_9 13 rfl rfl)
theorem dX3_isCycle_228 : decode cX3_isCycle 228 = .ok (.iinc 6 1, 3) := dk_132 6 1 (dk_at dksX3_isCycle_9 15 rfl rfl)
theorem dX3_isCycle_231 : decode cX3_isCycle 231 = .ok (.goto (-72), 3) := dk_167 255 184 (dk_at dksX3_isCycle_9 18 rfl rfl)
theorem dX3_isCycle_234 : decode cX3_isCycle 234 = .ok (.goto (-89), 3) := dk_167 255 167 (dk_at dksX3_isCycle_9 21 rfl rfl)
theorem dX3_isCycle_237 : decode cX3_isCycle 237 = .ok (.iload 4, 2) := dk_21 4 (dk_at dksX3_isCycle_10 0 rfl rfl)
theorem dX3_isCycle_239 : decode cX3_isCycle 239 = .ok (.iload_n 2, 1) := dk_28 (dk_at dksX3_isCycle_10 2 rfl rfl)
theorem dX3_isCycle_240 : decode cX3_isCycle 240 = .ok (.if_icmp .ne 7, 3) := dk_160 0 7 (dk_at dksX3_isCycle_10 3 rfl rfl)
theorem dX3_isCycle_243 : decode cX3_isCycle 243 = .ok (.iconst 1, 1) := dk_4 (dk_at dksX3_isCycle_10 6 rfl rfl)
theorem dX3_isCycle_244 : decode cX3_isCycle 244 = .ok (.goto 4, 3) := dk_167 0 4 (dk_at dksX3_isCycle_10 7 rfl rfl)
theorem dX3_isCycle_247 : decode cX3_isCycle 247 = .ok (.iconst 0, 1) := dk_3 (dk_at dksX3_isCycle_10 10 rfl rfl)
theorem dX3_isCycle_248 : decode cX3_isCycle 248 = .ok (.ireturn, 1) := dk_172 (dk_at dksX3_isCycle_10 11 rfl rfl)
abbrev cX3_bits : ByteArray := prog_18_method_9_code
def yX3_bits : MethodName := ⟨RX3, "bits", "(I)I"⟩
def dkwX3_bits_1 : List UInt8 := [27, 172]
abbrev dktX3_bits_1 : List UInt8 := dkwX3_bits_1 ++ []
def dkwX3_bits_0 : List UInt8 := [3, 60, 3, 61, 28, 16, 20, 162, 0, 17, 27, 26, 28, 122, 4, 126, 96, 60, 132, 2, 1, 167, 255, 239]
abbrev dktX3_bits_0 : List UInt8 := dkwX3_bits_0 ++ dktX3_bits_1
theorem dksX3_bits_0 : cX3_bits.data.toList.drop 0 = dktX3_bits_0 := by decide +kernel
theorem dksX3_bits_1 : cX3_bits.data.toList.drop 24 = dktX3_bits_1 := dk_seg dksX3_bits_0 24 rfl rfl
theorem dX3_bits_0 : decode cX3_bits 0 = .ok (.iconst 0, 1) := dk_3 (dk_at dksX3_bits_0 0 rfl rfl)
theorem dX3_bits_1 : decode cX3_bits 1 = .ok (.istore_n 1, 1) := dk_60 (dk_at dksX3_bits_0 1 rfl rfl)
theorem dX3_bits_2 : decode cX3_bits 2 = .ok (.iconst 0, 1) := dk_3 (dk_at dksX3_bits_0 2 rfl rfl)
theorem dX3_bits_3 : decode cX3_bits 3 = .ok (.istore_n 2, 1) := dk_61 (dk_at dksX3_bits_0 3 rfl rfl)
theorem dX3_bits_4 : decode cX3_bits 4 = .ok (.iload_n 2, 1) := dk_28 (dk_at dksX3_bits_0 4 rfl rfl)
theorem dX3_bits_5 : decode cX3_bits 5 = .ok (.bipush 20, 2) := dk_16 20 (dk_at dksX3_bits_0 5 rfl rfl)
theorem dX3_bits_7 : decode cX3_bits 7 = .ok (.if_icmp .ge 17, 3) := dk_162 0 17 (dk_at dksX3_bits_0 7 rfl rfl)
theorem dX3_bits_10 : decode cX3_bits 10 = .ok (.iload_n 1, 1) := dk_27 (dk_at dksX3_bits_0 10 rfl rfl)
theorem dX3_bits_11 : decode cX3_bits 11 = .ok (.iload_n 0, 1) := dk_26 (dk_at dksX3_bits_0 11 rfl rfl)
theorem dX3_bits_12 : decode cX3_bits 12 = .ok (.iload_n 2, 1) := dk_28 (dk_at dksX3_bits_0 12 rfl rfl)
theorem dX3_bits_13 : decode cX3_bits 13 = .ok (.ishr, 1) := dk_122 (dk_at dksX3_bits_0 13 rfl rfl)
theorem dX3_bits_14 : decode cX3_bits 14 = .ok (.iconst 1, 1) := dk_4 (dk_at dksX3_bits_0 14 rfl rfl)
theorem dX3_bits_15 : decode cX3_bits 15 = .ok (.iand, 1) := dk_126 (dk_at dksX3_bits_0 15 rfl rfl)
theorem dX3_bits_16 : decode cX3_bits 16 = .ok (.iadd, 1) := dk_96 (dk_at dksX3_bits_0 16 rfl rfl)
theorem dX3_bits_17 : decode cX3_bits 17 = .ok (.istore_n 1, 1) := dk_60 (dk_at dksX3_bits_0 17 rfl rfl)
theorem dX3_bits_18 : decode cX3_bits 18 = .ok (.iinc 2 1, 3) := dk_132 2 1 (dk_at dksX3_bits_0 18 rfl rfl)
theorem dX3_bits_21 : decode cX3_bits 21 = .ok (.goto (-17), 3) := dk_167 255 239 (dk_at dksX3_bits_0 21 rfl rfl)
theorem dX3_bits_24 : decode cX3_bits 24 = .ok (.iload_n 1, 1) := dk_27 (dk_at dksX3_bits_1 0 rfl rfl)
theorem dX3_bits_25 : decode cX3_bits 25 = .ok (.ireturn, 1) := dk_172 (dk_at dksX3_bits_1 1 rfl rfl)
abbrev cX3_cycle : ByteArray := prog_18_method_69_code
def yX3_cycle : MethodName := ⟨RX3, "cycle", "(I)I"⟩
def dkwX3_cycle_1 : List UInt8 := [182, 1, 73, 61, 28, 156, 0, 11, 42, 4, 182, 0, 177, 167, 0, 4, 28, 172]
abbrev dktX3_cycle_1 : List UInt8 := dkwX3_cycle_1 ++ []
def dkwX3_cycle_0 : List UInt8 := [42, 182, 0, 174, 42, 180, 0, 183, 153, 0, 7, 27, 156, 0, 9, 42, 4, 182, 0, 177, 172, 42, 27]
abbrev dktX3_cycle_0 : List UInt8 := dkwX3_cycle_0 ++ dktX3_cycle_1
theorem dksX3_cycle_0 : cX3_cycle.data.toList.drop 0 = dktX3_cycle_0 := by decide +kernel
theorem dksX3_cycle_1 : cX3_cycle.data.toList.drop 23 = dktX3_cycle_1 := dk_seg dksX3_cycle_0 23 rfl rfl
theorem dX3_cycle_0 : decode cX3_cycle 0 = .ok (.aload_n 0, 1) := dk_42 (dk_at dksX3_cycle_0 0 rfl rfl)
theorem dX3_cycle_1 : decode cX3_cycle 1 = .ok (.invokevirtual 174, 3) := dk_182 0 174 (dk_at dksX3_cycle_0 1 rfl rfl)
theorem dX3_cycle_4 : decode cX3_cycle 4 = .ok (.aload_n 0, 1) := dk_42 (dk_at dksX3_cycle_0 4 rfl rfl)
theorem dX3_cycle_5 : decode cX3_cycle 5 = .ok (.getfield 183, 3) := dk_180 0 183 (dk_at dksX3_cycle_0 5 rfl rfl)
theorem dX3_cycle_8 : decode cX3_cycle 8 = .ok (.ifCond .eq 7, 3) := dk_153 0 7 (dk_at dksX3_cycle_0 8 rfl rfl)
theorem dX3_cycle_11 : decode cX3_cycle 11 = .ok (.iload_n 1, 1) := dk_27 (dk_at dksX3_cycle_0 11 rfl rfl)
theorem dX3_cycle_12 : decode cX3_cycle 12 = .ok (.ifCond .ge 9, 3) := dk_156 0 9 (dk_at dksX3_cycle_0 12 rfl rfl)
theorem dX3_cycle_15 : decode cX3_cycle 15 = .ok (.aload_n 0, 1) := dk_42 (dk_at dksX3_cycle_0 15 rfl rfl)
theorem dX3_cycle_16 : decode cX3_cycle 16 = .ok (.iconst 1, 1) := dk_4 (dk_at dksX3_cycle_0 16 rfl rfl)
theorem dX3_cycle_17 : decode cX3_cycle 17 = .ok (.invokevirtual 177, 3) := dk_182 0 177 (dk_at dksX3_cycle_0 17 rfl rfl)
theorem dX3_cycle_20 : decode cX3_cycle 20 = .ok (.ireturn, 1) := dk_172 (dk_at dksX3_cycle_0 20 rfl rfl)
theorem dX3_cycle_21 : decode cX3_cycle 21 = .ok (.aload_n 0, 1) := dk_42 (dk_at dksX3_cycle_0 21 rfl rfl)
theorem dX3_cycle_22 : decode cX3_cycle 22 = .ok (.iload_n 1, 1) := dk_27 (dk_at dksX3_cycle_0 22 rfl rfl)
theorem dX3_cycle_23 : decode cX3_cycle 23 = .ok (.invokevirtual 329, 3) := dk_182 1 73 (dk_at dksX3_cycle_1 0 rfl rfl)
theorem dX3_cycle_26 : decode cX3_cycle 26 = .ok (.istore_n 2, 1) := dk_61 (dk_at dksX3_cycle_1 3 rfl rfl)
theorem dX3_cycle_27 : decode cX3_cycle 27 = .ok (.iload_n 2, 1) := dk_28 (dk_at dksX3_cycle_1 4 rfl rfl)
theorem dX3_cycle_28 : decode cX3_cycle 28 = .ok (.ifCond .ge 11, 3) := dk_156 0 11 (dk_at dksX3_cycle_1 5 rfl rfl)
theorem dX3_cycle_31 : decode cX3_cycle 31 = .ok (.aload_n 0, 1) := dk_42 (dk_at dksX3_cycle_1 8 rfl rfl)
theorem dX3_cycle_32 : decode cX3_cycle 32 = .ok (.iconst 1, 1) := dk_4 (dk_at dksX3_cycle_1 9 rfl rfl)
theorem dX3_cycle_33 : decode cX3_cycle 33 = .ok (.invokevirtual 177, 3) := dk_182 0 177 (dk_at dksX3_cycle_1 10 rfl rfl)
theorem dX3_cycle_36 : decode cX3_cycle 36 = .ok (.goto 4, 3) := dk_167 0 4 (dk_at dksX3_cycle_1 13 rfl rfl)
theorem dX3_cycle_39 : decode cX3_cycle 39 = .ok (.iload_n 2, 1) := dk_28 (dk_at dksX3_cycle_1 16 rfl rfl)
theorem dX3_cycle_40 : decode cX3_cycle 40 = .ok (.ireturn, 1) := dk_172 (dk_at dksX3_cycle_1 17 rfl rfl)
abbrev cX3_excess : ByteArray := prog_18_method_71_code
def yX3_excess : MethodName := ⟨RX3, "excess", "(I)I"⟩
def dkwX3_excess_1 : List UInt8 := [182, 1, 70, 153, 0, 11, 42, 27, 182, 1, 77, 167, 0, 11, 42, 8, 17, 252, 24, 182, 1, 64, 172]
abbrev dktX3_excess_1 : List UInt8 := dkwX3_excess_1 ++ []
def dkwX3_excess_0 : List UInt8 := [42, 182, 0, 174, 42, 180, 0, 183, 154, 0, 12, 42, 4, 17, 252, 24, 182, 1, 64, 172, 42, 27]
abbrev dktX3_excess_0 : List UInt8 := dkwX3_excess_0 ++ dktX3_excess_1
theorem dksX3_excess_0 : cX3_excess.data.toList.drop 0 = dktX3_excess_0 := by decide +kernel
theorem dksX3_excess_1 : cX3_excess.data.toList.drop 22 = dktX3_excess_1 := dk_seg dksX3_excess_0 22 rfl rfl
theorem dX3_excess_0 : decode cX3_excess 0 = .ok (.aload_n 0, 1) := dk_42 (dk_at dksX3_excess_0 0 rfl rfl)
theorem dX3_excess_1 : decode cX3_excess 1 = .ok (.invokevirtual 174, 3) := dk_182 0 174 (dk_at dksX3_excess_0 1 rfl rfl)
theorem dX3_excess_4 : decode cX3_excess 4 = .ok (.aload_n 0, 1) := dk_42 (dk_at dksX3_excess_0 4 rfl rfl)
theorem dX3_excess_5 : decode cX3_excess 5 = .ok (.getfield 183, 3) := dk_180 0 183 (dk_at dksX3_excess_0 5 rfl rfl)
theorem dX3_excess_8 : decode cX3_excess 8 = .ok (.ifCond .ne 12, 3) := dk_154 0 12 (dk_at dksX3_excess_0 8 rfl rfl)
theorem dX3_excess_11 : decode cX3_excess 11 = .ok (.aload_n 0, 1) := dk_42 (dk_at dksX3_excess_0 11 rfl rfl)
theorem dX3_excess_12 : decode cX3_excess 12 = .ok (.iconst 1, 1) := dk_4 (dk_at dksX3_excess_0 12 rfl rfl)
theorem dX3_excess_13 : decode cX3_excess 13 = .ok (.sipush (-1000), 3) := dk_17 252 24 (dk_at dksX3_excess_0 13 rfl rfl)
theorem dX3_excess_16 : decode cX3_excess 16 = .ok (.invokevirtual 320, 3) := dk_182 1 64 (dk_at dksX3_excess_0 16 rfl rfl)
theorem dX3_excess_19 : decode cX3_excess 19 = .ok (.ireturn, 1) := dk_172 (dk_at dksX3_excess_0 19 rfl rfl)
theorem dX3_excess_20 : decode cX3_excess 20 = .ok (.aload_n 0, 1) := dk_42 (dk_at dksX3_excess_0 20 rfl rfl)
theorem dX3_excess_21 : decode cX3_excess 21 = .ok (.iload_n 1, 1) := dk_27 (dk_at dksX3_excess_0 21 rfl rfl)
theorem dX3_excess_22 : decode cX3_excess 22 = .ok (.invokevirtual 326, 3) := dk_182 1 70 (dk_at dksX3_excess_1 0 rfl rfl)
theorem dX3_excess_25 : decode cX3_excess 25 = .ok (.ifCond .eq 11, 3) := dk_153 0 11 (dk_at dksX3_excess_1 3 rfl rfl)
theorem dX3_excess_28 : decode cX3_excess 28 = .ok (.aload_n 0, 1) := dk_42 (dk_at dksX3_excess_1 6 rfl rfl)
theorem dX3_excess_29 : decode cX3_excess 29 = .ok (.iload_n 1, 1) := dk_27 (dk_at dksX3_excess_1 7 rfl rfl)
theorem dX3_excess_30 : decode cX3_excess 30 = .ok (.invokevirtual 333, 3) := dk_182 1 77 (dk_at dksX3_excess_1 8 rfl rfl)
theorem dX3_excess_33 : decode cX3_excess 33 = .ok (.goto 11, 3) := dk_167 0 11 (dk_at dksX3_excess_1 11 rfl rfl)
theorem dX3_excess_36 : decode cX3_excess 36 = .ok (.aload_n 0, 1) := dk_42 (dk_at dksX3_excess_1 14 rfl rfl)
theorem dX3_excess_37 : decode cX3_excess 37 = .ok (.iconst 5, 1) := dk_8 (dk_at dksX3_excess_1 15 rfl rfl)
theorem dX3_excess_38 : decode cX3_excess 38 = .ok (.sipush (-1000), 3) := dk_17 252 24 (dk_at dksX3_excess_1 16 rfl rfl)
theorem dX3_excess_41 : decode cX3_excess 41 = .ok (.invokevirtual 320, 3) := dk_182 1 64 (dk_at dksX3_excess_1 19 rfl rfl)
theorem dX3_excess_44 : decode cX3_excess 44 = .ok (.ireturn, 1) := dk_172 (dk_at dksX3_excess_1 22 rfl rfl)
abbrev cX3_excessOf : ByteArray := prog_18_method_70_code
def yX3_excessOf : MethodName := ⟨RX3, "excessOf", "(I)I"⟩
def dkwX3_excessOf_6 : List UInt8 := [172]
abbrev dktX3_excessOf_6 : List UInt8 := dkwX3_excessOf_6 ++ []
def dkwX3_excessOf_5 : List UInt8 := [28, 61, 132, 3, 1, 167, 255, 142, 28, 42, 180, 0, 20, 16, 49, 46, 27, 184, 1, 67, 5, 100, 104, 100]
abbrev dktX3_excessOf_5 : List UInt8 := dkwX3_excessOf_5 ++ dktX3_excessOf_6
def dkwX3_excessOf_4 : List UInt8 := [167, 0, 4, 3, 96, 54, 4, 132, 5, 1, 167, 255, 199, 21, 4, 28, 164, 0, 8, 21, 4, 167, 0, 4]
abbrev dktX3_excessOf_4 : List UInt8 := dkwX3_excessOf_4 ++ dktX3_excessOf_5
def dkwX3_excessOf_3 : List UInt8 := [184, 0, 162, 153, 0, 13, 42, 21, 5, 182, 1, 61, 116, 167, 0, 13, 42, 21, 5, 182, 1, 61]
abbrev dktX3_excessOf_3 : List UInt8 := dkwX3_excessOf_3 ++ dktX3_excessOf_4
def dkwX3_excessOf_2 : List UInt8 := [180, 0, 20, 3, 46, 162, 0, 52, 21, 4, 27, 21, 5, 184, 0, 162, 153, 0, 31, 29, 21, 5]
abbrev dktX3_excessOf_2 : List UInt8 := dkwX3_excessOf_2 ++ dktX3_excessOf_3
def dkwX3_excessOf_1 : List UInt8 := [154, 0, 94, 29, 184, 1, 67, 5, 112, 154, 0, 6, 167, 0, 82, 3, 54, 4, 3, 54, 5, 21, 5, 42]
abbrev dktX3_excessOf_1 : List UInt8 := dkwX3_excessOf_1 ++ dktX3_excessOf_2
def dkwX3_excessOf_0 : List UInt8 := [19, 1, 76, 61, 3, 62, 29, 4, 42, 180, 0, 20, 3, 46, 120, 162, 0, 108, 29, 27, 2, 130, 126]
abbrev dktX3_excessOf_0 : List UInt8 := dkwX3_excessOf_0 ++ dktX3_excessOf_1
theorem dksX3_excessOf_0 : cX3_excessOf.data.toList.drop 0 = dktX3_excessOf_0 := by decide +kernel
theorem dksX3_excessOf_1 : cX3_excessOf.data.toList.drop 23 = dktX3_excessOf_1 := dk_seg dksX3_excessOf_0 23 rfl rfl
theorem dksX3_excessOf_2 : cX3_excessOf.data.toList.drop 47 = dktX3_excessOf_2 := dk_seg dksX3_excessOf_1 24 rfl rfl
theorem dksX3_excessOf_3 : cX3_excessOf.data.toList.drop 69 = dktX3_excessOf_3 := dk_seg dksX3_excessOf_2 22 rfl rfl
theorem dksX3_excessOf_4 : cX3_excessOf.data.toList.drop 91 = dktX3_excessOf_4 := dk_seg dksX3_excessOf_3 22 rfl rfl
theorem dksX3_excessOf_5 : cX3_excessOf.data.toList.drop 115 = dktX3_excessOf_5 := dk_seg dksX3_excessOf_4 24 rfl rfl
theorem dksX3_excessOf_6 : cX3_excessOf.data.toList.drop 139 = dktX3_excessOf_6 := dk_seg dksX3_excessOf_5 24 rfl rfl
theorem dX3_excessOf_0 : decode cX3_excessOf 0 = .ok (.ldc_w 332, 3) := dk_19 1 76 (dk_at dksX3_excessOf_0 0 rfl rfl)
theorem dX3_excessOf_3 : decode cX3_excessOf 3 = .ok (.istore_n 2, 1) := dk_61 (dk_at dksX3_excessOf_0 3 rfl rfl)
theorem dX3_excessOf_4 : decode cX3_excessOf 4 = .ok (.iconst 0, 1) := dk_3 (dk_at dksX3_excessOf_0 4 rfl rfl)
theorem dX3_excessOf_5 : decode cX3_excessOf 5 = .ok (.istore_n 3, 1) := dk_62 (dk_at dksX3_excessOf_0 5 rfl rfl)
theorem dX3_excessOf_6 : decode cX3_excessOf 6 = .ok (.iload_n 3, 1) := dk_29 (dk_at dksX3_excessOf_0 6 rfl rfl)
theorem dX3_excessOf_7 : decode cX3_excessOf 7 = .ok (.iconst 1, 1) := dk_4 (dk_at dksX3_excessOf_0 7 rfl rfl)
theorem dX3_excessOf_8 : decode cX3_excessOf 8 = .ok (.aload_n 0, 1) := dk_42 (dk_at dksX3_excessOf_0 8 rfl rfl)
theorem dX3_excessOf_9 : decode cX3_excessOf 9 = .ok (.getfield 20, 3) := dk_180 0 20 (dk_at dksX3_excessOf_0 9 rfl rfl)
theorem dX3_excessOf_12 : decode cX3_excessOf 12 = .ok (.iconst 0, 1) := dk_3 (dk_at dksX3_excessOf_0 12 rfl rfl)
theorem dX3_excessOf_13 : decode cX3_excessOf 13 = .ok (.iaload, 1) := dk_46 (dk_at dksX3_excessOf_0 13 rfl rfl)
theorem dX3_excessOf_14 : decode cX3_excessOf 14 = .ok (.ishl, 1) := dk_120 (dk_at dksX3_excessOf_0 14 rfl rfl)
theorem dX3_excessOf_15 : decode cX3_excessOf 15 = .ok (.if_icmp .ge 108, 3) := dk_162 0 108 (dk_at dksX3_excessOf_0 15 rfl rfl)
theorem dX3_excessOf_18 : decode cX3_excessOf 18 = .ok (.iload_n 3, 1) := dk_29 (dk_at dksX3_excessOf_0 18 rfl rfl)
theorem dX3_excessOf_19 : decode cX3_excessOf 19 = .ok (.iload_n 1, 1) := dk_27 (dk_at dksX3_excessOf_0 19 rfl rfl)
theorem dX3_excessOf_20 : decode cX3_excessOf 20 = .ok (.iconst (-1), 1) := dk_2 (dk_at dksX3_excessOf_0 20 rfl rfl)
theorem dX3_excessOf_21 : decode cX3_excessOf 21 = .ok (.ixor, 1) := dk_130 (dk_at dksX3_excessOf_0 21 rfl rfl)
theorem dX3_excessOf_22 : decode cX3_excessOf 22 = .ok (.iand, 1) := dk_126 (dk_at dksX3_excessOf_0 22 rfl rfl)
theorem dX3_excessOf_23 : decode cX3_excessOf 23 = .ok (.ifCond .ne 94, 3) := dk_154 0 94 (dk_at dksX3_excessOf_1 0 rfl rfl)
theorem dX3_excessOf_26 : decode cX3_excessOf 26 = .ok (.iload_n 3, 1) := dk_29 (dk_at dksX3_excessOf_1 3 rfl rfl)
theorem dX3_excessOf_27 : decode cX3_excessOf 27 = .ok (.invokestatic 323, 3) := dk_184 1 67 (dk_at dksX3_excessOf_1 4 rfl rfl)
theorem dX3_excessOf_30 : decode cX3_excessOf 30 = .ok (.iconst 2, 1) := dk_5 (dk_at dksX3_excessOf_1 7 rfl rfl)
theorem dX3_excessOf_31 : decode cX3_excessOf 31 = .ok (.irem, 1) := dk_112 (dk_at dksX3_excessOf_1 8 rfl rfl)
theorem dX3_excessOf_32 : decode cX3_excessOf 32 = .ok (.ifCond .ne 6, 3) := dk_154 0 6 (dk_at dksX3_excessOf_1 9 rfl rfl)
theorem dX3_excessOf_35 : decode cX3_excessOf 35 = .ok (.goto 82, 3) := dk_167 0 82 (dk_at dksX3_excessOf_1 12 rfl rfl)
theorem dX3_excessOf_38 : decode cX3_excessOf 38 = .ok (.iconst 0, 1) := dk_3 (dk_at dksX3_excessOf_1 15 rfl rfl)
theorem dX3_excessOf_39 : decode cX3_excessOf 39 = .ok (.istore 4, 2) := dk_54 4 (dk_at dksX3_excessOf_1 16 rfl rfl)
theorem dX3_excessOf_41 : decode cX3_excessOf 41 = .ok (.iconst 0, 1) := dk_3 (dk_at dksX3_excessOf_1 18 rfl rfl)
theorem dX3_excessOf_42 : decode cX3_excessOf 42 = .ok (.istore 5, 2) := dk_54 5 (dk_at dksX3_excessOf_1 19 rfl rfl)
theorem dX3_excessOf_44 : decode cX3_excessOf 44 = .ok (.iload 5, 2) := dk_21 5 (dk_at dksX3_excessOf_1 21 rfl rfl)
theorem dX3_excessOf_46 : decode cX3_excessOf 46 = .ok (.aload_n 0, 1) := dk_42 (dk_at dksX3_excessOf_1 23 rfl rfl)
theorem dX3_excessOf_47 : decode cX3_excessOf 47 = .ok (.getfield 20, 3) := dk_180 0 20 (dk_at dksX3_excessOf_2 0 rfl rfl)
theorem dX3_excessOf_50 : decode cX3_excessOf 50 = .ok (.iconst 0, 1) := dk_3 (dk_at dksX3_excessOf_2 3 rfl rfl)
theorem dX3_excessOf_51 : decode cX3_excessOf 51 = .ok (.iaload, 1) := dk_46 (dk_at dksX3_excessOf_2 4 rfl rfl)
theorem dX3_excessOf_52 : decode cX3_excessOf 52 = .ok (.if_icmp .ge 52, 3) := dk_162 0 52 (dk_at dksX3_excessOf_2 5 rfl rfl)
theorem dX3_excessOf_55 : decode cX3_excessOf 55 = .ok (.iload 4, 2) := dk_21 4 (dk_at dksX3_excessOf_2 8 rfl rfl)
theorem dX3_excessOf_57 : decode cX3_excessOf 57 = .ok (.iload_n 1, 1) := dk_27 (dk_at dksX3_excessOf_2 10 rfl rfl)
theorem dX3_excessOf_58 : decode cX3_excessOf 58 = .ok (.iload 5, 2) := dk_21 5 (dk_at dksX3_excessOf_2 11 rfl rfl)
theorem dX3_excessOf_60 : decode cX3_excessOf 60 = .ok (.invokestatic 162, 3) := dk_184 0 162 (dk_at dksX3_excessOf_2 13 rfl rfl)
theorem dX3_excessOf_63 : decode cX3_excessOf 63 = .ok (.ifCond .eq 31, 3) := dk_153 0 31 (dk_at dksX3_excessOf_2 16 rfl rfl)
theorem dX3_excessOf_66 : decode cX3_excessOf 66 = .ok (.iload_n 3, 1) := dk_29 (dk_at dksX3_excessOf_2 19 rfl rfl)
theorem dX3_excessOf_67 : decode cX3_excessOf 67 = .ok (.iload 5, 2) := dk_21 5 (dk_at dksX3_excessOf_2 20 rfl rfl)
theorem dX3_excessOf_69 : decode cX3_excessOf 69 = .ok (.invokestatic 162, 3) := dk_184 0 162 (dk_at dksX3_excessOf_3 0 rfl rfl)
theorem dX3_excessOf_72 : decode cX3_excessOf 72 = .ok (.ifCond .eq 13, 3) := dk_153 0 13 (dk_at dksX3_excessOf_3 3 rfl rfl)
theorem dX3_excessOf_75 : decode cX3_excessOf 75 = .ok (.aload_n 0, 1) := dk_42 (dk_at dksX3_excessOf_3 6 rfl rfl)
theorem dX3_excessOf_76 : decode cX3_excessOf 76 = .ok (.iload 5, 2) := dk_21 5 (dk_at dksX3_excessOf_3 7 rfl rfl)
theorem dX3_excessOf_78 : decode cX3_excessOf 78 = .ok (.invokevirtual 317, 3) := dk_182 1 61 (dk_at dksX3_excessOf_3 9 rfl rfl)
theorem dX3_excessOf_81 : decode cX3_excessOf 81 = .ok (.ineg, 1) := dk_116 (dk_at dksX3_excessOf_3 12 rfl rfl)
theorem dX3_excessOf_82 : decode cX3_excessOf 82 = .ok (.goto 13, 3) := dk_167 0 13 (dk_at dksX3_excessOf_3 13 rfl rfl)
theorem dX3_excessOf_85 : decode cX3_excessOf 85 = .ok (.aload_n 0, 1) := dk_42 (dk_at dksX3_excessOf_3 16 rfl rfl)
theorem dX3_excessOf_86 : decode cX3_excessOf 86 = .ok (.iload 5, 2) := dk_21 5 (dk_at dksX3_excessOf_3 17 rfl rfl)
theorem dX3_excessOf_88 : decode cX3_excessOf 88 = .ok (.invokevirtual 317, 3) := dk_182 1 61 (dk_at dksX3_excessOf_3 19 rfl rfl)
theorem dX3_excessOf_91 : decode cX3_excessOf 91 = .ok (.goto 4, 3) := dk_167 0 4 (dk_at dksX3_excessOf_4 0 rfl rfl)
theorem dX3_excessOf_94 : decode cX3_excessOf 94 = .ok (.iconst 0, 1) := dk_3 (dk_at dksX3_excessOf_4 3 rfl rfl)
theorem dX3_excessOf_95 : decode cX3_excessOf 95 = .ok (.iadd, 1) := dk_96 (dk_at dksX3_excessOf_4 4 rfl rfl)
theorem dX3_excessOf_96 : decode cX3_excessOf 96 = .ok (.istore 4, 2) := dk_54 4 (dk_at dksX3_excessOf_4 5 rfl rfl)
theorem dX3_excessOf_98 : decode cX3_excessOf 98 = .ok (.iinc 5 1, 3) := dk_132 5 1 (dk_at dksX3_excessOf_4 7 rfl rfl)
theorem dX3_excessOf_101 : decode cX3_excessOf 101 = .ok (.goto (-57), 3) := dk_167 255 199 (dk_at dksX3_excessOf_4 10 rfl rfl)
theorem dX3_excessOf_104 : decode cX3_excessOf 104 = .ok (.iload 4, 2) := dk_21 4 (dk_at dksX3_excessOf_4 13 rfl rfl)
theorem dX3_excessOf_106 : decode cX3_excessOf 106 = .ok (.iload_n 2, 1) := dk_28 (dk_at dksX3_excessOf_4 15 rfl rfl)
theorem dX3_excessOf_107 : decode cX3_excessOf 107 = .ok (.if_icmp .le 8, 3) := dk_164 0 8 (dk_at dksX3_excessOf_4 16 rfl rfl)
theorem dX3_excessOf_110 : decode cX3_excessOf 110 = .ok (.iload 4, 2) := dk_21 4 (dk_at dksX3_excessOf_4 19 rfl rfl)
theorem dX3_excessOf_112 : decode cX3_excessOf 112 = .ok (.goto 4, 3) := dk_167 0 4 (dk_at dksX3_excessOf_4 21 rfl rfl)
theorem dX3_excessOf_115 : decode cX3_excessOf 115 = .ok (.iload_n 2, 1) := dk_28 (dk_at dksX3_excessOf_5 0 rfl rfl)
theorem dX3_excessOf_116 : decode cX3_excessOf 116 = .ok (.istore_n 2, 1) := dk_61 (dk_at dksX3_excessOf_5 1 rfl rfl)
theorem dX3_excessOf_117 : decode cX3_excessOf 117 = .ok (.iinc 3 1, 3) := dk_132 3 1 (dk_at dksX3_excessOf_5 2 rfl rfl)
theorem dX3_excessOf_120 : decode cX3_excessOf 120 = .ok (.goto (-114), 3) := dk_167 255 142 (dk_at dksX3_excessOf_5 5 rfl rfl)
theorem dX3_excessOf_123 : decode cX3_excessOf 123 = .ok (.iload_n 2, 1) := dk_28 (dk_at dksX3_excessOf_5 8 rfl rfl)
theorem dX3_excessOf_124 : decode cX3_excessOf 124 = .ok (.aload_n 0, 1) := dk_42 (dk_at dksX3_excessOf_5 9 rfl rfl)
theorem dX3_excessOf_125 : decode cX3_excessOf 125 = .ok (.getfield 20, 3) := dk_180 0 20 (dk_at dksX3_excessOf_5 10 rfl rfl)
theorem dX3_excessOf_128 : decode cX3_excessOf 128 = .ok (.bipush 49, 2) := dk_16 49 (dk_at dksX3_excessOf_5 13 rfl rfl)
theorem dX3_excessOf_130 : decode cX3_excessOf 130 = .ok (.iaload, 1) := dk_46 (dk_at dksX3_excessOf_5 15 rfl rfl)
theorem dX3_excessOf_131 : decode cX3_excessOf 131 = .ok (.iload_n 1, 1) := dk_27 (dk_at dksX3_excessOf_5 16 rfl rfl)
theorem dX3_excessOf_132 : decode cX3_excessOf 132 = .ok (.invokestatic 323, 3) := dk_184 1 67 (dk_at dksX3_excessOf_5 17 rfl rfl)
theorem dX3_excessOf_135 : decode cX3_excessOf 135 = .ok (.iconst 2, 1) := dk_5 (dk_at dksX3_excessOf_5 20 rfl rfl)
theorem dX3_excessOf_136 : decode cX3_excessOf 136 = .ok (.isub, 1) := dk_100 (dk_at dksX3_excessOf_5 21 rfl rfl)
theorem dX3_excessOf_137 : decode cX3_excessOf 137 = .ok (.imul, 1) := dk_104 (dk_at dksX3_excessOf_5 22 rfl rfl)
theorem dX3_excessOf_138 : decode cX3_excessOf 138 = .ok (.isub, 1) := dk_100 (dk_at dksX3_excessOf_5 23 rfl rfl)
theorem dX3_excessOf_139 : decode cX3_excessOf 139 = .ok (.ireturn, 1) := dk_172 (dk_at dksX3_excessOf_6 0 rfl rfl)
abbrev cX3_widest : ByteArray := prog_18_method_72_code
def yX3_widest : MethodName := ⟨RX3, "widest", "()I"⟩
def dkwX3_widest_3 : List UInt8 := [21, 4, 61, 132, 3, 1, 167, 255, 203, 27, 172]
abbrev dktX3_widest_3 : List UInt8 := dkwX3_widest_3 ++ []
def dkwX3_widest_2 : List UInt8 := [29, 182, 1, 77, 54, 4, 27, 16, 254, 159, 0, 12, 21, 4, 28, 163, 0, 6, 167, 0, 8, 29, 60]
abbrev dktX3_widest_2 : List UInt8 := dkwX3_widest_2 ++ dktX3_widest_3
def dkwX3_widest_1 : List UInt8 := [29, 4, 42, 180, 0, 20, 3, 46, 120, 162, 0, 47, 42, 29, 182, 1, 70, 154, 0, 6, 167, 0, 30, 42]
abbrev dktX3_widest_1 : List UInt8 := dkwX3_widest_1 ++ dktX3_widest_2
def dkwX3_widest_0 : List UInt8 := [42, 182, 0, 174, 42, 180, 0, 183, 154, 0, 9, 42, 4, 182, 0, 177, 172, 16, 254, 60, 3, 61, 3, 62]
abbrev dktX3_widest_0 : List UInt8 := dkwX3_widest_0 ++ dktX3_widest_1
theorem dksX3_widest_0 : cX3_widest.data.toList.drop 0 = dktX3_widest_0 := by decide +kernel
theorem dksX3_widest_1 : cX3_widest.data.toList.drop 24 = dktX3_widest_1 := dk_seg dksX3_widest_0 24 rfl rfl
theorem dksX3_widest_2 : cX3_widest.data.toList.drop 48 = dktX3_widest_2 := dk_seg dksX3_widest_1 24 rfl rfl
theorem dksX3_widest_3 : cX3_widest.data.toList.drop 71 = dktX3_widest_3 := dk_seg dksX3_widest_2 23 rfl rfl
theorem dX3_widest_0 : decode cX3_widest 0 = .ok (.aload_n 0, 1) := dk_42 (dk_at dksX3_widest_0 0 rfl rfl)
theorem dX3_widest_1 : decode cX3_widest 1 = .ok (.invokevirtual 174, 3) := dk_182 0 174 (dk_at dksX3_widest_0 1 rfl rfl)
theorem dX3_widest_4 : decode cX3_widest 4 = .ok (.aload_n 0, 1) := dk_42 (dk_at dksX3_widest_0 4 rfl rfl)
theorem dX3_widest_5 : decode cX3_widest 5 = .ok (.getfield 183, 3) := dk_180 0 183 (dk_at dksX3_widest_0 5 rfl rfl)
theorem dX3_widest_8 : decode cX3_widest 8 = .ok (.ifCond .ne 9, 3) := dk_154 0 9 (dk_at dksX3_widest_0 8 rfl rfl)
theorem dX3_widest_11 : decode cX3_widest 11 = .ok (.aload_n 0, 1) := dk_42 (dk_at dksX3_widest_0 11 rfl rfl)
theorem dX3_widest_12 : decode cX3_widest 12 = .ok (.iconst 1, 1) := dk_4 (dk_at dksX3_widest_0 12 rfl rfl)
theorem dX3_widest_13 : decode cX3_widest 13 = .ok (.invokevirtual 177, 3) := dk_182 0 177 (dk_at dksX3_widest_0 13 rfl rfl)
theorem dX3_widest_16 : decode cX3_widest 16 = .ok (.ireturn, 1) := dk_172 (dk_at dksX3_widest_0 16 rfl rfl)
theorem dX3_widest_17 : decode cX3_widest 17 = .ok (.bipush (-2), 2) := dk_16 254 (dk_at dksX3_widest_0 17 rfl rfl)
theorem dX3_widest_19 : decode cX3_widest 19 = .ok (.istore_n 1, 1) := dk_60 (dk_at dksX3_widest_0 19 rfl rfl)
theorem dX3_widest_20 : decode cX3_widest 20 = .ok (.iconst 0, 1) := dk_3 (dk_at dksX3_widest_0 20 rfl rfl)
theorem dX3_widest_21 : decode cX3_widest 21 = .ok (.istore_n 2, 1) := dk_61 (dk_at dksX3_widest_0 21 rfl rfl)
theorem dX3_widest_22 : decode cX3_widest 22 = .ok (.iconst 0, 1) := dk_3 (dk_at dksX3_widest_0 22 rfl rfl)
theorem dX3_widest_23 : decode cX3_widest 23 = .ok (.istore_n 3, 1) := dk_62 (dk_at dksX3_widest_0 23 rfl rfl)
theorem dX3_widest_24 : decode cX3_widest 24 = .ok (.iload_n 3, 1) := dk_29 (dk_at dksX3_widest_1 0 rfl rfl)
theorem dX3_widest_25 : decode cX3_widest 25 = .ok (.iconst 1, 1) := dk_4 (dk_at dksX3_widest_1 1 rfl rfl)
theorem dX3_widest_26 : decode cX3_widest 26 = .ok (.aload_n 0, 1) := dk_42 (dk_at dksX3_widest_1 2 rfl rfl)
theorem dX3_widest_27 : decode cX3_widest 27 = .ok (.getfield 20, 3) := dk_180 0 20 (dk_at dksX3_widest_1 3 rfl rfl)
theorem dX3_widest_30 : decode cX3_widest 30 = .ok (.iconst 0, 1) := dk_3 (dk_at dksX3_widest_1 6 rfl rfl)
theorem dX3_widest_31 : decode cX3_widest 31 = .ok (.iaload, 1) := dk_46 (dk_at dksX3_widest_1 7 rfl rfl)
theorem dX3_widest_32 : decode cX3_widest 32 = .ok (.ishl, 1) := dk_120 (dk_at dksX3_widest_1 8 rfl rfl)
theorem dX3_widest_33 : decode cX3_widest 33 = .ok (.if_icmp .ge 47, 3) := dk_162 0 47 (dk_at dksX3_widest_1 9 rfl rfl)
theorem dX3_widest_36 : decode cX3_widest 36 = .ok (.aload_n 0, 1) := dk_42 (dk_at dksX3_widest_1 12 rfl rfl)
theorem dX3_widest_37 : decode cX3_widest 37 = .ok (.iload_n 3, 1) := dk_29 (dk_at dksX3_widest_1 13 rfl rfl)
theorem dX3_widest_38 : decode cX3_widest 38 = .ok (.invokevirtual 326, 3) := dk_182 1 70 (dk_at dksX3_widest_1 14 rfl rfl)
theorem dX3_widest_41 : decode cX3_widest 41 = .ok (.ifCond .ne 6, 3) := dk_154 0 6 (dk_at dksX3_widest_1 17 rfl rfl)
theorem dX3_widest_44 : decode cX3_widest 44 = .ok (.goto 30, 3) := dk_167 0 30 (dk_at dksX3_widest_1 20 rfl rfl)
theorem dX3_widest_47 : decode cX3_widest 47 = .ok (.aload_n 0, 1) := dk_42 (dk_at dksX3_widest_1 23 rfl rfl)
theorem dX3_widest_48 : decode cX3_widest 48 = .ok (.iload_n 3, 1) := dk_29 (dk_at dksX3_widest_2 0 rfl rfl)
theorem dX3_widest_49 : decode cX3_widest 49 = .ok (.invokevirtual 333, 3) := dk_182 1 77 (dk_at dksX3_widest_2 1 rfl rfl)
theorem dX3_widest_52 : decode cX3_widest 52 = .ok (.istore 4, 2) := dk_54 4 (dk_at dksX3_widest_2 4 rfl rfl)
theorem dX3_widest_54 : decode cX3_widest 54 = .ok (.iload_n 1, 1) := dk_27 (dk_at dksX3_widest_2 6 rfl rfl)
theorem dX3_widest_55 : decode cX3_widest 55 = .ok (.bipush (-2), 2) := dk_16 254 (dk_at dksX3_widest_2 7 rfl rfl)
theorem dX3_widest_57 : decode cX3_widest 57 = .ok (.if_icmp .eq 12, 3) := dk_159 0 12 (dk_at dksX3_widest_2 9 rfl rfl)
theorem dX3_widest_60 : decode cX3_widest 60 = .ok (.iload 4, 2) := dk_21 4 (dk_at dksX3_widest_2 12 rfl rfl)
theorem dX3_widest_62 : decode cX3_widest 62 = .ok (.iload_n 2, 1) := dk_28 (dk_at dksX3_widest_2 14 rfl rfl)
theorem dX3_widest_63 : decode cX3_widest 63 = .ok (.if_icmp .gt 6, 3) := dk_163 0 6 (dk_at dksX3_widest_2 15 rfl rfl)
theorem dX3_widest_66 : decode cX3_widest 66 = .ok (.goto 8, 3) := dk_167 0 8 (dk_at dksX3_widest_2 18 rfl rfl)
theorem dX3_widest_69 : decode cX3_widest 69 = .ok (.iload_n 3, 1) := dk_29 (dk_at dksX3_widest_2 21 rfl rfl)
theorem dX3_widest_70 : decode cX3_widest 70 = .ok (.istore_n 1, 1) := dk_60 (dk_at dksX3_widest_2 22 rfl rfl)
theorem dX3_widest_71 : decode cX3_widest 71 = .ok (.iload 4, 2) := dk_21 4 (dk_at dksX3_widest_3 0 rfl rfl)
theorem dX3_widest_73 : decode cX3_widest 73 = .ok (.istore_n 2, 1) := dk_61 (dk_at dksX3_widest_3 2 rfl rfl)
theorem dX3_widest_74 : decode cX3_widest 74 = .ok (.iinc 3 1, 3) := dk_132 3 1 (dk_at dksX3_widest_3 3 rfl rfl)
theorem dX3_widest_77 : decode cX3_widest 77 = .ok (.goto (-53), 3) := dk_167 255 203 (dk_at dksX3_widest_3 6 rfl rfl)
theorem dX3_widest_80 : decode cX3_widest 80 = .ok (.iload_n 1, 1) := dk_27 (dk_at dksX3_widest_3 9 rfl rfl)
theorem dX3_widest_81 : decode cX3_widest 81 = .ok (.ireturn, 1) := dk_172 (dk_at dksX3_widest_3 10 rfl rfl)
abbrev cX3_stake : ByteArray := prog_18_method_73_code
def yX3_stake : MethodName := ⟨RX3, "stake", "(III)Z"⟩
def dkwX3_stake_2 : List UInt8 := [172]
abbrev dktX3_stake_2 : List UInt8 := dkwX3_stake_2 ++ []
def dkwX3_stake_1 : List UInt8 := [184, 0, 170, 154, 0, 9, 42, 5, 182, 1, 80, 172, 42, 180, 0, 26, 7, 27, 104, 28, 96, 29, 79, 4]
abbrev dktX3_stake_1 : List UInt8 := dkwX3_stake_1 ++ dktX3_stake_2
def dkwX3_stake_0 : List UInt8 := [42, 182, 0, 174, 42, 27, 28, 182, 1, 49, 154, 0, 9, 42, 4, 182, 1, 80, 172, 29, 3, 16, 99]
abbrev dktX3_stake_0 : List UInt8 := dkwX3_stake_0 ++ dktX3_stake_1
theorem dksX3_stake_0 : cX3_stake.data.toList.drop 0 = dktX3_stake_0 := by decide +kernel
theorem dksX3_stake_1 : cX3_stake.data.toList.drop 23 = dktX3_stake_1 := dk_seg dksX3_stake_0 23 rfl rfl
theorem dksX3_stake_2 : cX3_stake.data.toList.drop 47 = dktX3_stake_2 := dk_seg dksX3_stake_1 24 rfl rfl
theorem dX3_stake_0 : decode cX3_stake 0 = .ok (.aload_n 0, 1) := dk_42 (dk_at dksX3_stake_0 0 rfl rfl)
theorem dX3_stake_1 : decode cX3_stake 1 = .ok (.invokevirtual 174, 3) := dk_182 0 174 (dk_at dksX3_stake_0 1 rfl rfl)
theorem dX3_stake_4 : decode cX3_stake 4 = .ok (.aload_n 0, 1) := dk_42 (dk_at dksX3_stake_0 4 rfl rfl)
theorem dX3_stake_5 : decode cX3_stake 5 = .ok (.iload_n 1, 1) := dk_27 (dk_at dksX3_stake_0 5 rfl rfl)
theorem dX3_stake_6 : decode cX3_stake 6 = .ok (.iload_n 2, 1) := dk_28 (dk_at dksX3_stake_0 6 rfl rfl)
theorem dX3_stake_7 : decode cX3_stake 7 = .ok (.invokevirtual 305, 3) := dk_182 1 49 (dk_at dksX3_stake_0 7 rfl rfl)
theorem dX3_stake_10 : decode cX3_stake 10 = .ok (.ifCond .ne 9, 3) := dk_154 0 9 (dk_at dksX3_stake_0 10 rfl rfl)
theorem dX3_stake_13 : decode cX3_stake 13 = .ok (.aload_n 0, 1) := dk_42 (dk_at dksX3_stake_0 13 rfl rfl)
theorem dX3_stake_14 : decode cX3_stake 14 = .ok (.iconst 1, 1) := dk_4 (dk_at dksX3_stake_0 14 rfl rfl)
theorem dX3_stake_15 : decode cX3_stake 15 = .ok (.invokevirtual 336, 3) := dk_182 1 80 (dk_at dksX3_stake_0 15 rfl rfl)
theorem dX3_stake_18 : decode cX3_stake 18 = .ok (.ireturn, 1) := dk_172 (dk_at dksX3_stake_0 18 rfl rfl)
theorem dX3_stake_19 : decode cX3_stake 19 = .ok (.iload_n 3, 1) := dk_29 (dk_at dksX3_stake_0 19 rfl rfl)
theorem dX3_stake_20 : decode cX3_stake 20 = .ok (.iconst 0, 1) := dk_3 (dk_at dksX3_stake_0 20 rfl rfl)
theorem dX3_stake_21 : decode cX3_stake 21 = .ok (.bipush 99, 2) := dk_16 99 (dk_at dksX3_stake_0 21 rfl rfl)
theorem dX3_stake_23 : decode cX3_stake 23 = .ok (.invokestatic 170, 3) := dk_184 0 170 (dk_at dksX3_stake_1 0 rfl rfl)
theorem dX3_stake_26 : decode cX3_stake 26 = .ok (.ifCond .ne 9, 3) := dk_154 0 9 (dk_at dksX3_stake_1 3 rfl rfl)
theorem dX3_stake_29 : decode cX3_stake 29 = .ok (.aload_n 0, 1) := dk_42 (dk_at dksX3_stake_1 6 rfl rfl)
theorem dX3_stake_30 : decode cX3_stake 30 = .ok (.iconst 2, 1) := dk_5 (dk_at dksX3_stake_1 7 rfl rfl)
theorem dX3_stake_31 : decode cX3_stake 31 = .ok (.invokevirtual 336, 3) := dk_182 1 80 (dk_at dksX3_stake_1 8 rfl rfl)
theorem dX3_stake_34 : decode cX3_stake 34 = .ok (.ireturn, 1) := dk_172 (dk_at dksX3_stake_1 11 rfl rfl)
theorem dX3_stake_35 : decode cX3_stake 35 = .ok (.aload_n 0, 1) := dk_42 (dk_at dksX3_stake_1 12 rfl rfl)
theorem dX3_stake_36 : decode cX3_stake 36 = .ok (.getfield 26, 3) := dk_180 0 26 (dk_at dksX3_stake_1 13 rfl rfl)
theorem dX3_stake_39 : decode cX3_stake 39 = .ok (.iconst 4, 1) := dk_7 (dk_at dksX3_stake_1 16 rfl rfl)
theorem dX3_stake_40 : decode cX3_stake 40 = .ok (.iload_n 1, 1) := dk_27 (dk_at dksX3_stake_1 17 rfl rfl)
theorem dX3_stake_41 : decode cX3_stake 41 = .ok (.imul, 1) := dk_104 (dk_at dksX3_stake_1 18 rfl rfl)
theorem dX3_stake_42 : decode cX3_stake 42 = .ok (.iload_n 2, 1) := dk_28 (dk_at dksX3_stake_1 19 rfl rfl)
theorem dX3_stake_43 : decode cX3_stake 43 = .ok (.iadd, 1) := dk_96 (dk_at dksX3_stake_1 20 rfl rfl)
theorem dX3_stake_44 : decode cX3_stake 44 = .ok (.iload_n 3, 1) := dk_29 (dk_at dksX3_stake_1 21 rfl rfl)
theorem dX3_stake_45 : decode cX3_stake 45 = .ok (.iastore, 1) := dk_79 (dk_at dksX3_stake_1 22 rfl rfl)
theorem dX3_stake_46 : decode cX3_stake 46 = .ok (.iconst 1, 1) := dk_4 (dk_at dksX3_stake_1 23 rfl rfl)
theorem dX3_stake_47 : decode cX3_stake 47 = .ok (.ireturn, 1) := dk_172 (dk_at dksX3_stake_2 0 rfl rfl)
abbrev cX3_isNot : ByteArray := prog_18_method_6_code
def yX3_isNot : MethodName := ⟨RX3, "isNot", "(I)Z"⟩
def dkwX3_isNot_0 : List UInt8 := [42, 27, 181, 0, 72, 3, 172]
abbrev dktX3_isNot_0 : List UInt8 := dkwX3_isNot_0 ++ []
theorem dksX3_isNot_0 : cX3_isNot.data.toList.drop 0 = dktX3_isNot_0 := by decide +kernel
theorem dX3_isNot_0 : decode cX3_isNot 0 = .ok (.aload_n 0, 1) := dk_42 (dk_at dksX3_isNot_0 0 rfl rfl)
theorem dX3_isNot_1 : decode cX3_isNot 1 = .ok (.iload_n 1, 1) := dk_27 (dk_at dksX3_isNot_0 1 rfl rfl)
theorem dX3_isNot_2 : decode cX3_isNot 2 = .ok (.putfield 72, 3) := dk_181 0 72 (dk_at dksX3_isNot_0 2 rfl rfl)
theorem dX3_isNot_5 : decode cX3_isNot 5 = .ok (.iconst 0, 1) := dk_3 (dk_at dksX3_isNot_0 5 rfl rfl)
theorem dX3_isNot_6 : decode cX3_isNot 6 = .ok (.ireturn, 1) := dk_172 (dk_at dksX3_isNot_0 6 rfl rfl)
abbrev cX3_wins : ByteArray := prog_18_method_77_code
def yX3_wins : MethodName := ⟨RX3, "wins", "()I"⟩
def dkwX3_wins_0 : List UInt8 := [42, 182, 0, 174, 42, 180, 0, 183, 153, 0, 10, 42, 182, 1, 86, 167, 0, 8, 42, 4, 182, 0, 177, 172]
abbrev dktX3_wins_0 : List UInt8 := dkwX3_wins_0 ++ []
theorem dksX3_wins_0 : cX3_wins.data.toList.drop 0 = dktX3_wins_0 := by decide +kernel
theorem dX3_wins_0 : decode cX3_wins 0 = .ok (.aload_n 0, 1) := dk_42 (dk_at dksX3_wins_0 0 rfl rfl)
theorem dX3_wins_1 : decode cX3_wins 1 = .ok (.invokevirtual 174, 3) := dk_182 0 174 (dk_at dksX3_wins_0 1 rfl rfl)
theorem dX3_wins_4 : decode cX3_wins 4 = .ok (.aload_n 0, 1) := dk_42 (dk_at dksX3_wins_0 4 rfl rfl)
theorem dX3_wins_5 : decode cX3_wins 5 = .ok (.getfield 183, 3) := dk_180 0 183 (dk_at dksX3_wins_0 5 rfl rfl)
theorem dX3_wins_8 : decode cX3_wins 8 = .ok (.ifCond .eq 10, 3) := dk_153 0 10 (dk_at dksX3_wins_0 8 rfl rfl)
theorem dX3_wins_11 : decode cX3_wins 11 = .ok (.aload_n 0, 1) := dk_42 (dk_at dksX3_wins_0 11 rfl rfl)
theorem dX3_wins_12 : decode cX3_wins 12 = .ok (.invokevirtual 342, 3) := dk_182 1 86 (dk_at dksX3_wins_0 12 rfl rfl)
theorem dX3_wins_15 : decode cX3_wins 15 = .ok (.goto 8, 3) := dk_167 0 8 (dk_at dksX3_wins_0 15 rfl rfl)
theorem dX3_wins_18 : decode cX3_wins 18 = .ok (.aload_n 0, 1) := dk_42 (dk_at dksX3_wins_0 18 rfl rfl)
theorem dX3_wins_19 : decode cX3_wins 19 = .ok (.iconst 1, 1) := dk_4 (dk_at dksX3_wins_0 19 rfl rfl)
theorem dX3_wins_20 : decode cX3_wins 20 = .ok (.invokevirtual 177, 3) := dk_182 0 177 (dk_at dksX3_wins_0 20 rfl rfl)
theorem dX3_wins_23 : decode cX3_wins 23 = .ok (.ireturn, 1) := dk_172 (dk_at dksX3_wins_0 23 rfl rfl)
abbrev cX3_winsOf : ByteArray := prog_18_method_74_code
def yX3_winsOf : MethodName := ⟨RX3, "winsOf", "()I"⟩
def dkwX3_winsOf_2 : List UInt8 := [28, 104, 96, 29, 96, 46, 104, 96, 60, 132, 3, 1, 167, 255, 214, 132, 2, 1, 167, 255, 196, 27, 172]
abbrev dktX3_winsOf_2 : List UInt8 := dkwX3_winsOf_2 ++ []
def dkwX3_winsOf_1 : List UInt8 := [184, 0, 247, 162, 0, 36, 27, 42, 180, 0, 26, 7, 28, 104, 29, 96, 46, 42, 180, 0, 20, 16, 17, 7]
abbrev dktX3_winsOf_1 : List UInt8 := dkwX3_winsOf_1 ++ dktX3_winsOf_2
def dkwX3_winsOf_0 : List UInt8 := [3, 60, 3, 61, 28, 42, 180, 0, 20, 3, 46, 162, 0, 56, 3, 62, 29, 42, 180, 0, 20, 28]
abbrev dktX3_winsOf_0 : List UInt8 := dkwX3_winsOf_0 ++ dktX3_winsOf_1
theorem dksX3_winsOf_0 : cX3_winsOf.data.toList.drop 0 = dktX3_winsOf_0 := by decide +kernel
theorem dksX3_winsOf_1 : cX3_winsOf.data.toList.drop 22 = dktX3_winsOf_1 := dk_seg dksX3_winsOf_0 22 rfl rfl
theorem dksX3_winsOf_2 : cX3_winsOf.data.toList.drop 46 = dktX3_winsOf_2 := dk_seg dksX3_winsOf_1 24 rfl rfl
theorem dX3_winsOf_0 : decode cX3_winsOf 0 = .ok (.iconst 0, 1) := dk_3 (dk_at dksX3_winsOf_0 0 rfl rfl)
theorem dX3_winsOf_1 : decode cX3_winsOf 1 = .ok (.istore_n 1, 1) := dk_60 (dk_at dksX3_winsOf_0 1 rfl rfl)
theorem dX3_winsOf_2 : decode cX3_winsOf 2 = .ok (.iconst 0, 1) := dk_3 (dk_at dksX3_winsOf_0 2 rfl rfl)
theorem dX3_winsOf_3 : decode cX3_winsOf 3 = .ok (.istore_n 2, 1) := dk_61 (dk_at dksX3_winsOf_0 3 rfl rfl)
theorem dX3_winsOf_4 : decode cX3_winsOf 4 = .ok (.iload_n 2, 1) := dk_28 (dk_at dksX3_winsOf_0 4 rfl rfl)
theorem dX3_winsOf_5 : decode cX3_winsOf 5 = .ok (.aload_n 0, 1) := dk_42 (dk_at dksX3_winsOf_0 5 rfl rfl)
theorem dX3_winsOf_6 : decode cX3_winsOf 6 = .ok (.getfield 20, 3) := dk_180 0 20 (dk_at dksX3_winsOf_0 6 rfl rfl)
theorem dX3_winsOf_9 : decode cX3_winsOf 9 = .ok (.iconst 0, 1) := dk_3 (dk_at dksX3_winsOf_0 9 rfl rfl)
theorem dX3_winsOf_10 : decode cX3_winsOf 10 = .ok (.iaload, 1) := dk_46 (dk_at dksX3_winsOf_0 10 rfl rfl)
theorem dX3_winsOf_11 : decode cX3_winsOf 11 = .ok (.if_icmp .ge 56, 3) := dk_162 0 56 (dk_at dksX3_winsOf_0 11 rfl rfl)
theorem dX3_winsOf_14 : decode cX3_winsOf 14 = .ok (.iconst 0, 1) := dk_3 (dk_at dksX3_winsOf_0 14 rfl rfl)
theorem dX3_winsOf_15 : decode cX3_winsOf 15 = .ok (.istore_n 3, 1) := dk_62 (dk_at dksX3_winsOf_0 15 rfl rfl)
theorem dX3_winsOf_16 : decode cX3_winsOf 16 = .ok (.iload_n 3, 1) := dk_29 (dk_at dksX3_winsOf_0 16 rfl rfl)
theorem dX3_winsOf_17 : decode cX3_winsOf 17 = .ok (.aload_n 0, 1) := dk_42 (dk_at dksX3_winsOf_0 17 rfl rfl)
theorem dX3_winsOf_18 : decode cX3_winsOf 18 = .ok (.getfield 20, 3) := dk_180 0 20 (dk_at dksX3_winsOf_0 18 rfl rfl)
theorem dX3_winsOf_21 : decode cX3_winsOf 21 = .ok (.iload_n 2, 1) := dk_28 (dk_at dksX3_winsOf_0 21 rfl rfl)
theorem dX3_winsOf_22 : decode cX3_winsOf 22 = .ok (.invokestatic 247, 3) := dk_184 0 247 (dk_at dksX3_winsOf_1 0 rfl rfl)
theorem dX3_winsOf_25 : decode cX3_winsOf 25 = .ok (.if_icmp .ge 36, 3) := dk_162 0 36 (dk_at dksX3_winsOf_1 3 rfl rfl)
theorem dX3_winsOf_28 : decode cX3_winsOf 28 = .ok (.iload_n 1, 1) := dk_27 (dk_at dksX3_winsOf_1 6 rfl rfl)
theorem dX3_winsOf_29 : decode cX3_winsOf 29 = .ok (.aload_n 0, 1) := dk_42 (dk_at dksX3_winsOf_1 7 rfl rfl)
theorem dX3_winsOf_30 : decode cX3_winsOf 30 = .ok (.getfield 26, 3) := dk_180 0 26 (dk_at dksX3_winsOf_1 8 rfl rfl)
theorem dX3_winsOf_33 : decode cX3_winsOf 33 = .ok (.iconst 4, 1) := dk_7 (dk_at dksX3_winsOf_1 11 rfl rfl)
theorem dX3_winsOf_34 : decode cX3_winsOf 34 = .ok (.iload_n 2, 1) := dk_28 (dk_at dksX3_winsOf_1 12 rfl rfl)
theorem dX3_winsOf_35 : decode cX3_winsOf 35 = .ok (.imul, 1) := dk_104 (dk_at dksX3_winsOf_1 13 rfl rfl)
theorem dX3_winsOf_36 : decode cX3_winsOf 36 = .ok (.iload_n 3, 1) := dk_29 (dk_at dksX3_winsOf_1 14 rfl rfl)
theorem dX3_winsOf_37 : decode cX3_winsOf 37 = .ok (.iadd, 1) := dk_96 (dk_at dksX3_winsOf_1 15 rfl rfl)
theorem dX3_winsOf_38 : decode cX3_winsOf 38 = .ok (.iaload, 1) := dk_46 (dk_at dksX3_winsOf_1 16 rfl rfl)
theorem dX3_winsOf_39 : decode cX3_winsOf 39 = .ok (.aload_n 0, 1) := dk_42 (dk_at dksX3_winsOf_1 17 rfl rfl)
theorem dX3_winsOf_40 : decode cX3_winsOf 40 = .ok (.getfield 20, 3) := dk_180 0 20 (dk_at dksX3_winsOf_1 18 rfl rfl)
theorem dX3_winsOf_43 : decode cX3_winsOf 43 = .ok (.bipush 17, 2) := dk_16 17 (dk_at dksX3_winsOf_1 21 rfl rfl)
theorem dX3_winsOf_45 : decode cX3_winsOf 45 = .ok (.iconst 4, 1) := dk_7 (dk_at dksX3_winsOf_1 23 rfl rfl)
theorem dX3_winsOf_46 : decode cX3_winsOf 46 = .ok (.iload_n 2, 1) := dk_28 (dk_at dksX3_winsOf_2 0 rfl rfl)
theorem dX3_winsOf_47 : decode cX3_winsOf 47 = .ok (.imul, 1) := dk_104 (dk_at dksX3_winsOf_2 1 rfl rfl)
theorem dX3_winsOf_48 : decode cX3_winsOf 48 = .ok (.iadd, 1) := dk_96 (dk_at dksX3_winsOf_2 2 rfl rfl)
theorem dX3_winsOf_49 : decode cX3_winsOf 49 = .ok (.iload_n 3, 1) := dk_29 (dk_at dksX3_winsOf_2 3 rfl rfl)
theorem dX3_winsOf_50 : decode cX3_winsOf 50 = .ok (.iadd, 1) := dk_96 (dk_at dksX3_winsOf_2 4 rfl rfl)
theorem dX3_winsOf_51 : decode cX3_winsOf 51 = .ok (.iaload, 1) := dk_46 (dk_at dksX3_winsOf_2 5 rfl rfl)
theorem dX3_winsOf_52 : decode cX3_winsOf 52 = .ok (.imul, 1) := dk_104 (dk_at dksX3_winsOf_2 6 rfl rfl)
theorem dX3_winsOf_53 : decode cX3_winsOf 53 = .ok (.iadd, 1) := dk_96 (dk_at dksX3_winsOf_2 7 rfl rfl)
theorem dX3_winsOf_54 : decode cX3_winsOf 54 = .ok (.istore_n 1, 1) := dk_60 (dk_at dksX3_winsOf_2 8 rfl rfl)
theorem dX3_winsOf_55 : decode cX3_winsOf 55 = .ok (.iinc 3 1, 3) := dk_132 3 1 (dk_at dksX3_winsOf_2 9 rfl rfl)
theorem dX3_winsOf_58 : decode cX3_winsOf 58 = .ok (.goto (-42), 3) := dk_167 255 214 (dk_at dksX3_winsOf_2 12 rfl rfl)
theorem dX3_winsOf_61 : decode cX3_winsOf 61 = .ok (.iinc 2 1, 3) := dk_132 2 1 (dk_at dksX3_winsOf_2 15 rfl rfl)
theorem dX3_winsOf_64 : decode cX3_winsOf 64 = .ok (.goto (-60), 3) := dk_167 255 196 (dk_at dksX3_winsOf_2 18 rfl rfl)
theorem dX3_winsOf_67 : decode cX3_winsOf 67 = .ok (.iload_n 1, 1) := dk_27 (dk_at dksX3_winsOf_2 21 rfl rfl)
theorem dX3_winsOf_68 : decode cX3_winsOf 68 = .ok (.ireturn, 1) := dk_172 (dk_at dksX3_winsOf_2 22 rfl rfl)
abbrev cX3_worst : ByteArray := prog_18_method_78_code
def yX3_worst : MethodName := ⟨RX3, "worst", "()I"⟩
def dkwX3_worst_1 : List UInt8 := [182, 0, 177, 172]
abbrev dktX3_worst_1 : List UInt8 := dkwX3_worst_1 ++ []
def dkwX3_worst_0 : List UInt8 := [42, 182, 0, 174, 42, 180, 0, 183, 153, 0, 14, 42, 42, 182, 1, 89, 182, 1, 83, 167, 0, 8, 42, 4]
abbrev dktX3_worst_0 : List UInt8 := dkwX3_worst_0 ++ dktX3_worst_1
theorem dksX3_worst_0 : cX3_worst.data.toList.drop 0 = dktX3_worst_0 := by decide +kernel
theorem dksX3_worst_1 : cX3_worst.data.toList.drop 24 = dktX3_worst_1 := dk_seg dksX3_worst_0 24 rfl rfl
theorem dX3_worst_0 : decode cX3_worst 0 = .ok (.aload_n 0, 1) := dk_42 (dk_at dksX3_worst_0 0 rfl rfl)
theorem dX3_worst_1 : decode cX3_worst 1 = .ok (.invokevirtual 174, 3) := dk_182 0 174 (dk_at dksX3_worst_0 1 rfl rfl)
theorem dX3_worst_4 : decode cX3_worst 4 = .ok (.aload_n 0, 1) := dk_42 (dk_at dksX3_worst_0 4 rfl rfl)
theorem dX3_worst_5 : decode cX3_worst 5 = .ok (.getfield 183, 3) := dk_180 0 183 (dk_at dksX3_worst_0 5 rfl rfl)
theorem dX3_worst_8 : decode cX3_worst 8 = .ok (.ifCond .eq 14, 3) := dk_153 0 14 (dk_at dksX3_worst_0 8 rfl rfl)
theorem dX3_worst_11 : decode cX3_worst 11 = .ok (.aload_n 0, 1) := dk_42 (dk_at dksX3_worst_0 11 rfl rfl)
theorem dX3_worst_12 : decode cX3_worst 12 = .ok (.aload_n 0, 1) := dk_42 (dk_at dksX3_worst_0 12 rfl rfl)
theorem dX3_worst_13 : decode cX3_worst 13 = .ok (.invokevirtual 345, 3) := dk_182 1 89 (dk_at dksX3_worst_0 13 rfl rfl)
theorem dX3_worst_16 : decode cX3_worst 16 = .ok (.invokevirtual 339, 3) := dk_182 1 83 (dk_at dksX3_worst_0 16 rfl rfl)
theorem dX3_worst_19 : decode cX3_worst 19 = .ok (.goto 8, 3) := dk_167 0 8 (dk_at dksX3_worst_0 19 rfl rfl)
theorem dX3_worst_22 : decode cX3_worst 22 = .ok (.aload_n 0, 1) := dk_42 (dk_at dksX3_worst_0 22 rfl rfl)
theorem dX3_worst_23 : decode cX3_worst 23 = .ok (.iconst 1, 1) := dk_4 (dk_at dksX3_worst_0 23 rfl rfl)
theorem dX3_worst_24 : decode cX3_worst 24 = .ok (.invokevirtual 177, 3) := dk_182 0 177 (dk_at dksX3_worst_1 0 rfl rfl)
theorem dX3_worst_27 : decode cX3_worst 27 = .ok (.ireturn, 1) := dk_172 (dk_at dksX3_worst_1 3 rfl rfl)
abbrev cX3_worstHidden : ByteArray := prog_18_method_76_code
def yX3_worstHidden : MethodName := ⟨RX3, "worstHidden", "()I"⟩
def dkwX3_worstHidden_1 : List UInt8 := [162, 0, 7, 28, 167, 0, 4, 27, 60, 132, 2, 1, 167, 255, 226, 27, 172]
abbrev dktX3_worstHidden_1 : List UInt8 := dkwX3_worstHidden_1 ++ []
def dkwX3_worstHidden_0 : List UInt8 := [3, 60, 4, 61, 28, 42, 182, 0, 251, 162, 0, 28, 42, 28, 182, 1, 83, 42, 27, 182, 1, 83]
abbrev dktX3_worstHidden_0 : List UInt8 := dkwX3_worstHidden_0 ++ dktX3_worstHidden_1
theorem dksX3_worstHidden_0 : cX3_worstHidden.data.toList.drop 0 = dktX3_worstHidden_0 := by decide +kernel
theorem dksX3_worstHidden_1 : cX3_worstHidden.data.toList.drop 22 = dktX3_worstHidden_1 := dk_seg dksX3_worstHidden_0 22 rfl rfl
theorem dX3_worstHidden_0 : decode cX3_worstHidden 0 = .ok (.iconst 0, 1) := dk_3 (dk_at dksX3_worstHidden_0 0 rfl rfl)
theorem dX3_worstHidden_1 : decode cX3_worstHidden 1 = .ok (.istore_n 1, 1) := dk_60 (dk_at dksX3_worstHidden_0 1 rfl rfl)
theorem dX3_worstHidden_2 : decode cX3_worstHidden 2 = .ok (.iconst 1, 1) := dk_4 (dk_at dksX3_worstHidden_0 2 rfl rfl)
theorem dX3_worstHidden_3 : decode cX3_worstHidden 3 = .ok (.istore_n 2, 1) := dk_61 (dk_at dksX3_worstHidden_0 3 rfl rfl)
theorem dX3_worstHidden_4 : decode cX3_worstHidden 4 = .ok (.iload_n 2, 1) := dk_28 (dk_at dksX3_worstHidden_0 4 rfl rfl)
theorem dX3_worstHidden_5 : decode cX3_worstHidden 5 = .ok (.aload_n 0, 1) := dk_42 (dk_at dksX3_worstHidden_0 5 rfl rfl)
theorem dX3_worstHidden_6 : decode cX3_worstHidden 6 = .ok (.invokevirtual 251, 3) := dk_182 0 251 (dk_at dksX3_worstHidden_0 6 rfl rfl)
theorem dX3_worstHidden_9 : decode cX3_worstHidden 9 = .ok (.if_icmp .ge 28, 3) := dk_162 0 28 (dk_at dksX3_worstHidden_0 9 rfl rfl)
theorem dX3_worstHidden_12 : decode cX3_worstHidden 12 = .ok (.aload_n 0, 1) := dk_42 (dk_at dksX3_worstHidden_0 12 rfl rfl)
theorem dX3_worstHidden_13 : decode cX3_worstHidden 13 = .ok (.iload_n 2, 1) := dk_28 (dk_at dksX3_worstHidden_0 13 rfl rfl)
theorem dX3_worstHidden_14 : decode cX3_worstHidden 14 = .ok (.invokevirtual 339, 3) := dk_182 1 83 (dk_at dksX3_worstHidden_0 14 rfl rfl)
theorem dX3_worstHidden_17 : decode cX3_worstHidden 17 = .ok (.aload_n 0, 1) := dk_42 (dk_at dksX3_worstHidden_0 17 rfl rfl)
theorem dX3_worstHidden_18 : decode cX3_worstHidden 18 = .ok (.iload_n 1, 1) := dk_27 (dk_at dksX3_worstHidden_0 18 rfl rfl)
theorem dX3_worstHidden_19 : decode cX3_worstHidden 19 = .ok (.invokevirtual 339, 3) := dk_182 1 83 (dk_at dksX3_worstHidden_0 19 rfl rfl)
theorem dX3_worstHidden_22 : decode cX3_worstHidden 22 = .ok (.if_icmp .ge 7, 3) := dk_162 0 7 (dk_at dksX3_worstHidden_1 0 rfl rfl)
theorem dX3_worstHidden_25 : decode cX3_worstHidden 25 = .ok (.iload_n 2, 1) := dk_28 (dk_at dksX3_worstHidden_1 3 rfl rfl)
theorem dX3_worstHidden_26 : decode cX3_worstHidden 26 = .ok (.goto 4, 3) := dk_167 0 4 (dk_at dksX3_worstHidden_1 4 rfl rfl)
theorem dX3_worstHidden_29 : decode cX3_worstHidden 29 = .ok (.iload_n 1, 1) := dk_27 (dk_at dksX3_worstHidden_1 7 rfl rfl)
theorem dX3_worstHidden_30 : decode cX3_worstHidden 30 = .ok (.istore_n 1, 1) := dk_60 (dk_at dksX3_worstHidden_1 8 rfl rfl)
theorem dX3_worstHidden_31 : decode cX3_worstHidden 31 = .ok (.iinc 2 1, 3) := dk_132 2 1 (dk_at dksX3_worstHidden_1 9 rfl rfl)
theorem dX3_worstHidden_34 : decode cX3_worstHidden 34 = .ok (.goto (-30), 3) := dk_167 255 226 (dk_at dksX3_worstHidden_1 12 rfl rfl)
theorem dX3_worstHidden_37 : decode cX3_worstHidden 37 = .ok (.iload_n 1, 1) := dk_27 (dk_at dksX3_worstHidden_1 15 rfl rfl)
theorem dX3_worstHidden_38 : decode cX3_worstHidden 38 = .ok (.ireturn, 1) := dk_172 (dk_at dksX3_worstHidden_1 16 rfl rfl)
abbrev cX3_paid : ByteArray := prog_18_method_75_code
def yX3_paid : MethodName := ⟨RX3, "paid", "(I)I"⟩
def dkwX3_paid_1 : List UInt8 := [27, 182, 1, 7, 96, 46, 96, 61, 132, 3, 1, 167, 255, 225, 28, 172]
abbrev dktX3_paid_1 : List UInt8 := dkwX3_paid_1 ++ []
def dkwX3_paid_0 : List UInt8 := [3, 61, 3, 62, 29, 42, 180, 0, 20, 3, 46, 162, 0, 27, 28, 42, 180, 0, 26, 7, 29, 104, 42, 29]
abbrev dktX3_paid_0 : List UInt8 := dkwX3_paid_0 ++ dktX3_paid_1
theorem dksX3_paid_0 : cX3_paid.data.toList.drop 0 = dktX3_paid_0 := by decide +kernel
theorem dksX3_paid_1 : cX3_paid.data.toList.drop 24 = dktX3_paid_1 := dk_seg dksX3_paid_0 24 rfl rfl
theorem dX3_paid_0 : decode cX3_paid 0 = .ok (.iconst 0, 1) := dk_3 (dk_at dksX3_paid_0 0 rfl rfl)
theorem dX3_paid_1 : decode cX3_paid 1 = .ok (.istore_n 2, 1) := dk_61 (dk_at dksX3_paid_0 1 rfl rfl)
theorem dX3_paid_2 : decode cX3_paid 2 = .ok (.iconst 0, 1) := dk_3 (dk_at dksX3_paid_0 2 rfl rfl)
theorem dX3_paid_3 : decode cX3_paid 3 = .ok (.istore_n 3, 1) := dk_62 (dk_at dksX3_paid_0 3 rfl rfl)
theorem dX3_paid_4 : decode cX3_paid 4 = .ok (.iload_n 3, 1) := dk_29 (dk_at dksX3_paid_0 4 rfl rfl)
theorem dX3_paid_5 : decode cX3_paid 5 = .ok (.aload_n 0, 1) := dk_42 (dk_at dksX3_paid_0 5 rfl rfl)
theorem dX3_paid_6 : decode cX3_paid 6 = .ok (.getfield 20, 3) := dk_180 0 20 (dk_at dksX3_paid_0 6 rfl rfl)
theorem dX3_paid_9 : decode cX3_paid 9 = .ok (.iconst 0, 1) := dk_3 (dk_at dksX3_paid_0 9 rfl rfl)
theorem dX3_paid_10 : decode cX3_paid 10 = .ok (.iaload, 1) := dk_46 (dk_at dksX3_paid_0 10 rfl rfl)
theorem dX3_paid_11 : decode cX3_paid 11 = .ok (.if_icmp .ge 27, 3) := dk_162 0 27 (dk_at dksX3_paid_0 11 rfl rfl)
theorem dX3_paid_14 : decode cX3_paid 14 = .ok (.iload_n 2, 1) := dk_28 (dk_at dksX3_paid_0 14 rfl rfl)
theorem dX3_paid_15 : decode cX3_paid 15 = .ok (.aload_n 0, 1) := dk_42 (dk_at dksX3_paid_0 15 rfl rfl)
theorem dX3_paid_16 : decode cX3_paid 16 = .ok (.getfield 26, 3) := dk_180 0 26 (dk_at dksX3_paid_0 16 rfl rfl)
theorem dX3_paid_19 : decode cX3_paid 19 = .ok (.iconst 4, 1) := dk_7 (dk_at dksX3_paid_0 19 rfl rfl)
theorem dX3_paid_20 : decode cX3_paid 20 = .ok (.iload_n 3, 1) := dk_29 (dk_at dksX3_paid_0 20 rfl rfl)
theorem dX3_paid_21 : decode cX3_paid 21 = .ok (.imul, 1) := dk_104 (dk_at dksX3_paid_0 21 rfl rfl)
theorem dX3_paid_22 : decode cX3_paid 22 = .ok (.aload_n 0, 1) := dk_42 (dk_at dksX3_paid_0 22 rfl rfl)
theorem dX3_paid_23 : decode cX3_paid 23 = .ok (.iload_n 3, 1) := dk_29 (dk_at dksX3_paid_0 23 rfl rfl)
theorem dX3_paid_24 : decode cX3_paid 24 = .ok (.iload_n 1, 1) := dk_27 (dk_at dksX3_paid_1 0 rfl rfl)
theorem dX3_paid_25 : decode cX3_paid 25 = .ok (.invokevirtual 263, 3) := dk_182 1 7 (dk_at dksX3_paid_1 1 rfl rfl)
theorem dX3_paid_28 : decode cX3_paid 28 = .ok (.iadd, 1) := dk_96 (dk_at dksX3_paid_1 4 rfl rfl)
theorem dX3_paid_29 : decode cX3_paid 29 = .ok (.iaload, 1) := dk_46 (dk_at dksX3_paid_1 5 rfl rfl)
theorem dX3_paid_30 : decode cX3_paid 30 = .ok (.iadd, 1) := dk_96 (dk_at dksX3_paid_1 6 rfl rfl)
theorem dX3_paid_31 : decode cX3_paid 31 = .ok (.istore_n 2, 1) := dk_61 (dk_at dksX3_paid_1 7 rfl rfl)
theorem dX3_paid_32 : decode cX3_paid 32 = .ok (.iinc 3 1, 3) := dk_132 3 1 (dk_at dksX3_paid_1 8 rfl rfl)
theorem dX3_paid_35 : decode cX3_paid 35 = .ok (.goto (-31), 3) := dk_167 255 225 (dk_at dksX3_paid_1 11 rfl rfl)
theorem dX3_paid_38 : decode cX3_paid 38 = .ok (.iload_n 2, 1) := dk_28 (dk_at dksX3_paid_1 14 rfl rfl)
theorem dX3_paid_39 : decode cX3_paid 39 = .ok (.ireturn, 1) := dk_172 (dk_at dksX3_paid_1 15 rfl rfl)
abbrev cX3_worstAt : ByteArray := prog_18_method_79_code
def yX3_worstAt : MethodName := ⟨RX3, "worstAt", "()I"⟩
def dkwX3_worstAt_0 : List UInt8 := [42, 182, 0, 174, 42, 180, 0, 183, 153, 0, 10, 42, 182, 1, 89, 167, 0, 8, 42, 4, 182, 0, 177, 172]
abbrev dktX3_worstAt_0 : List UInt8 := dkwX3_worstAt_0 ++ []
theorem dksX3_worstAt_0 : cX3_worstAt.data.toList.drop 0 = dktX3_worstAt_0 := by decide +kernel
theorem dX3_worstAt_0 : decode cX3_worstAt 0 = .ok (.aload_n 0, 1) := dk_42 (dk_at dksX3_worstAt_0 0 rfl rfl)
theorem dX3_worstAt_1 : decode cX3_worstAt 1 = .ok (.invokevirtual 174, 3) := dk_182 0 174 (dk_at dksX3_worstAt_0 1 rfl rfl)
theorem dX3_worstAt_4 : decode cX3_worstAt 4 = .ok (.aload_n 0, 1) := dk_42 (dk_at dksX3_worstAt_0 4 rfl rfl)
theorem dX3_worstAt_5 : decode cX3_worstAt 5 = .ok (.getfield 183, 3) := dk_180 0 183 (dk_at dksX3_worstAt_0 5 rfl rfl)
theorem dX3_worstAt_8 : decode cX3_worstAt 8 = .ok (.ifCond .eq 10, 3) := dk_153 0 10 (dk_at dksX3_worstAt_0 8 rfl rfl)
theorem dX3_worstAt_11 : decode cX3_worstAt 11 = .ok (.aload_n 0, 1) := dk_42 (dk_at dksX3_worstAt_0 11 rfl rfl)
theorem dX3_worstAt_12 : decode cX3_worstAt 12 = .ok (.invokevirtual 345, 3) := dk_182 1 89 (dk_at dksX3_worstAt_0 12 rfl rfl)
theorem dX3_worstAt_15 : decode cX3_worstAt 15 = .ok (.goto 8, 3) := dk_167 0 8 (dk_at dksX3_worstAt_0 15 rfl rfl)
theorem dX3_worstAt_18 : decode cX3_worstAt 18 = .ok (.aload_n 0, 1) := dk_42 (dk_at dksX3_worstAt_0 18 rfl rfl)
theorem dX3_worstAt_19 : decode cX3_worstAt 19 = .ok (.iconst 1, 1) := dk_4 (dk_at dksX3_worstAt_0 19 rfl rfl)
theorem dX3_worstAt_20 : decode cX3_worstAt 20 = .ok (.invokevirtual 177, 3) := dk_182 0 177 (dk_at dksX3_worstAt_0 20 rfl rfl)
theorem dX3_worstAt_23 : decode cX3_worstAt 23 = .ok (.ireturn, 1) := dk_172 (dk_at dksX3_worstAt_0 23 rfl rfl)
abbrev cX3_bars : ByteArray := prog_18_method_80_code
def yX3_bars : MethodName := ⟨RX3, "bars", "()I"⟩
def dkwX3_bars_1 : List UInt8 := [180, 0, 20, 16, 49, 46, 104, 162, 0, 7, 4, 167, 0, 12, 3, 167, 0, 8, 42, 4, 182, 0, 177, 172]
abbrev dktX3_bars_1 : List UInt8 := dkwX3_bars_1 ++ []
def dkwX3_bars_0 : List UInt8 := [42, 182, 0, 174, 42, 180, 0, 183, 153, 0, 34, 42, 182, 1, 86, 42, 42, 182, 1, 89, 182, 1, 83, 42]
abbrev dktX3_bars_0 : List UInt8 := dkwX3_bars_0 ++ dktX3_bars_1
theorem dksX3_bars_0 : cX3_bars.data.toList.drop 0 = dktX3_bars_0 := by decide +kernel
theorem dksX3_bars_1 : cX3_bars.data.toList.drop 24 = dktX3_bars_1 := dk_seg dksX3_bars_0 24 rfl rfl
theorem dX3_bars_0 : decode cX3_bars 0 = .ok (.aload_n 0, 1) := dk_42 (dk_at dksX3_bars_0 0 rfl rfl)
theorem dX3_bars_1 : decode cX3_bars 1 = .ok (.invokevirtual 174, 3) := dk_182 0 174 (dk_at dksX3_bars_0 1 rfl rfl)
theorem dX3_bars_4 : decode cX3_bars 4 = .ok (.aload_n 0, 1) := dk_42 (dk_at dksX3_bars_0 4 rfl rfl)
theorem dX3_bars_5 : decode cX3_bars 5 = .ok (.getfield 183, 3) := dk_180 0 183 (dk_at dksX3_bars_0 5 rfl rfl)
theorem dX3_bars_8 : decode cX3_bars 8 = .ok (.ifCond .eq 34, 3) := dk_153 0 34 (dk_at dksX3_bars_0 8 rfl rfl)
theorem dX3_bars_11 : decode cX3_bars 11 = .ok (.aload_n 0, 1) := dk_42 (dk_at dksX3_bars_0 11 rfl rfl)
theorem dX3_bars_12 : decode cX3_bars 12 = .ok (.invokevirtual 342, 3) := dk_182 1 86 (dk_at dksX3_bars_0 12 rfl rfl)
theorem dX3_bars_15 : decode cX3_bars 15 = .ok (.aload_n 0, 1) := dk_42 (dk_at dksX3_bars_0 15 rfl rfl)
theorem dX3_bars_16 : decode cX3_bars 16 = .ok (.aload_n 0, 1) := dk_42 (dk_at dksX3_bars_0 16 rfl rfl)
theorem dX3_bars_17 : decode cX3_bars 17 = .ok (.invokevirtual 345, 3) := dk_182 1 89 (dk_at dksX3_bars_0 17 rfl rfl)
theorem dX3_bars_20 : decode cX3_bars 20 = .ok (.invokevirtual 339, 3) := dk_182 1 83 (dk_at dksX3_bars_0 20 rfl rfl)
theorem dX3_bars_23 : decode cX3_bars 23 = .ok (.aload_n 0, 1) := dk_42 (dk_at dksX3_bars_0 23 rfl rfl)
theorem dX3_bars_24 : decode cX3_bars 24 = .ok (.getfield 20, 3) := dk_180 0 20 (dk_at dksX3_bars_1 0 rfl rfl)
theorem dX3_bars_27 : decode cX3_bars 27 = .ok (.bipush 49, 2) := dk_16 49 (dk_at dksX3_bars_1 3 rfl rfl)
theorem dX3_bars_29 : decode cX3_bars 29 = .ok (.iaload, 1) := dk_46 (dk_at dksX3_bars_1 5 rfl rfl)
theorem dX3_bars_30 : decode cX3_bars 30 = .ok (.imul, 1) := dk_104 (dk_at dksX3_bars_1 6 rfl rfl)
theorem dX3_bars_31 : decode cX3_bars 31 = .ok (.if_icmp .ge 7, 3) := dk_162 0 7 (dk_at dksX3_bars_1 7 rfl rfl)
theorem dX3_bars_34 : decode cX3_bars 34 = .ok (.iconst 1, 1) := dk_4 (dk_at dksX3_bars_1 10 rfl rfl)
theorem dX3_bars_35 : decode cX3_bars 35 = .ok (.goto 12, 3) := dk_167 0 12 (dk_at dksX3_bars_1 11 rfl rfl)
theorem dX3_bars_38 : decode cX3_bars 38 = .ok (.iconst 0, 1) := dk_3 (dk_at dksX3_bars_1 14 rfl rfl)
theorem dX3_bars_39 : decode cX3_bars 39 = .ok (.goto 8, 3) := dk_167 0 8 (dk_at dksX3_bars_1 15 rfl rfl)
theorem dX3_bars_42 : decode cX3_bars 42 = .ok (.aload_n 0, 1) := dk_42 (dk_at dksX3_bars_1 18 rfl rfl)
theorem dX3_bars_43 : decode cX3_bars 43 = .ok (.iconst 1, 1) := dk_4 (dk_at dksX3_bars_1 19 rfl rfl)
theorem dX3_bars_44 : decode cX3_bars 44 = .ok (.invokevirtual 177, 3) := dk_182 0 177 (dk_at dksX3_bars_1 20 rfl rfl)
theorem dX3_bars_47 : decode cX3_bars 47 = .ok (.ireturn, 1) := dk_172 (dk_at dksX3_bars_1 23 rfl rfl)
abbrev cX3_fair : ByteArray := prog_18_method_81_code
def yX3_fair : MethodName := ⟨RX3, "fai\x72", "(Z)I"⟩
def dkwX3_fair_2 : List UInt8 := [4, 167, 0, 14, 42, 182, 1, 86, 133, 28, 133, 27, 184, 1, 36, 172]
abbrev dktX3_fair_2 : List UInt8 := dkwX3_fair_2 ++ []
def dkwX3_fair_1 : List UInt8 := [182, 1, 83, 42, 180, 0, 20, 16, 49, 46, 104, 61, 28, 153, 0, 11, 42, 182, 1, 86, 28, 161, 0, 7]
abbrev dktX3_fair_1 : List UInt8 := dkwX3_fair_1 ++ dktX3_fair_2
def dkwX3_fair_0 : List UInt8 := [42, 182, 0, 174, 42, 180, 0, 183, 154, 0, 9, 42, 4, 182, 0, 177, 172, 42, 42, 182, 1, 89]
abbrev dktX3_fair_0 : List UInt8 := dkwX3_fair_0 ++ dktX3_fair_1
theorem dksX3_fair_0 : cX3_fair.data.toList.drop 0 = dktX3_fair_0 := by decide +kernel
theorem dksX3_fair_1 : cX3_fair.data.toList.drop 22 = dktX3_fair_1 := dk_seg dksX3_fair_0 22 rfl rfl
theorem dksX3_fair_2 : cX3_fair.data.toList.drop 46 = dktX3_fair_2 := dk_seg dksX3_fair_1 24 rfl rfl
theorem dX3_fair_0 : decode cX3_fair 0 = .ok (.aload_n 0, 1) := dk_42 (dk_at dksX3_fair_0 0 rfl rfl)
theorem dX3_fair_1 : decode cX3_fair 1 = .ok (.invokevirtual 174, 3) := dk_182 0 174 (dk_at dksX3_fair_0 1 rfl rfl)
theorem dX3_fair_4 : decode cX3_fair 4 = .ok (.aload_n 0, 1) := dk_42 (dk_at dksX3_fair_0 4 rfl rfl)
theorem dX3_fair_5 : decode cX3_fair 5 = .ok (.getfield 183, 3) := dk_180 0 183 (dk_at dksX3_fair_0 5 rfl rfl)
theorem dX3_fair_8 : decode cX3_fair 8 = .ok (.ifCond .ne 9, 3) := dk_154 0 9 (dk_at dksX3_fair_0 8 rfl rfl)
theorem dX3_fair_11 : decode cX3_fair 11 = .ok (.aload_n 0, 1) := dk_42 (dk_at dksX3_fair_0 11 rfl rfl)
theorem dX3_fair_12 : decode cX3_fair 12 = .ok (.iconst 1, 1) := dk_4 (dk_at dksX3_fair_0 12 rfl rfl)
theorem dX3_fair_13 : decode cX3_fair 13 = .ok (.invokevirtual 177, 3) := dk_182 0 177 (dk_at dksX3_fair_0 13 rfl rfl)
theorem dX3_fair_16 : decode cX3_fair 16 = .ok (.ireturn, 1) := dk_172 (dk_at dksX3_fair_0 16 rfl rfl)
theorem dX3_fair_17 : decode cX3_fair 17 = .ok (.aload_n 0, 1) := dk_42 (dk_at dksX3_fair_0 17 rfl rfl)
theorem dX3_fair_18 : decode cX3_fair 18 = .ok (.aload_n 0, 1) := dk_42 (dk_at dksX3_fair_0 18 rfl rfl)
theorem dX3_fair_19 : decode cX3_fair 19 = .ok (.invokevirtual 345, 3) := dk_182 1 89 (dk_at dksX3_fair_0 19 rfl rfl)
theorem dX3_fair_22 : decode cX3_fair 22 = .ok (.invokevirtual 339, 3) := dk_182 1 83 (dk_at dksX3_fair_1 0 rfl rfl)
theorem dX3_fair_25 : decode cX3_fair 25 = .ok (.aload_n 0, 1) := dk_42 (dk_at dksX3_fair_1 3 rfl rfl)
theorem dX3_fair_26 : decode cX3_fair 26 = .ok (.getfield 20, 3) := dk_180 0 20 (dk_at dksX3_fair_1 4 rfl rfl)
theorem dX3_fair_29 : decode cX3_fair 29 = .ok (.bipush 49, 2) := dk_16 49 (dk_at dksX3_fair_1 7 rfl rfl)
theorem dX3_fair_31 : decode cX3_fair 31 = .ok (.iaload, 1) := dk_46 (dk_at dksX3_fair_1 9 rfl rfl)
theorem dX3_fair_32 : decode cX3_fair 32 = .ok (.imul, 1) := dk_104 (dk_at dksX3_fair_1 10 rfl rfl)
theorem dX3_fair_33 : decode cX3_fair 33 = .ok (.istore_n 2, 1) := dk_61 (dk_at dksX3_fair_1 11 rfl rfl)
theorem dX3_fair_34 : decode cX3_fair 34 = .ok (.iload_n 2, 1) := dk_28 (dk_at dksX3_fair_1 12 rfl rfl)
theorem dX3_fair_35 : decode cX3_fair 35 = .ok (.ifCond .eq 11, 3) := dk_153 0 11 (dk_at dksX3_fair_1 13 rfl rfl)
theorem dX3_fair_38 : decode cX3_fair 38 = .ok (.aload_n 0, 1) := dk_42 (dk_at dksX3_fair_1 16 rfl rfl)
theorem dX3_fair_39 : decode cX3_fair 39 = .ok (.invokevirtual 342, 3) := dk_182 1 86 (dk_at dksX3_fair_1 17 rfl rfl)
theorem dX3_fair_42 : decode cX3_fair 42 = .ok (.iload_n 2, 1) := dk_28 (dk_at dksX3_fair_1 20 rfl rfl)
theorem dX3_fair_43 : decode cX3_fair 43 = .ok (.if_icmp .lt 7, 3) := dk_161 0 7 (dk_at dksX3_fair_1 21 rfl rfl)
theorem dX3_fair_46 : decode cX3_fair 46 = .ok (.iconst 1, 1) := dk_4 (dk_at dksX3_fair_2 0 rfl rfl)
theorem dX3_fair_47 : decode cX3_fair 47 = .ok (.goto 14, 3) := dk_167 0 14 (dk_at dksX3_fair_2 1 rfl rfl)
theorem dX3_fair_50 : decode cX3_fair 50 = .ok (.aload_n 0, 1) := dk_42 (dk_at dksX3_fair_2 4 rfl rfl)
theorem dX3_fair_51 : decode cX3_fair 51 = .ok (.invokevirtual 342, 3) := dk_182 1 86 (dk_at dksX3_fair_2 5 rfl rfl)
theorem dX3_fair_54 : decode cX3_fair 54 = .ok (.i2l, 1) := dk_133 (dk_at dksX3_fair_2 8 rfl rfl)
theorem dX3_fair_55 : decode cX3_fair 55 = .ok (.iload_n 2, 1) := dk_28 (dk_at dksX3_fair_2 9 rfl rfl)
theorem dX3_fair_56 : decode cX3_fair 56 = .ok (.i2l, 1) := dk_133 (dk_at dksX3_fair_2 10 rfl rfl)
theorem dX3_fair_57 : decode cX3_fair 57 = .ok (.iload_n 1, 1) := dk_27 (dk_at dksX3_fair_2 11 rfl rfl)
theorem dX3_fair_58 : decode cX3_fair 58 = .ok (.invokestatic 292, 3) := dk_184 1 36 (dk_at dksX3_fair_2 12 rfl rfl)
theorem dX3_fair_61 : decode cX3_fair 61 = .ok (.ireturn, 1) := dk_172 (dk_at dksX3_fair_2 15 rfl rfl)
abbrev cX3_ways : ByteArray := prog_18_method_84_code
def yX3_ways : MethodName := ⟨RX3, "ways", "()I"⟩
def dkwX3_ways_2 : List UInt8 := [167, 0, 4, 3, 96, 60, 132, 2, 1, 167, 255, 220, 27, 172]
abbrev dktX3_ways_2 : List UInt8 := dkwX3_ways_2 ++ []
def dkwX3_ways_1 : List UInt8 := [180, 0, 20, 16, 51, 46, 120, 162, 0, 29, 27, 42, 28, 182, 1, 92, 42, 182, 1, 95, 160, 0, 7, 4]
abbrev dktX3_ways_1 : List UInt8 := dkwX3_ways_1 ++ dktX3_ways_2
def dkwX3_ways_0 : List UInt8 := [42, 182, 0, 174, 42, 180, 0, 183, 154, 0, 9, 42, 4, 182, 0, 177, 172, 3, 60, 3, 61, 28, 4, 42]
abbrev dktX3_ways_0 : List UInt8 := dkwX3_ways_0 ++ dktX3_ways_1
theorem dksX3_ways_0 : cX3_ways.data.toList.drop 0 = dktX3_ways_0 := by decide +kernel
theorem dksX3_ways_1 : cX3_ways.data.toList.drop 24 = dktX3_ways_1 := dk_seg dksX3_ways_0 24 rfl rfl
theorem dksX3_ways_2 : cX3_ways.data.toList.drop 48 = dktX3_ways_2 := dk_seg dksX3_ways_1 24 rfl rfl
theorem dX3_ways_0 : decode cX3_ways 0 = .ok (.aload_n 0, 1) := dk_42 (dk_at dksX3_ways_0 0 rfl rfl)
theorem dX3_ways_1 : decode cX3_ways 1 = .ok (.invokevirtual 174, 3) := dk_182 0 174 (dk_at dksX3_ways_0 1 rfl rfl)
theorem dX3_ways_4 : decode cX3_ways 4 = .ok (.aload_n 0, 1) := dk_42 (dk_at dksX3_ways_0 4 rfl rfl)
theorem dX3_ways_5 : decode cX3_ways 5 = .ok (.getfield 183, 3) := dk_180 0 183 (dk_at dksX3_ways_0 5 rfl rfl)
theorem dX3_ways_8 : decode cX3_ways 8 = .ok (.ifCond .ne 9, 3) := dk_154 0 9 (dk_at dksX3_ways_0 8 rfl rfl)
theorem dX3_ways_11 : decode cX3_ways 11 = .ok (.aload_n 0, 1) := dk_42 (dk_at dksX3_ways_0 11 rfl rfl)
theorem dX3_ways_12 : decode cX3_ways 12 = .ok (.iconst 1, 1) := dk_4 (dk_at dksX3_ways_0 12 rfl rfl)
theorem dX3_ways_13 : decode cX3_ways 13 = .ok (.invokevirtual 177, 3) := dk_182 0 177 (dk_at dksX3_ways_0 13 rfl rfl)
theorem dX3_ways_16 : decode cX3_ways 16 = .ok (.ireturn, 1) := dk_172 (dk_at dksX3_ways_0 16 rfl rfl)
theorem dX3_ways_17 : decode cX3_ways 17 = .ok (.iconst 0, 1) := dk_3 (dk_at dksX3_ways_0 17 rfl rfl)
theorem dX3_ways_18 : decode cX3_ways 18 = .ok (.istore_n 1, 1) := dk_60 (dk_at dksX3_ways_0 18 rfl rfl)
theorem dX3_ways_19 : decode cX3_ways 19 = .ok (.iconst 0, 1) := dk_3 (dk_at dksX3_ways_0 19 rfl rfl)
theorem dX3_ways_20 : decode cX3_ways 20 = .ok (.istore_n 2, 1) := dk_61 (dk_at dksX3_ways_0 20 rfl rfl)
theorem dX3_ways_21 : decode cX3_ways 21 = .ok (.iload_n 2, 1) := dk_28 (dk_at dksX3_ways_0 21 rfl rfl)
theorem dX3_ways_22 : decode cX3_ways 22 = .ok (.iconst 1, 1) := dk_4 (dk_at dksX3_ways_0 22 rfl rfl)
theorem dX3_ways_23 : decode cX3_ways 23 = .ok (.aload_n 0, 1) := dk_42 (dk_at dksX3_ways_0 23 rfl rfl)
theorem dX3_ways_24 : decode cX3_ways 24 = .ok (.getfield 20, 3) := dk_180 0 20 (dk_at dksX3_ways_1 0 rfl rfl)
theorem dX3_ways_27 : decode cX3_ways 27 = .ok (.bipush 51, 2) := dk_16 51 (dk_at dksX3_ways_1 3 rfl rfl)
theorem dX3_ways_29 : decode cX3_ways 29 = .ok (.iaload, 1) := dk_46 (dk_at dksX3_ways_1 5 rfl rfl)
theorem dX3_ways_30 : decode cX3_ways 30 = .ok (.ishl, 1) := dk_120 (dk_at dksX3_ways_1 6 rfl rfl)
theorem dX3_ways_31 : decode cX3_ways 31 = .ok (.if_icmp .ge 29, 3) := dk_162 0 29 (dk_at dksX3_ways_1 7 rfl rfl)
theorem dX3_ways_34 : decode cX3_ways 34 = .ok (.iload_n 1, 1) := dk_27 (dk_at dksX3_ways_1 10 rfl rfl)
theorem dX3_ways_35 : decode cX3_ways 35 = .ok (.aload_n 0, 1) := dk_42 (dk_at dksX3_ways_1 11 rfl rfl)
theorem dX3_ways_36 : decode cX3_ways 36 = .ok (.iload_n 2, 1) := dk_28 (dk_at dksX3_ways_1 12 rfl rfl)
theorem dX3_ways_37 : decode cX3_ways 37 = .ok (.invokevirtual 348, 3) := dk_182 1 92 (dk_at dksX3_ways_1 13 rfl rfl)
theorem dX3_ways_40 : decode cX3_ways 40 = .ok (.aload_n 0, 1) := dk_42 (dk_at dksX3_ways_1 16 rfl rfl)
theorem dX3_ways_41 : decode cX3_ways 41 = .ok (.invokevirtual 351, 3) := dk_182 1 95 (dk_at dksX3_ways_1 17 rfl rfl)
theorem dX3_ways_44 : decode cX3_ways 44 = .ok (.if_icmp .ne 7, 3) := dk_160 0 7 (dk_at dksX3_ways_1 20 rfl rfl)
theorem dX3_ways_47 : decode cX3_ways 47 = .ok (.iconst 1, 1) := dk_4 (dk_at dksX3_ways_1 23 rfl rfl)
theorem dX3_ways_48 : decode cX3_ways 48 = .ok (.goto 4, 3) := dk_167 0 4 (dk_at dksX3_ways_2 0 rfl rfl)
theorem dX3_ways_51 : decode cX3_ways 51 = .ok (.iconst 0, 1) := dk_3 (dk_at dksX3_ways_2 3 rfl rfl)
theorem dX3_ways_52 : decode cX3_ways 52 = .ok (.iadd, 1) := dk_96 (dk_at dksX3_ways_2 4 rfl rfl)
theorem dX3_ways_53 : decode cX3_ways 53 = .ok (.istore_n 1, 1) := dk_60 (dk_at dksX3_ways_2 5 rfl rfl)
theorem dX3_ways_54 : decode cX3_ways 54 = .ok (.iinc 2 1, 3) := dk_132 2 1 (dk_at dksX3_ways_2 6 rfl rfl)
theorem dX3_ways_57 : decode cX3_ways 57 = .ok (.goto (-36), 3) := dk_167 255 220 (dk_at dksX3_ways_2 9 rfl rfl)
theorem dX3_ways_60 : decode cX3_ways 60 = .ok (.iload_n 1, 1) := dk_27 (dk_at dksX3_ways_2 12 rfl rfl)
theorem dX3_ways_61 : decode cX3_ways 61 = .ok (.ireturn, 1) := dk_172 (dk_at dksX3_ways_2 13 rfl rfl)
abbrev cX3_linesBy : ByteArray := prog_18_method_82_code
def yX3_linesBy : MethodName := ⟨RX3, "linesBy", "(I)I"⟩
def dkwX3_linesBy_3 : List UInt8 := [160, 0, 9, 4, 29, 120, 167, 0, 4, 3, 128, 61, 132, 3, 1, 167, 255, 175, 28, 172]
abbrev dktX3_linesBy_3 : List UInt8 := dkwX3_linesBy_3 ++ []
def dkwX3_linesBy_2 : List UInt8 := [54, 4, 132, 5, 1, 167, 255, 224, 28, 21, 4, 5, 112, 42, 180, 0, 20, 16, 77, 29, 96, 46]
abbrev dktX3_linesBy_2 : List UInt8 := dkwX3_linesBy_2 ++ dktX3_linesBy_3
def dkwX3_linesBy_1 : List UInt8 := [162, 0, 32, 21, 4, 27, 42, 180, 0, 20, 16, 53, 6, 29, 104, 96, 21, 5, 96, 46, 122, 4, 126, 96]
abbrev dktX3_linesBy_1 : List UInt8 := dkwX3_linesBy_1 ++ dktX3_linesBy_2
def dkwX3_linesBy_0 : List UInt8 := [3, 61, 3, 62, 29, 42, 180, 0, 20, 16, 52, 46, 162, 0, 76, 3, 54, 4, 3, 54, 5, 21, 5, 6]
abbrev dktX3_linesBy_0 : List UInt8 := dkwX3_linesBy_0 ++ dktX3_linesBy_1
theorem dksX3_linesBy_0 : cX3_linesBy.data.toList.drop 0 = dktX3_linesBy_0 := by decide +kernel
theorem dksX3_linesBy_1 : cX3_linesBy.data.toList.drop 24 = dktX3_linesBy_1 := dk_seg dksX3_linesBy_0 24 rfl rfl
theorem dksX3_linesBy_2 : cX3_linesBy.data.toList.drop 48 = dktX3_linesBy_2 := dk_seg dksX3_linesBy_1 24 rfl rfl
theorem dksX3_linesBy_3 : cX3_linesBy.data.toList.drop 70 = dktX3_linesBy_3 := dk_seg dksX3_linesBy_2 22 rfl rfl
theorem dX3_linesBy_0 : decode cX3_linesBy 0 = .ok (.iconst 0, 1) := dk_3 (dk_at dksX3_linesBy_0 0 rfl rfl)
theorem dX3_linesBy_1 : decode cX3_linesBy 1 = .ok (.istore_n 2, 1) := dk_61 (dk_at dksX3_linesBy_0 1 rfl rfl)
theorem dX3_linesBy_2 : decode cX3_linesBy 2 = .ok (.iconst 0, 1) := dk_3 (dk_at dksX3_linesBy_0 2 rfl rfl)
theorem dX3_linesBy_3 : decode cX3_linesBy 3 = .ok (.istore_n 3, 1) := dk_62 (dk_at dksX3_linesBy_0 3 rfl rfl)
theorem dX3_linesBy_4 : decode cX3_linesBy 4 = .ok (.iload_n 3, 1) := dk_29 (dk_at dksX3_linesBy_0 4 rfl rfl)
theorem dX3_linesBy_5 : decode cX3_linesBy 5 = .ok (.aload_n 0, 1) := dk_42 (dk_at dksX3_linesBy_0 5 rfl rfl)
theorem dX3_linesBy_6 : decode cX3_linesBy 6 = .ok (.getfield 20, 3) := dk_180 0 20 (dk_at dksX3_linesBy_0 6 rfl rfl)
theorem dX3_linesBy_9 : decode cX3_linesBy 9 = .ok (.bipush 52, 2) := dk_16 52 (dk_at dksX3_linesBy_0 9 rfl rfl)
theorem dX3_linesBy_11 : decode cX3_linesBy 11 = .ok (.iaload, 1) := dk_46 (dk_at dksX3_linesBy_0 11 rfl rfl)
theorem dX3_linesBy_12 : decode cX3_linesBy 12 = .ok (.if_icmp .ge 76, 3) := dk_162 0 76 (dk_at dksX3_linesBy_0 12 rfl rfl)
theorem dX3_linesBy_15 : decode cX3_linesBy 15 = .ok (.iconst 0, 1) := dk_3 (dk_at dksX3_linesBy_0 15 rfl rfl)
theorem dX3_linesBy_16 : decode cX3_linesBy 16 = .ok (.istore 4, 2) := dk_54 4 (dk_at dksX3_linesBy_0 16 rfl rfl)
theorem dX3_linesBy_18 : decode cX3_linesBy 18 = .ok (.iconst 0, 1) := dk_3 (dk_at dksX3_linesBy_0 18 rfl rfl)
theorem dX3_linesBy_19 : decode cX3_linesBy 19 = .ok (.istore 5, 2) := dk_54 5 (dk_at dksX3_linesBy_0 19 rfl rfl)
theorem dX3_linesBy_21 : decode cX3_linesBy 21 = .ok (.iload 5, 2) := dk_21 5 (dk_at dksX3_linesBy_0 21 rfl rfl)
theorem dX3_linesBy_23 : decode cX3_linesBy 23 = .ok (.iconst 3, 1) := dk_6 (dk_at dksX3_linesBy_0 23 rfl rfl)
theorem dX3_linesBy_24 : decode cX3_linesBy 24 = .ok (.if_icmp .ge 32, 3) := dk_162 0 32 (dk_at dksX3_linesBy_1 0 rfl rfl)
theorem dX3_linesBy_27 : decode cX3_linesBy 27 = .ok (.iload 4, 2) := dk_21 4 (dk_at dksX3_linesBy_1 3 rfl rfl)
theorem dX3_linesBy_29 : decode cX3_linesBy 29 = .ok (.iload_n 1, 1) := dk_27 (dk_at dksX3_linesBy_1 5 rfl rfl)
theorem dX3_linesBy_30 : decode cX3_linesBy 30 = .ok (.aload_n 0, 1) := dk_42 (dk_at dksX3_linesBy_1 6 rfl rfl)
theorem dX3_linesBy_31 : decode cX3_linesBy 31 = .ok (.getfield 20, 3) := dk_180 0 20 (dk_at dksX3_linesBy_1 7 rfl rfl)
theorem dX3_linesBy_34 : decode cX3_linesBy 34 = .ok (.bipush 53, 2) := dk_16 53 (dk_at dksX3_linesBy_1 10 rfl rfl)
theorem dX3_linesBy_36 : decode cX3_linesBy 36 = .ok (.iconst 3, 1) := dk_6 (dk_at dksX3_linesBy_1 12 rfl rfl)
theorem dX3_linesBy_37 : decode cX3_linesBy 37 = .ok (.iload_n 3, 1) := dk_29 (dk_at dksX3_linesBy_1 13 rfl rfl)
theorem dX3_linesBy_38 : decode cX3_linesBy 38 = .ok (.imul, 1) := dk_104 (dk_at dksX3_linesBy_1 14 rfl rfl)
theorem dX3_linesBy_39 : decode cX3_linesBy 39 = .ok (.iadd, 1) := dk_96 (dk_at dksX3_linesBy_1 15 rfl rfl)
theorem dX3_linesBy_40 : decode cX3_linesBy 40 = .ok (.iload 5, 2) := dk_21 5 (dk_at dksX3_linesBy_1 16 rfl rfl)
theorem dX3_linesBy_42 : decode cX3_linesBy 42 = .ok (.iadd, 1) := dk_96 (dk_at dksX3_linesBy_1 18 rfl rfl)
theorem dX3_linesBy_43 : decode cX3_linesBy 43 = .ok (.iaload, 1) := dk_46 (dk_at dksX3_linesBy_1 19 rfl rfl)
theorem dX3_linesBy_44 : decode cX3_linesBy 44 = .ok (.ishr, 1) := dk_122 (dk_at dksX3_linesBy_1 20 rfl rfl)
theorem dX3_linesBy_45 : decode cX3_linesBy 45 = .ok (.iconst 1, 1) := dk_4 (dk_at dksX3_linesBy_1 21 rfl rfl)
theorem dX3_linesBy_46 : decode cX3_linesBy 46 = .ok (.iand, 1) := dk_126 (dk_at dksX3_linesBy_1 22 rfl rfl)
theorem dX3_linesBy_47 : decode cX3_linesBy 47 = .ok (.iadd, 1) := dk_96 (dk_at dksX3_linesBy_1 23 rfl rfl)
theorem dX3_linesBy_48 : decode cX3_linesBy 48 = .ok (.istore 4, 2) := dk_54 4 (dk_at dksX3_linesBy_2 0 rfl rfl)
theorem dX3_linesBy_50 : decode cX3_linesBy 50 = .ok (.iinc 5 1, 3) := dk_132 5 1 (dk_at dksX3_linesBy_2 2 rfl rfl)
theorem dX3_linesBy_53 : decode cX3_linesBy 53 = .ok (.goto (-32), 3) := dk_167 255 224 (dk_at dksX3_linesBy_2 5 rfl rfl)
theorem dX3_linesBy_56 : decode cX3_linesBy 56 = .ok (.iload_n 2, 1) := dk_28 (dk_at dksX3_linesBy_2 8 rfl rfl)
theorem dX3_linesBy_57 : decode cX3_linesBy 57 = .ok (.iload 4, 2) := dk_21 4 (dk_at dksX3_linesBy_2 9 rfl rfl)
theorem dX3_linesBy_59 : decode cX3_linesBy 59 = .ok (.iconst 2, 1) := dk_5 (dk_at dksX3_linesBy_2 11 rfl rfl)
theorem dX3_linesBy_60 : decode cX3_linesBy 60 = .ok (.irem, 1) := dk_112 (dk_at dksX3_linesBy_2 12 rfl rfl)
theorem dX3_linesBy_61 : decode cX3_linesBy 61 = .ok (.aload_n 0, 1) := dk_42 (dk_at dksX3_linesBy_2 13 rfl rfl)
theorem dX3_linesBy_62 : decode cX3_linesBy 62 = .ok (.getfield 20, 3) := dk_180 0 20 (dk_at dksX3_linesBy_2 14 rfl rfl)
theorem dX3_linesBy_65 : decode cX3_linesBy 65 = .ok (.bipush 77, 2) := dk_16 77 (dk_at dksX3_linesBy_2 17 rfl rfl)
theorem dX3_linesBy_67 : decode cX3_linesBy 67 = .ok (.iload_n 3, 1) := dk_29 (dk_at dksX3_linesBy_2 19 rfl rfl)
theorem dX3_linesBy_68 : decode cX3_linesBy 68 = .ok (.iadd, 1) := dk_96 (dk_at dksX3_linesBy_2 20 rfl rfl)
theorem dX3_linesBy_69 : decode cX3_linesBy 69 = .ok (.iaload, 1) := dk_46 (dk_at dksX3_linesBy_2 21 rfl rfl)
theorem dX3_linesBy_70 : decode cX3_linesBy 70 = .ok (.if_icmp .ne 9, 3) := dk_160 0 9 (dk_at dksX3_linesBy_3 0 rfl rfl)
theorem dX3_linesBy_73 : decode cX3_linesBy 73 = .ok (.iconst 1, 1) := dk_4 (dk_at dksX3_linesBy_3 3 rfl rfl)
theorem dX3_linesBy_74 : decode cX3_linesBy 74 = .ok (.iload_n 3, 1) := dk_29 (dk_at dksX3_linesBy_3 4 rfl rfl)
theorem dX3_linesBy_75 : decode cX3_linesBy 75 = .ok (.ishl, 1) := dk_120 (dk_at dksX3_linesBy_3 5 rfl rfl)
theorem dX3_linesBy_76 : decode cX3_linesBy 76 = .ok (.goto 4, 3) := dk_167 0 4 (dk_at dksX3_linesBy_3 6 rfl rfl)
theorem dX3_linesBy_79 : decode cX3_linesBy 79 = .ok (.iconst 0, 1) := dk_3 (dk_at dksX3_linesBy_3 9 rfl rfl)
theorem dX3_linesBy_80 : decode cX3_linesBy 80 = .ok (.ior, 1) := dk_128 (dk_at dksX3_linesBy_3 10 rfl rfl)
theorem dX3_linesBy_81 : decode cX3_linesBy 81 = .ok (.istore_n 2, 1) := dk_61 (dk_at dksX3_linesBy_3 11 rfl rfl)
theorem dX3_linesBy_82 : decode cX3_linesBy 82 = .ok (.iinc 3 1, 3) := dk_132 3 1 (dk_at dksX3_linesBy_3 12 rfl rfl)
theorem dX3_linesBy_85 : decode cX3_linesBy 85 = .ok (.goto (-81), 3) := dk_167 255 175 (dk_at dksX3_linesBy_3 15 rfl rfl)
theorem dX3_linesBy_88 : decode cX3_linesBy 88 = .ok (.iload_n 2, 1) := dk_28 (dk_at dksX3_linesBy_3 18 rfl rfl)
theorem dX3_linesBy_89 : decode cX3_linesBy 89 = .ok (.ireturn, 1) := dk_172 (dk_at dksX3_linesBy_3 19 rfl rfl)
abbrev cX3_allLines : ByteArray := prog_18_method_83_code
def yX3_allLines : MethodName := ⟨RX3, "allLines", "()I"⟩
def dkwX3_allLines_0 : List UInt8 := [4, 42, 180, 0, 20, 16, 52, 46, 120, 4, 100, 172]
abbrev dktX3_allLines_0 : List UInt8 := dkwX3_allLines_0 ++ []
theorem dksX3_allLines_0 : cX3_allLines.data.toList.drop 0 = dktX3_allLines_0 := by decide +kernel
theorem dX3_allLines_0 : decode cX3_allLines 0 = .ok (.iconst 1, 1) := dk_4 (dk_at dksX3_allLines_0 0 rfl rfl)
theorem dX3_allLines_1 : decode cX3_allLines 1 = .ok (.aload_n 0, 1) := dk_42 (dk_at dksX3_allLines_0 1 rfl rfl)
theorem dX3_allLines_2 : decode cX3_allLines 2 = .ok (.getfield 20, 3) := dk_180 0 20 (dk_at dksX3_allLines_0 2 rfl rfl)
theorem dX3_allLines_5 : decode cX3_allLines 5 = .ok (.bipush 52, 2) := dk_16 52 (dk_at dksX3_allLines_0 5 rfl rfl)
theorem dX3_allLines_7 : decode cX3_allLines 7 = .ok (.iaload, 1) := dk_46 (dk_at dksX3_allLines_0 7 rfl rfl)
theorem dX3_allLines_8 : decode cX3_allLines 8 = .ok (.ishl, 1) := dk_120 (dk_at dksX3_allLines_0 8 rfl rfl)
theorem dX3_allLines_9 : decode cX3_allLines 9 = .ok (.iconst 1, 1) := dk_4 (dk_at dksX3_allLines_0 9 rfl rfl)
theorem dX3_allLines_10 : decode cX3_allLines 10 = .ok (.isub, 1) := dk_100 (dk_at dksX3_allLines_0 10 rfl rfl)
theorem dX3_allLines_11 : decode cX3_allLines 11 = .ok (.ireturn, 1) := dk_172 (dk_at dksX3_allLines_0 11 rfl rfl)
abbrev cX3_forced : ByteArray := prog_18_method_85_code
def yX3_forced : MethodName := ⟨RX3, "forced", "(I)I"⟩
def dkwX3_forced_5 : List UInt8 := [29, 154, 0, 7, 3, 167, 0, 5, 16, 254, 172]
abbrev dktX3_forced_5 : List UInt8 := dkwX3_forced_5 ++ []
def dkwX3_forced_4 : List UInt8 := [167, 255, 205, 28, 29, 96, 154, 0, 10, 42, 16, 6, 182, 0, 177, 172, 28, 154, 0, 7, 4, 167, 0, 13]
abbrev dktX3_forced_4 : List UInt8 := dkwX3_forced_4 ++ dktX3_forced_5
def dkwX3_forced_3 : List UInt8 := [167, 0, 21, 21, 4, 27, 184, 0, 162, 153, 0, 9, 132, 3, 1, 167, 0, 6, 132, 2, 1, 132, 4, 1]
abbrev dktX3_forced_3 : List UInt8 := dkwX3_forced_3 ++ dktX3_forced_4
def dkwX3_forced_2 : List UInt8 := [180, 0, 20, 16, 51, 46, 120, 162, 0, 43, 42, 21, 4, 182, 1, 92, 42, 182, 1, 95, 159, 0, 6]
abbrev dktX3_forced_2 : List UInt8 := dkwX3_forced_2 ++ dktX3_forced_3
def dkwX3_forced_1 : List UInt8 := [184, 0, 170, 154, 0, 9, 42, 4, 182, 0, 177, 172, 3, 61, 3, 62, 3, 54, 4, 21, 4, 4, 42]
abbrev dktX3_forced_1 : List UInt8 := dkwX3_forced_1 ++ dktX3_forced_2
def dkwX3_forced_0 : List UInt8 := [42, 182, 0, 174, 42, 180, 0, 183, 153, 0, 20, 27, 3, 42, 180, 0, 20, 16, 51, 46, 4, 100]
abbrev dktX3_forced_0 : List UInt8 := dkwX3_forced_0 ++ dktX3_forced_1
theorem dksX3_forced_0 : cX3_forced.data.toList.drop 0 = dktX3_forced_0 := by decide +kernel
theorem dksX3_forced_1 : cX3_forced.data.toList.drop 22 = dktX3_forced_1 := dk_seg dksX3_forced_0 22 rfl rfl
theorem dksX3_forced_2 : cX3_forced.data.toList.drop 45 = dktX3_forced_2 := dk_seg dksX3_forced_1 23 rfl rfl
theorem dksX3_forced_3 : cX3_forced.data.toList.drop 68 = dktX3_forced_3 := dk_seg dksX3_forced_2 23 rfl rfl
theorem dksX3_forced_4 : cX3_forced.data.toList.drop 92 = dktX3_forced_4 := dk_seg dksX3_forced_3 24 rfl rfl
theorem dksX3_forced_5 : cX3_forced.data.toList.drop 116 = dktX3_forced_5 := dk_seg dksX3_forced_4 24 rfl rfl
theorem dX3_forced_0 : decode cX3_forced 0 = .ok (.aload_n 0, 1) := dk_42 (dk_at dksX3_forced_0 0 rfl rfl)
theorem dX3_forced_1 : decode cX3_forced 1 = .ok (.invokevirtual 174, 3) := dk_182 0 174 (dk_at dksX3_forced_0 1 rfl rfl)
theorem dX3_forced_4 : decode cX3_forced 4 = .ok (.aload_n 0, 1) := dk_42 (dk_at dksX3_forced_0 4 rfl rfl)
theorem dX3_forced_5 : decode cX3_forced 5 = .ok (.getfield 183, 3) := dk_180 0 183 (dk_at dksX3_forced_0 5 rfl rfl)
theorem dX3_forced_8 : decode cX3_forced 8 = .ok (.ifCond .eq 20, 3) := dk_153 0 20 (dk_at dksX3_forced_0 8 rfl rfl)
theorem dX3_forced_11 : decode cX3_forced 11 = .ok (.iload_n 1, 1) := dk_27 (dk_at dksX3_forced_0 11 rfl rfl)
theorem dX3_forced_12 : decode cX3_forced 12 = .ok (.iconst 0, 1) := dk_3 (dk_at dksX3_forced_0 12 rfl rfl)
theorem dX3_forced_13 : decode cX3_forced 13 = .ok (.aload_n 0, 1) := dk_42 (dk_at dksX3_forced_0 13 rfl rfl)
theorem dX3_forced_14 : decode cX3_forced 14 = .ok (.getfield 20, 3) := dk_180 0 20 (dk_at dksX3_forced_0 14 rfl rfl)
theorem dX3_forced_17 : decode cX3_forced 17 = .ok (.bipush 51, 2) := dk_16 51 (dk_at dksX3_forced_0 17 rfl rfl)
theorem dX3_forced_19 : decode cX3_forced 19 = .ok (.iaload, 1) := dk_46 (dk_at dksX3_forced_0 19 rfl rfl)
theorem dX3_forced_20 : decode cX3_forced 20 = .ok (.iconst 1, 1) := dk_4 (dk_at dksX3_forced_0 20 rfl rfl)
theorem dX3_forced_21 : decode cX3_forced 21 = .ok (.isub, 1) := dk_100 (dk_at dksX3_forced_0 21 rfl rfl)
theorem dX3_forced_22 : decode cX3_forced 22 = .ok (.invokestatic 170, 3) := dk_184 0 170 (dk_at dksX3_forced_1 0 rfl rfl)
theorem dX3_forced_25 : decode cX3_forced 25 = .ok (.ifCond .ne 9, 3) := dk_154 0 9 (dk_at dksX3_forced_1 3 rfl rfl)
theorem dX3_forced_28 : decode cX3_forced 28 = .ok (.aload_n 0, 1) := dk_42 (dk_at dksX3_forced_1 6 rfl rfl)
theorem dX3_forced_29 : decode cX3_forced 29 = .ok (.iconst 1, 1) := dk_4 (dk_at dksX3_forced_1 7 rfl rfl)
theorem dX3_forced_30 : decode cX3_forced 30 = .ok (.invokevirtual 177, 3) := dk_182 0 177 (dk_at dksX3_forced_1 8 rfl rfl)
theorem dX3_forced_33 : decode cX3_forced 33 = .ok (.ireturn, 1) := dk_172 (dk_at dksX3_forced_1 11 rfl rfl)
theorem dX3_forced_34 : decode cX3_forced 34 = .ok (.iconst 0, 1) := dk_3 (dk_at dksX3_forced_1 12 rfl rfl)
theorem dX3_forced_35 : decode cX3_forced 35 = .ok (.istore_n 2, 1) := dk_61 (dk_at dksX3_forced_1 13 rfl rfl)
theorem dX3_forced_36 : decode cX3_forced 36 = .ok (.iconst 0, 1) := dk_3 (dk_at dksX3_forced_1 14 rfl rfl)
theorem dX3_forced_37 : decode cX3_forced 37 = .ok (.istore_n 3, 1) := dk_62 (dk_at dksX3_forced_1 15 rfl rfl)
theorem dX3_forced_38 : decode cX3_forced 38 = .ok (.iconst 0, 1) := dk_3 (dk_at dksX3_forced_1 16 rfl rfl)
theorem dX3_forced_39 : decode cX3_forced 39 = .ok (.istore 4, 2) := dk_54 4 (dk_at dksX3_forced_1 17 rfl rfl)
theorem dX3_forced_41 : decode cX3_forced 41 = .ok (.iload 4, 2) := dk_21 4 (dk_at dksX3_forced_1 19 rfl rfl)
theorem dX3_forced_43 : decode cX3_forced 43 = .ok (.iconst 1, 1) := dk_4 (dk_at dksX3_forced_1 21 rfl rfl)
theorem dX3_forced_44 : decode cX3_forced 44 = .ok (.aload_n 0, 1) := dk_42 (dk_at dksX3_forced_1 22 rfl rfl)
theorem dX3_forced_45 : decode cX3_forced 45 = .ok (.getfield 20, 3) := dk_180 0 20 (dk_at dksX3_forced_2 0 rfl rfl)
theorem dX3_forced_48 : decode cX3_forced 48 = .ok (.bipush 51, 2) := dk_16 51 (dk_at dksX3_forced_2 3 rfl rfl)
theorem dX3_forced_50 : decode cX3_forced 50 = .ok (.iaload, 1) := dk_46 (dk_at dksX3_forced_2 5 rfl rfl)
theorem dX3_forced_51 : decode cX3_forced 51 = .ok (.ishl, 1) := dk_120 (dk_at dksX3_forced_2 6 rfl rfl)
theorem dX3_forced_52 : decode cX3_forced 52 = .ok (.if_icmp .ge 43, 3) := dk_162 0 43 (dk_at dksX3_forced_2 7 rfl rfl)
theorem dX3_forced_55 : decode cX3_forced 55 = .ok (.aload_n 0, 1) := dk_42 (dk_at dksX3_forced_2 10 rfl rfl)
theorem dX3_forced_56 : decode cX3_forced 56 = .ok (.iload 4, 2) := dk_21 4 (dk_at dksX3_forced_2 11 rfl rfl)
theorem dX3_forced_58 : decode cX3_forced 58 = .ok (.invokevirtual 348, 3) := dk_182 1 92 (dk_at dksX3_forced_2 13 rfl rfl)
theorem dX3_forced_61 : decode cX3_forced 61 = .ok (.aload_n 0, 1) := dk_42 (dk_at dksX3_forced_2 16 rfl rfl)
theorem dX3_forced_62 : decode cX3_forced 62 = .ok (.invokevirtual 351, 3) := dk_182 1 95 (dk_at dksX3_forced_2 17 rfl rfl)
theorem dX3_forced_65 : decode cX3_forced 65 = .ok (.if_icmp .eq 6, 3) := dk_159 0 6 (dk_at dksX3_forced_2 20 rfl rfl)
theorem dX3_forced_68 : decode cX3_forced 68 = .ok (.goto 21, 3) := dk_167 0 21 (dk_at dksX3_forced_3 0 rfl rfl)
theorem dX3_forced_71 : decode cX3_forced 71 = .ok (.iload 4, 2) := dk_21 4 (dk_at dksX3_forced_3 3 rfl rfl)
theorem dX3_forced_73 : decode cX3_forced 73 = .ok (.iload_n 1, 1) := dk_27 (dk_at dksX3_forced_3 5 rfl rfl)
theorem dX3_forced_74 : decode cX3_forced 74 = .ok (.invokestatic 162, 3) := dk_184 0 162 (dk_at dksX3_forced_3 6 rfl rfl)
theorem dX3_forced_77 : decode cX3_forced 77 = .ok (.ifCond .eq 9, 3) := dk_153 0 9 (dk_at dksX3_forced_3 9 rfl rfl)
theorem dX3_forced_80 : decode cX3_forced 80 = .ok (.iinc 3 1, 3) := dk_132 3 1 (dk_at dksX3_forced_3 12 rfl rfl)
theorem dX3_forced_83 : decode cX3_forced 83 = .ok (.goto 6, 3) := dk_167 0 6 (dk_at dksX3_forced_3 15 rfl rfl)
theorem dX3_forced_86 : decode cX3_forced 86 = .ok (.iinc 2 1, 3) := dk_132 2 1 (dk_at dksX3_forced_3 18 rfl rfl)
theorem dX3_forced_89 : decode cX3_forced 89 = .ok (.iinc 4 1, 3) := dk_132 4 1 (dk_at dksX3_forced_3 21 rfl rfl)
theorem dX3_forced_92 : decode cX3_forced 92 = .ok (.goto (-51), 3) := dk_167 255 205 (dk_at dksX3_forced_4 0 rfl rfl)
theorem dX3_forced_95 : decode cX3_forced 95 = .ok (.iload_n 2, 1) := dk_28 (dk_at dksX3_forced_4 3 rfl rfl)
theorem dX3_forced_96 : decode cX3_forced 96 = .ok (.iload_n 3, 1) := dk_29 (dk_at dksX3_forced_4 4 rfl rfl)
theorem dX3_forced_97 : decode cX3_forced 97 = .ok (.iadd, 1) := dk_96 (dk_at dksX3_forced_4 5 rfl rfl)
theorem dX3_forced_98 : decode cX3_forced 98 = .ok (.ifCond .ne 10, 3) := dk_154 0 10 (dk_at dksX3_forced_4 6 rfl rfl)
theorem dX3_forced_101 : decode cX3_forced 101 = .ok (.aload_n 0, 1) := dk_42 (dk_at dksX3_forced_4 9 rfl rfl)
theorem dX3_forced_102 : decode cX3_forced 102 = .ok (.bipush 6, 2) := dk_16 6 (dk_at dksX3_forced_4 10 rfl rfl)
theorem dX3_forced_104 : decode cX3_forced 104 = .ok (.invokevirtual 177, 3) := dk_182 0 177 (dk_at dksX3_forced_4 12 rfl rfl)
theorem dX3_forced_107 : decode cX3_forced 107 = .ok (.ireturn, 1) := dk_172 (dk_at dksX3_forced_4 15 rfl rfl)
theorem dX3_forced_108 : decode cX3_forced 108 = .ok (.iload_n 2, 1) := dk_28 (dk_at dksX3_forced_4 16 rfl rfl)
theorem dX3_forced_109 : decode cX3_forced 109 = .ok (.ifCond .ne 7, 3) := dk_154 0 7 (dk_at dksX3_forced_4 17 rfl rfl)
theorem dX3_forced_112 : decode cX3_forced 112 = .ok (.iconst 1, 1) := dk_4 (dk_at dksX3_forced_4 20 rfl rfl)
theorem dX3_forced_113 : decode cX3_forced 113 = .ok (.goto 13, 3) := dk_167 0 13 (dk_at dksX3_forced_4 21 rfl rfl)
theorem dX3_forced_116 : decode cX3_forced 116 = .ok (.iload_n 3, 1) := dk_29 (dk_at dksX3_forced_5 0 rfl rfl)
theorem dX3_forced_117 : decode cX3_forced 117 = .ok (.ifCond .ne 7, 3) := dk_154 0 7 (dk_at dksX3_forced_5 1 rfl rfl)
theorem dX3_forced_120 : decode cX3_forced 120 = .ok (.iconst 0, 1) := dk_3 (dk_at dksX3_forced_5 4 rfl rfl)
theorem dX3_forced_121 : decode cX3_forced 121 = .ok (.goto 5, 3) := dk_167 0 5 (dk_at dksX3_forced_5 5 rfl rfl)
theorem dX3_forced_124 : decode cX3_forced 124 = .ok (.bipush (-2), 2) := dk_16 254 (dk_at dksX3_forced_5 8 rfl rfl)
theorem dX3_forced_126 : decode cX3_forced 126 = .ok (.ireturn, 1) := dk_172 (dk_at dksX3_forced_5 10 rfl rfl)
abbrev cX3_core : ByteArray := prog_18_method_87_code
def yX3_core : MethodName := ⟨RX3, "core", "()I"⟩
def dkwX3_core_2 : List UInt8 := [28, 182, 1, 98, 154, 0, 5, 28, 60, 132, 2, 1, 167, 255, 218, 27, 172]
abbrev dktX3_core_2 : List UInt8 := dkwX3_core_2 ++ []
def dkwX3_core_1 : List UInt8 := [182, 1, 95, 163, 0, 36, 27, 16, 254, 159, 0, 14, 28, 184, 1, 67, 27, 184, 1, 67, 162, 0, 13, 42]
abbrev dktX3_core_1 : List UInt8 := dkwX3_core_1 ++ dktX3_core_2
def dkwX3_core_0 : List UInt8 := [42, 182, 0, 174, 42, 180, 0, 183, 154, 0, 9, 42, 4, 182, 0, 177, 172, 16, 254, 60, 3, 61, 28, 42]
abbrev dktX3_core_0 : List UInt8 := dkwX3_core_0 ++ dktX3_core_1
theorem dksX3_core_0 : cX3_core.data.toList.drop 0 = dktX3_core_0 := by decide +kernel
theorem dksX3_core_1 : cX3_core.data.toList.drop 24 = dktX3_core_1 := dk_seg dksX3_core_0 24 rfl rfl
theorem dksX3_core_2 : cX3_core.data.toList.drop 48 = dktX3_core_2 := dk_seg dksX3_core_1 24 rfl rfl
theorem dX3_core_0 : decode cX3_core 0 = .ok (.aload_n 0, 1) := dk_42 (dk_at dksX3_core_0 0 rfl rfl)
theorem dX3_core_1 : decode cX3_core 1 = .ok (.invokevirtual 174, 3) := dk_182 0 174 (dk_at dksX3_core_0 1 rfl rfl)
theorem dX3_core_4 : decode cX3_core 4 = .ok (.aload_n 0, 1) := dk_42 (dk_at dksX3_core_0 4 rfl rfl)
theorem dX3_core_5 : decode cX3_core 5 = .ok (.getfield 183, 3) := dk_180 0 183 (dk_at dksX3_core_0 5 rfl rfl)
theorem dX3_core_8 : decode cX3_core 8 = .ok (.ifCond .ne 9, 3) := dk_154 0 9 (dk_at dksX3_core_0 8 rfl rfl)
theorem dX3_core_11 : decode cX3_core 11 = .ok (.aload_n 0, 1) := dk_42 (dk_at dksX3_core_0 11 rfl rfl)
theorem dX3_core_12 : decode cX3_core 12 = .ok (.iconst 1, 1) := dk_4 (dk_at dksX3_core_0 12 rfl rfl)
theorem dX3_core_13 : decode cX3_core 13 = .ok (.invokevirtual 177, 3) := dk_182 0 177 (dk_at dksX3_core_0 13 rfl rfl)
theorem dX3_core_16 : decode cX3_core 16 = .ok (.ireturn, 1) := dk_172 (dk_at dksX3_core_0 16 rfl rfl)
theorem dX3_core_17 : decode cX3_core 17 = .ok (.bipush (-2), 2) := dk_16 254 (dk_at dksX3_core_0 17 rfl rfl)
theorem dX3_core_19 : decode cX3_core 19 = .ok (.istore_n 1, 1) := dk_60 (dk_at dksX3_core_0 19 rfl rfl)
theorem dX3_core_20 : decode cX3_core 20 = .ok (.iconst 0, 1) := dk_3 (dk_at dksX3_core_0 20 rfl rfl)
theorem dX3_core_21 : decode cX3_core 21 = .ok (.istore_n 2, 1) := dk_61 (dk_at dksX3_core_0 21 rfl rfl)
theorem dX3_core_22 : decode cX3_core 22 = .ok (.iload_n 2, 1) := dk_28 (dk_at dksX3_core_0 22 rfl rfl)
theorem dX3_core_23 : decode cX3_core 23 = .ok (.aload_n 0, 1) := dk_42 (dk_at dksX3_core_0 23 rfl rfl)
theorem dX3_core_24 : decode cX3_core 24 = .ok (.invokevirtual 351, 3) := dk_182 1 95 (dk_at dksX3_core_1 0 rfl rfl)
theorem dX3_core_27 : decode cX3_core 27 = .ok (.if_icmp .gt 36, 3) := dk_163 0 36 (dk_at dksX3_core_1 3 rfl rfl)
theorem dX3_core_30 : decode cX3_core 30 = .ok (.iload_n 1, 1) := dk_27 (dk_at dksX3_core_1 6 rfl rfl)
theorem dX3_core_31 : decode cX3_core 31 = .ok (.bipush (-2), 2) := dk_16 254 (dk_at dksX3_core_1 7 rfl rfl)
theorem dX3_core_33 : decode cX3_core 33 = .ok (.if_icmp .eq 14, 3) := dk_159 0 14 (dk_at dksX3_core_1 9 rfl rfl)
theorem dX3_core_36 : decode cX3_core 36 = .ok (.iload_n 2, 1) := dk_28 (dk_at dksX3_core_1 12 rfl rfl)
theorem dX3_core_37 : decode cX3_core 37 = .ok (.invokestatic 323, 3) := dk_184 1 67 (dk_at dksX3_core_1 13 rfl rfl)
theorem dX3_core_40 : decode cX3_core 40 = .ok (.iload_n 1, 1) := dk_27 (dk_at dksX3_core_1 16 rfl rfl)
theorem dX3_core_41 : decode cX3_core 41 = .ok (.invokestatic 323, 3) := dk_184 1 67 (dk_at dksX3_core_1 17 rfl rfl)
theorem dX3_core_44 : decode cX3_core 44 = .ok (.if_icmp .ge 13, 3) := dk_162 0 13 (dk_at dksX3_core_1 20 rfl rfl)
theorem dX3_core_47 : decode cX3_core 47 = .ok (.aload_n 0, 1) := dk_42 (dk_at dksX3_core_1 23 rfl rfl)
theorem dX3_core_48 : decode cX3_core 48 = .ok (.iload_n 2, 1) := dk_28 (dk_at dksX3_core_2 0 rfl rfl)
theorem dX3_core_49 : decode cX3_core 49 = .ok (.invokevirtual 354, 3) := dk_182 1 98 (dk_at dksX3_core_2 1 rfl rfl)
theorem dX3_core_52 : decode cX3_core 52 = .ok (.ifCond .ne 5, 3) := dk_154 0 5 (dk_at dksX3_core_2 4 rfl rfl)
theorem dX3_core_55 : decode cX3_core 55 = .ok (.iload_n 2, 1) := dk_28 (dk_at dksX3_core_2 7 rfl rfl)
theorem dX3_core_56 : decode cX3_core 56 = .ok (.istore_n 1, 1) := dk_60 (dk_at dksX3_core_2 8 rfl rfl)
theorem dX3_core_57 : decode cX3_core 57 = .ok (.iinc 2 1, 3) := dk_132 2 1 (dk_at dksX3_core_2 9 rfl rfl)
theorem dX3_core_60 : decode cX3_core 60 = .ok (.goto (-38), 3) := dk_167 255 218 (dk_at dksX3_core_2 12 rfl rfl)
theorem dX3_core_63 : decode cX3_core 63 = .ok (.iload_n 1, 1) := dk_27 (dk_at dksX3_core_2 15 rfl rfl)
theorem dX3_core_64 : decode cX3_core 64 = .ok (.ireturn, 1) := dk_172 (dk_at dksX3_core_2 16 rfl rfl)
abbrev cX3_canLines : ByteArray := prog_18_method_86_code
def yX3_canLines : MethodName := ⟨RX3, "canLines", "(I)Z"⟩
def dkwX3_canLines_1 : List UInt8 := [182, 1, 92, 2, 130, 126, 154, 0, 7, 4, 167, 0, 4, 3, 61, 132, 3, 1, 167, 255, 218, 28, 172]
abbrev dktX3_canLines_1 : List UInt8 := dkwX3_canLines_1 ++ []
def dkwX3_canLines_0 : List UInt8 := [3, 61, 3, 62, 29, 4, 42, 180, 0, 20, 16, 51, 46, 120, 162, 0, 31, 28, 154, 0, 27, 27, 42, 29]
abbrev dktX3_canLines_0 : List UInt8 := dkwX3_canLines_0 ++ dktX3_canLines_1
theorem dksX3_canLines_0 : cX3_canLines.data.toList.drop 0 = dktX3_canLines_0 := by decide +kernel
theorem dksX3_canLines_1 : cX3_canLines.data.toList.drop 24 = dktX3_canLines_1 := dk_seg dksX3_canLines_0 24 rfl rfl
theorem dX3_canLines_0 : decode cX3_canLines 0 = .ok (.iconst 0, 1) := dk_3 (dk_at dksX3_canLines_0 0 rfl rfl)
theorem dX3_canLines_1 : decode cX3_canLines 1 = .ok (.istore_n 2, 1) := dk_61 (dk_at dksX3_canLines_0 1 rfl rfl)
theorem dX3_canLines_2 : decode cX3_canLines 2 = .ok (.iconst 0, 1) := dk_3 (dk_at dksX3_canLines_0 2 rfl rfl)
theorem dX3_canLines_3 : decode cX3_canLines 3 = .ok (.istore_n 3, 1) := dk_62 (dk_at dksX3_canLines_0 3 rfl rfl)
theorem dX3_canLines_4 : decode cX3_canLines 4 = .ok (.iload_n 3, 1) := dk_29 (dk_at dksX3_canLines_0 4 rfl rfl)
theorem dX3_canLines_5 : decode cX3_canLines 5 = .ok (.iconst 1, 1) := dk_4 (dk_at dksX3_canLines_0 5 rfl rfl)
theorem dX3_canLines_6 : decode cX3_canLines 6 = .ok (.aload_n 0, 1) := dk_42 (dk_at dksX3_canLines_0 6 rfl rfl)
theorem dX3_canLines_7 : decode cX3_canLines 7 = .ok (.getfield 20, 3) := dk_180 0 20 (dk_at dksX3_canLines_0 7 rfl rfl)
theorem dX3_canLines_10 : decode cX3_canLines 10 = .ok (.bipush 51, 2) := dk_16 51 (dk_at dksX3_canLines_0 10 rfl rfl)
theorem dX3_canLines_12 : decode cX3_canLines 12 = .ok (.iaload, 1) := dk_46 (dk_at dksX3_canLines_0 12 rfl rfl)
theorem dX3_canLines_13 : decode cX3_canLines 13 = .ok (.ishl, 1) := dk_120 (dk_at dksX3_canLines_0 13 rfl rfl)
theorem dX3_canLines_14 : decode cX3_canLines 14 = .ok (.if_icmp .ge 31, 3) := dk_162 0 31 (dk_at dksX3_canLines_0 14 rfl rfl)
theorem dX3_canLines_17 : decode cX3_canLines 17 = .ok (.iload_n 2, 1) := dk_28 (dk_at dksX3_canLines_0 17 rfl rfl)
theorem dX3_canLines_18 : decode cX3_canLines 18 = .ok (.ifCond .ne 27, 3) := dk_154 0 27 (dk_at dksX3_canLines_0 18 rfl rfl)
theorem dX3_canLines_21 : decode cX3_canLines 21 = .ok (.iload_n 1, 1) := dk_27 (dk_at dksX3_canLines_0 21 rfl rfl)
theorem dX3_canLines_22 : decode cX3_canLines 22 = .ok (.aload_n 0, 1) := dk_42 (dk_at dksX3_canLines_0 22 rfl rfl)
theorem dX3_canLines_23 : decode cX3_canLines 23 = .ok (.iload_n 3, 1) := dk_29 (dk_at dksX3_canLines_0 23 rfl rfl)
theorem dX3_canLines_24 : decode cX3_canLines 24 = .ok (.invokevirtual 348, 3) := dk_182 1 92 (dk_at dksX3_canLines_1 0 rfl rfl)
theorem dX3_canLines_27 : decode cX3_canLines 27 = .ok (.iconst (-1), 1) := dk_2 (dk_at dksX3_canLines_1 3 rfl rfl)
theorem dX3_canLines_28 : decode cX3_canLines 28 = .ok (.ixor, 1) := dk_130 (dk_at dksX3_canLines_1 4 rfl rfl)
theorem dX3_canLines_29 : decode cX3_canLines 29 = .ok (.iand, 1) := dk_126 (dk_at dksX3_canLines_1 5 rfl rfl)
theorem dX3_canLines_30 : decode cX3_canLines 30 = .ok (.ifCond .ne 7, 3) := dk_154 0 7 (dk_at dksX3_canLines_1 6 rfl rfl)
theorem dX3_canLines_33 : decode cX3_canLines 33 = .ok (.iconst 1, 1) := dk_4 (dk_at dksX3_canLines_1 9 rfl rfl)
theorem dX3_canLines_34 : decode cX3_canLines 34 = .ok (.goto 4, 3) := dk_167 0 4 (dk_at dksX3_canLines_1 10 rfl rfl)
theorem dX3_canLines_37 : decode cX3_canLines 37 = .ok (.iconst 0, 1) := dk_3 (dk_at dksX3_canLines_1 13 rfl rfl)
theorem dX3_canLines_38 : decode cX3_canLines 38 = .ok (.istore_n 2, 1) := dk_61 (dk_at dksX3_canLines_1 14 rfl rfl)
theorem dX3_canLines_39 : decode cX3_canLines 39 = .ok (.iinc 3 1, 3) := dk_132 3 1 (dk_at dksX3_canLines_1 15 rfl rfl)
theorem dX3_canLines_42 : decode cX3_canLines 42 = .ok (.goto (-38), 3) := dk_167 255 218 (dk_at dksX3_canLines_1 18 rfl rfl)
theorem dX3_canLines_45 : decode cX3_canLines 45 = .ok (.iload_n 2, 1) := dk_28 (dk_at dksX3_canLines_1 21 rfl rfl)
theorem dX3_canLines_46 : decode cX3_canLines 46 = .ok (.ireturn, 1) := dk_172 (dk_at dksX3_canLines_1 22 rfl rfl)
abbrev cX3_can : ByteArray := prog_18_method_88_code
def yX3_can : MethodName := ⟨RX3, "can", "(I)I"⟩
def dkwX3_can_2 : List UInt8 := [182, 0, 177, 172]
abbrev dktX3_can_2 : List UInt8 := dkwX3_can_2 ++ []
def dkwX3_can_1 : List UInt8 := [184, 0, 170, 153, 0, 19, 42, 27, 182, 1, 98, 153, 0, 7, 4, 167, 0, 12, 3, 167, 0, 8, 42, 5]
abbrev dktX3_can_1 : List UInt8 := dkwX3_can_1 ++ dktX3_can_2
def dkwX3_can_0 : List UInt8 := [42, 182, 0, 174, 42, 180, 0, 183, 154, 0, 9, 42, 4, 182, 0, 177, 172, 27, 3, 42, 182, 1, 95]
abbrev dktX3_can_0 : List UInt8 := dkwX3_can_0 ++ dktX3_can_1
theorem dksX3_can_0 : cX3_can.data.toList.drop 0 = dktX3_can_0 := by decide +kernel
theorem dksX3_can_1 : cX3_can.data.toList.drop 23 = dktX3_can_1 := dk_seg dksX3_can_0 23 rfl rfl
theorem dksX3_can_2 : cX3_can.data.toList.drop 47 = dktX3_can_2 := dk_seg dksX3_can_1 24 rfl rfl
theorem dX3_can_0 : decode cX3_can 0 = .ok (.aload_n 0, 1) := dk_42 (dk_at dksX3_can_0 0 rfl rfl)
theorem dX3_can_1 : decode cX3_can 1 = .ok (.invokevirtual 174, 3) := dk_182 0 174 (dk_at dksX3_can_0 1 rfl rfl)
theorem dX3_can_4 : decode cX3_can 4 = .ok (.aload_n 0, 1) := dk_42 (dk_at dksX3_can_0 4 rfl rfl)
theorem dX3_can_5 : decode cX3_can 5 = .ok (.getfield 183, 3) := dk_180 0 183 (dk_at dksX3_can_0 5 rfl rfl)
theorem dX3_can_8 : decode cX3_can 8 = .ok (.ifCond .ne 9, 3) := dk_154 0 9 (dk_at dksX3_can_0 8 rfl rfl)
theorem dX3_can_11 : decode cX3_can 11 = .ok (.aload_n 0, 1) := dk_42 (dk_at dksX3_can_0 11 rfl rfl)
theorem dX3_can_12 : decode cX3_can 12 = .ok (.iconst 1, 1) := dk_4 (dk_at dksX3_can_0 12 rfl rfl)
theorem dX3_can_13 : decode cX3_can 13 = .ok (.invokevirtual 177, 3) := dk_182 0 177 (dk_at dksX3_can_0 13 rfl rfl)
theorem dX3_can_16 : decode cX3_can 16 = .ok (.ireturn, 1) := dk_172 (dk_at dksX3_can_0 16 rfl rfl)
theorem dX3_can_17 : decode cX3_can 17 = .ok (.iload_n 1, 1) := dk_27 (dk_at dksX3_can_0 17 rfl rfl)
theorem dX3_can_18 : decode cX3_can 18 = .ok (.iconst 0, 1) := dk_3 (dk_at dksX3_can_0 18 rfl rfl)
theorem dX3_can_19 : decode cX3_can 19 = .ok (.aload_n 0, 1) := dk_42 (dk_at dksX3_can_0 19 rfl rfl)
theorem dX3_can_20 : decode cX3_can 20 = .ok (.invokevirtual 351, 3) := dk_182 1 95 (dk_at dksX3_can_0 20 rfl rfl)
theorem dX3_can_23 : decode cX3_can 23 = .ok (.invokestatic 170, 3) := dk_184 0 170 (dk_at dksX3_can_1 0 rfl rfl)
theorem dX3_can_26 : decode cX3_can 26 = .ok (.ifCond .eq 19, 3) := dk_153 0 19 (dk_at dksX3_can_1 3 rfl rfl)
theorem dX3_can_29 : decode cX3_can 29 = .ok (.aload_n 0, 1) := dk_42 (dk_at dksX3_can_1 6 rfl rfl)
theorem dX3_can_30 : decode cX3_can 30 = .ok (.iload_n 1, 1) := dk_27 (dk_at dksX3_can_1 7 rfl rfl)
theorem dX3_can_31 : decode cX3_can 31 = .ok (.invokevirtual 354, 3) := dk_182 1 98 (dk_at dksX3_can_1 8 rfl rfl)
theorem dX3_can_34 : decode cX3_can 34 = .ok (.ifCond .eq 7, 3) := dk_153 0 7 (dk_at dksX3_can_1 11 rfl rfl)
theorem dX3_can_37 : decode cX3_can 37 = .ok (.iconst 1, 1) := dk_4 (dk_at dksX3_can_1 14 rfl rfl)
theorem dX3_can_38 : decode cX3_can 38 = .ok (.goto 12, 3) := dk_167 0 12 (dk_at dksX3_can_1 15 rfl rfl)
theorem dX3_can_41 : decode cX3_can 41 = .ok (.iconst 0, 1) := dk_3 (dk_at dksX3_can_1 18 rfl rfl)
theorem dX3_can_42 : decode cX3_can 42 = .ok (.goto 8, 3) := dk_167 0 8 (dk_at dksX3_can_1 19 rfl rfl)
theorem dX3_can_45 : decode cX3_can 45 = .ok (.aload_n 0, 1) := dk_42 (dk_at dksX3_can_1 22 rfl rfl)
theorem dX3_can_46 : decode cX3_can 46 = .ok (.iconst 2, 1) := dk_5 (dk_at dksX3_can_1 23 rfl rfl)
theorem dX3_can_47 : decode cX3_can 47 = .ok (.invokevirtual 177, 3) := dk_182 0 177 (dk_at dksX3_can_2 0 rfl rfl)
theorem dX3_can_50 : decode cX3_can 50 = .ok (.ireturn, 1) := dk_172 (dk_at dksX3_can_2 3 rfl rfl)
abbrev cX3_game : ByteArray := prog_18_method_89_code
def yX3_game : MethodName := ⟨RX3, "game", "()I"⟩
def dkwX3_game_2 : List UInt8 := [182, 1, 92, 184, 1, 67, 167, 0, 4, 27, 60, 132, 2, 1, 167, 255, 215, 27, 172]
abbrev dktX3_game_2 : List UInt8 := dkwX3_game_2 ++ []
def dkwX3_game_1 : List UInt8 := [180, 0, 20, 16, 51, 46, 120, 162, 0, 34, 42, 28, 182, 1, 92, 184, 1, 67, 27, 164, 0, 14, 42, 28]
abbrev dktX3_game_1 : List UInt8 := dkwX3_game_1 ++ dktX3_game_2
def dkwX3_game_0 : List UInt8 := [42, 182, 0, 174, 42, 180, 0, 183, 154, 0, 9, 42, 4, 182, 0, 177, 172, 3, 60, 3, 61, 28, 4, 42]
abbrev dktX3_game_0 : List UInt8 := dkwX3_game_0 ++ dktX3_game_1
theorem dksX3_game_0 : cX3_game.data.toList.drop 0 = dktX3_game_0 := by decide +kernel
theorem dksX3_game_1 : cX3_game.data.toList.drop 24 = dktX3_game_1 := dk_seg dksX3_game_0 24 rfl rfl
theorem dksX3_game_2 : cX3_game.data.toList.drop 48 = dktX3_game_2 := dk_seg dksX3_game_1 24 rfl rfl
theorem dX3_game_0 : decode cX3_game 0 = .ok (.aload_n 0, 1) := dk_42 (dk_at dksX3_game_0 0 rfl rfl)
theorem dX3_game_1 : decode cX3_game 1 = .ok (.invokevirtual 174, 3) := dk_182 0 174 (dk_at dksX3_game_0 1 rfl rfl)
theorem dX3_game_4 : decode cX3_game 4 = .ok (.aload_n 0, 1) := dk_42 (dk_at dksX3_game_0 4 rfl rfl)
theorem dX3_game_5 : decode cX3_game 5 = .ok (.getfield 183, 3) := dk_180 0 183 (dk_at dksX3_game_0 5 rfl rfl)
theorem dX3_game_8 : decode cX3_game 8 = .ok (.ifCond .ne 9, 3) := dk_154 0 9 (dk_at dksX3_game_0 8 rfl rfl)
theorem dX3_game_11 : decode cX3_game 11 = .ok (.aload_n 0, 1) := dk_42 (dk_at dksX3_game_0 11 rfl rfl)
theorem dX3_game_12 : decode cX3_game 12 = .ok (.iconst 1, 1) := dk_4 (dk_at dksX3_game_0 12 rfl rfl)
theorem dX3_game_13 : decode cX3_game 13 = .ok (.invokevirtual 177, 3) := dk_182 0 177 (dk_at dksX3_game_0 13 rfl rfl)
theorem dX3_game_16 : decode cX3_game 16 = .ok (.ireturn, 1) := dk_172 (dk_at dksX3_game_0 16 rfl rfl)
theorem dX3_game_17 : decode cX3_game 17 = .ok (.iconst 0, 1) := dk_3 (dk_at dksX3_game_0 17 rfl rfl)
theorem dX3_game_18 : decode cX3_game 18 = .ok (.istore_n 1, 1) := dk_60 (dk_at dksX3_game_0 18 rfl rfl)
theorem dX3_game_19 : decode cX3_game 19 = .ok (.iconst 0, 1) := dk_3 (dk_at dksX3_game_0 19 rfl rfl)
theorem dX3_game_20 : decode cX3_game 20 = .ok (.istore_n 2, 1) := dk_61 (dk_at dksX3_game_0 20 rfl rfl)
theorem dX3_game_21 : decode cX3_game 21 = .ok (.iload_n 2, 1) := dk_28 (dk_at dksX3_game_0 21 rfl rfl)
theorem dX3_game_22 : decode cX3_game 22 = .ok (.iconst 1, 1) := dk_4 (dk_at dksX3_game_0 22 rfl rfl)
theorem dX3_game_23 : decode cX3_game 23 = .ok (.aload_n 0, 1) := dk_42 (dk_at dksX3_game_0 23 rfl rfl)
theorem dX3_game_24 : decode cX3_game 24 = .ok (.getfield 20, 3) := dk_180 0 20 (dk_at dksX3_game_1 0 rfl rfl)
theorem dX3_game_27 : decode cX3_game 27 = .ok (.bipush 51, 2) := dk_16 51 (dk_at dksX3_game_1 3 rfl rfl)
theorem dX3_game_29 : decode cX3_game 29 = .ok (.iaload, 1) := dk_46 (dk_at dksX3_game_1 5 rfl rfl)
theorem dX3_game_30 : decode cX3_game 30 = .ok (.ishl, 1) := dk_120 (dk_at dksX3_game_1 6 rfl rfl)
theorem dX3_game_31 : decode cX3_game 31 = .ok (.if_icmp .ge 34, 3) := dk_162 0 34 (dk_at dksX3_game_1 7 rfl rfl)
theorem dX3_game_34 : decode cX3_game 34 = .ok (.aload_n 0, 1) := dk_42 (dk_at dksX3_game_1 10 rfl rfl)
theorem dX3_game_35 : decode cX3_game 35 = .ok (.iload_n 2, 1) := dk_28 (dk_at dksX3_game_1 11 rfl rfl)
theorem dX3_game_36 : decode cX3_game 36 = .ok (.invokevirtual 348, 3) := dk_182 1 92 (dk_at dksX3_game_1 12 rfl rfl)
theorem dX3_game_39 : decode cX3_game 39 = .ok (.invokestatic 323, 3) := dk_184 1 67 (dk_at dksX3_game_1 15 rfl rfl)
theorem dX3_game_42 : decode cX3_game 42 = .ok (.iload_n 1, 1) := dk_27 (dk_at dksX3_game_1 18 rfl rfl)
theorem dX3_game_43 : decode cX3_game 43 = .ok (.if_icmp .le 14, 3) := dk_164 0 14 (dk_at dksX3_game_1 19 rfl rfl)
theorem dX3_game_46 : decode cX3_game 46 = .ok (.aload_n 0, 1) := dk_42 (dk_at dksX3_game_1 22 rfl rfl)
theorem dX3_game_47 : decode cX3_game 47 = .ok (.iload_n 2, 1) := dk_28 (dk_at dksX3_game_1 23 rfl rfl)
theorem dX3_game_48 : decode cX3_game 48 = .ok (.invokevirtual 348, 3) := dk_182 1 92 (dk_at dksX3_game_2 0 rfl rfl)
theorem dX3_game_51 : decode cX3_game 51 = .ok (.invokestatic 323, 3) := dk_184 1 67 (dk_at dksX3_game_2 3 rfl rfl)
theorem dX3_game_54 : decode cX3_game 54 = .ok (.goto 4, 3) := dk_167 0 4 (dk_at dksX3_game_2 6 rfl rfl)
theorem dX3_game_57 : decode cX3_game 57 = .ok (.iload_n 1, 1) := dk_27 (dk_at dksX3_game_2 9 rfl rfl)
theorem dX3_game_58 : decode cX3_game 58 = .ok (.istore_n 1, 1) := dk_60 (dk_at dksX3_game_2 10 rfl rfl)
theorem dX3_game_59 : decode cX3_game 59 = .ok (.iinc 2 1, 3) := dk_132 2 1 (dk_at dksX3_game_2 11 rfl rfl)
theorem dX3_game_62 : decode cX3_game 62 = .ok (.goto (-41), 3) := dk_167 255 215 (dk_at dksX3_game_2 14 rfl rfl)
theorem dX3_game_65 : decode cX3_game 65 = .ok (.iload_n 1, 1) := dk_27 (dk_at dksX3_game_2 17 rfl rfl)
theorem dX3_game_66 : decode cX3_game 66 = .ok (.ireturn, 1) := dk_172 (dk_at dksX3_game_2 18 rfl rfl)
abbrev cX3_square : ByteArray := prog_18_method_92_code
def yX3_square : MethodName := ⟨RX3, "square", "(II)I"⟩
def dkwX3_square_2 : List UInt8 := [182, 0, 177, 172]
abbrev dktX3_square_2 : List UInt8 := dkwX3_square_2 ++ []
def dkwX3_square_1 : List UInt8 := [159, 0, 20, 42, 27, 28, 182, 1, 104, 153, 0, 7, 4, 167, 0, 12, 3, 167, 0, 8, 42, 4]
abbrev dktX3_square_1 : List UInt8 := dkwX3_square_1 ++ dktX3_square_2
def dkwX3_square_0 : List UInt8 := [42, 182, 0, 174, 42, 27, 182, 1, 101, 153, 0, 33, 42, 28, 182, 1, 101, 153, 0, 25, 27, 28]
abbrev dktX3_square_0 : List UInt8 := dkwX3_square_0 ++ dktX3_square_1
theorem dksX3_square_0 : cX3_square.data.toList.drop 0 = dktX3_square_0 := by decide +kernel
theorem dksX3_square_1 : cX3_square.data.toList.drop 22 = dktX3_square_1 := dk_seg dksX3_square_0 22 rfl rfl
theorem dksX3_square_2 : cX3_square.data.toList.drop 44 = dktX3_square_2 := dk_seg dksX3_square_1 22 rfl rfl
theorem dX3_square_0 : decode cX3_square 0 = .ok (.aload_n 0, 1) := dk_42 (dk_at dksX3_square_0 0 rfl rfl)
theorem dX3_square_1 : decode cX3_square 1 = .ok (.invokevirtual 174, 3) := dk_182 0 174 (dk_at dksX3_square_0 1 rfl rfl)
theorem dX3_square_4 : decode cX3_square 4 = .ok (.aload_n 0, 1) := dk_42 (dk_at dksX3_square_0 4 rfl rfl)
theorem dX3_square_5 : decode cX3_square 5 = .ok (.iload_n 1, 1) := dk_27 (dk_at dksX3_square_0 5 rfl rfl)
theorem dX3_square_6 : decode cX3_square 6 = .ok (.invokevirtual 357, 3) := dk_182 1 101 (dk_at dksX3_square_0 6 rfl rfl)
theorem dX3_square_9 : decode cX3_square 9 = .ok (.ifCond .eq 33, 3) := dk_153 0 33 (dk_at dksX3_square_0 9 rfl rfl)
theorem dX3_square_12 : decode cX3_square 12 = .ok (.aload_n 0, 1) := dk_42 (dk_at dksX3_square_0 12 rfl rfl)
theorem dX3_square_13 : decode cX3_square 13 = .ok (.iload_n 2, 1) := dk_28 (dk_at dksX3_square_0 13 rfl rfl)
theorem dX3_square_14 : decode cX3_square 14 = .ok (.invokevirtual 357, 3) := dk_182 1 101 (dk_at dksX3_square_0 14 rfl rfl)
theorem dX3_square_17 : decode cX3_square 17 = .ok (.ifCond .eq 25, 3) := dk_153 0 25 (dk_at dksX3_square_0 17 rfl rfl)
theorem dX3_square_20 : decode cX3_square 20 = .ok (.iload_n 1, 1) := dk_27 (dk_at dksX3_square_0 20 rfl rfl)
theorem dX3_square_21 : decode cX3_square 21 = .ok (.iload_n 2, 1) := dk_28 (dk_at dksX3_square_0 21 rfl rfl)
theorem dX3_square_22 : decode cX3_square 22 = .ok (.if_icmp .eq 20, 3) := dk_159 0 20 (dk_at dksX3_square_1 0 rfl rfl)
theorem dX3_square_25 : decode cX3_square 25 = .ok (.aload_n 0, 1) := dk_42 (dk_at dksX3_square_1 3 rfl rfl)
theorem dX3_square_26 : decode cX3_square 26 = .ok (.iload_n 1, 1) := dk_27 (dk_at dksX3_square_1 4 rfl rfl)
theorem dX3_square_27 : decode cX3_square 27 = .ok (.iload_n 2, 1) := dk_28 (dk_at dksX3_square_1 5 rfl rfl)
theorem dX3_square_28 : decode cX3_square 28 = .ok (.invokevirtual 360, 3) := dk_182 1 104 (dk_at dksX3_square_1 6 rfl rfl)
theorem dX3_square_31 : decode cX3_square 31 = .ok (.ifCond .eq 7, 3) := dk_153 0 7 (dk_at dksX3_square_1 9 rfl rfl)
theorem dX3_square_34 : decode cX3_square 34 = .ok (.iconst 1, 1) := dk_4 (dk_at dksX3_square_1 12 rfl rfl)
theorem dX3_square_35 : decode cX3_square 35 = .ok (.goto 12, 3) := dk_167 0 12 (dk_at dksX3_square_1 13 rfl rfl)
theorem dX3_square_38 : decode cX3_square 38 = .ok (.iconst 0, 1) := dk_3 (dk_at dksX3_square_1 16 rfl rfl)
theorem dX3_square_39 : decode cX3_square 39 = .ok (.goto 8, 3) := dk_167 0 8 (dk_at dksX3_square_1 17 rfl rfl)
theorem dX3_square_42 : decode cX3_square 42 = .ok (.aload_n 0, 1) := dk_42 (dk_at dksX3_square_1 20 rfl rfl)
theorem dX3_square_43 : decode cX3_square 43 = .ok (.iconst 1, 1) := dk_4 (dk_at dksX3_square_1 21 rfl rfl)
theorem dX3_square_44 : decode cX3_square 44 = .ok (.invokevirtual 177, 3) := dk_182 0 177 (dk_at dksX3_square_2 0 rfl rfl)
theorem dX3_square_47 : decode cX3_square 47 = .ok (.ireturn, 1) := dk_172 (dk_at dksX3_square_2 3 rfl rfl)
abbrev cX3_isRay : ByteArray := prog_18_method_91_code
def yX3_isRay : MethodName := ⟨RX3, "isRay", "(I)Z"⟩
def dkwX3_isRay_1 : List UInt8 := [4, 167, 0, 4, 3, 172]
abbrev dktX3_isRay_1 : List UInt8 := dkwX3_isRay_1 ++ []
def dkwX3_isRay_0 : List UInt8 := [42, 180, 0, 183, 153, 0, 24, 27, 3, 42, 180, 0, 20, 16, 85, 46, 4, 100, 184, 0, 170, 153, 0, 7]
abbrev dktX3_isRay_0 : List UInt8 := dkwX3_isRay_0 ++ dktX3_isRay_1
theorem dksX3_isRay_0 : cX3_isRay.data.toList.drop 0 = dktX3_isRay_0 := by decide +kernel
theorem dksX3_isRay_1 : cX3_isRay.data.toList.drop 24 = dktX3_isRay_1 := dk_seg dksX3_isRay_0 24 rfl rfl
theorem dX3_isRay_0 : decode cX3_isRay 0 = .ok (.aload_n 0, 1) := dk_42 (dk_at dksX3_isRay_0 0 rfl rfl)
theorem dX3_isRay_1 : decode cX3_isRay 1 = .ok (.getfield 183, 3) := dk_180 0 183 (dk_at dksX3_isRay_0 1 rfl rfl)
theorem dX3_isRay_4 : decode cX3_isRay 4 = .ok (.ifCond .eq 24, 3) := dk_153 0 24 (dk_at dksX3_isRay_0 4 rfl rfl)
theorem dX3_isRay_7 : decode cX3_isRay 7 = .ok (.iload_n 1, 1) := dk_27 (dk_at dksX3_isRay_0 7 rfl rfl)
theorem dX3_isRay_8 : decode cX3_isRay 8 = .ok (.iconst 0, 1) := dk_3 (dk_at dksX3_isRay_0 8 rfl rfl)
theorem dX3_isRay_9 : decode cX3_isRay 9 = .ok (.aload_n 0, 1) := dk_42 (dk_at dksX3_isRay_0 9 rfl rfl)
theorem dX3_isRay_10 : decode cX3_isRay 10 = .ok (.getfield 20, 3) := dk_180 0 20 (dk_at dksX3_isRay_0 10 rfl rfl)
theorem dX3_isRay_13 : decode cX3_isRay 13 = .ok (.bipush 85, 2) := dk_16 85 (dk_at dksX3_isRay_0 13 rfl rfl)
theorem dX3_isRay_15 : decode cX3_isRay 15 = .ok (.iaload, 1) := dk_46 (dk_at dksX3_isRay_0 15 rfl rfl)
theorem dX3_isRay_16 : decode cX3_isRay 16 = .ok (.iconst 1, 1) := dk_4 (dk_at dksX3_isRay_0 16 rfl rfl)
theorem dX3_isRay_17 : decode cX3_isRay 17 = .ok (.isub, 1) := dk_100 (dk_at dksX3_isRay_0 17 rfl rfl)
theorem dX3_isRay_18 : decode cX3_isRay 18 = .ok (.invokestatic 170, 3) := dk_184 0 170 (dk_at dksX3_isRay_0 18 rfl rfl)
theorem dX3_isRay_21 : decode cX3_isRay 21 = .ok (.ifCond .eq 7, 3) := dk_153 0 7 (dk_at dksX3_isRay_0 21 rfl rfl)
theorem dX3_isRay_24 : decode cX3_isRay 24 = .ok (.iconst 1, 1) := dk_4 (dk_at dksX3_isRay_1 0 rfl rfl)
theorem dX3_isRay_25 : decode cX3_isRay 25 = .ok (.goto 4, 3) := dk_167 0 4 (dk_at dksX3_isRay_1 1 rfl rfl)
theorem dX3_isRay_28 : decode cX3_isRay 28 = .ok (.iconst 0, 1) := dk_3 (dk_at dksX3_isRay_1 4 rfl rfl)
theorem dX3_isRay_29 : decode cX3_isRay 29 = .ok (.ireturn, 1) := dk_172 (dk_at dksX3_isRay_1 5 rfl rfl)
abbrev cX3_areSquare : ByteArray := prog_18_method_90_code
def yX3_areSquare : MethodName := ⟨RX3, "areSquare", "(II)Z"⟩
def dkwX3_areSquare_2 : List UInt8 := [167, 255, 215, 29, 154, 0, 7, 4, 167, 0, 4, 3, 172]
abbrev dktX3_areSquare_2 : List UInt8 := dkwX3_areSquare_2 ++ []
def dkwX3_areSquare_1 : List UInt8 := [96, 46, 42, 180, 0, 20, 16, 86, 7, 28, 104, 96, 21, 4, 96, 46, 104, 96, 62, 132, 4, 1]
abbrev dktX3_areSquare_1 : List UInt8 := dkwX3_areSquare_1 ++ dktX3_areSquare_2
def dkwX3_areSquare_0 : List UInt8 := [3, 62, 3, 54, 4, 21, 4, 7, 162, 0, 41, 29, 42, 180, 0, 20, 16, 86, 7, 27, 104, 96, 21, 4]
abbrev dktX3_areSquare_0 : List UInt8 := dkwX3_areSquare_0 ++ dktX3_areSquare_1
theorem dksX3_areSquare_0 : cX3_areSquare.data.toList.drop 0 = dktX3_areSquare_0 := by decide +kernel
theorem dksX3_areSquare_1 : cX3_areSquare.data.toList.drop 24 = dktX3_areSquare_1 := dk_seg dksX3_areSquare_0 24 rfl rfl
theorem dksX3_areSquare_2 : cX3_areSquare.data.toList.drop 46 = dktX3_areSquare_2 := dk_seg dksX3_areSquare_1 22 rfl rfl
theorem dX3_areSquare_0 : decode cX3_areSquare 0 = .ok (.iconst 0, 1) := dk_3 (dk_at dksX3_areSquare_0 0 rfl rfl)
theorem dX3_areSquare_1 : decode cX3_areSquare 1 = .ok (.istore_n 3, 1) := dk_62 (dk_at dksX3_areSquare_0 1 rfl rfl)
theorem dX3_areSquare_2 : decode cX3_areSquare 2 = .ok (.iconst 0, 1) := dk_3 (dk_at dksX3_areSquare_0 2 rfl rfl)
theorem dX3_areSquare_3 : decode cX3_areSquare 3 = .ok (.istore 4, 2) := dk_54 4 (dk_at dksX3_areSquare_0 3 rfl rfl)
theorem dX3_areSquare_5 : decode cX3_areSquare 5 = .ok (.iload 4, 2) := dk_21 4 (dk_at dksX3_areSquare_0 5 rfl rfl)
theorem dX3_areSquare_7 : decode cX3_areSquare 7 = .ok (.iconst 4, 1) := dk_7 (dk_at dksX3_areSquare_0 7 rfl rfl)
theorem dX3_areSquare_8 : decode cX3_areSquare 8 = .ok (.if_icmp .ge 41, 3) := dk_162 0 41 (dk_at dksX3_areSquare_0 8 rfl rfl)
theorem dX3_areSquare_11 : decode cX3_areSquare 11 = .ok (.iload_n 3, 1) := dk_29 (dk_at dksX3_areSquare_0 11 rfl rfl)
theorem dX3_areSquare_12 : decode cX3_areSquare 12 = .ok (.aload_n 0, 1) := dk_42 (dk_at dksX3_areSquare_0 12 rfl rfl)
theorem dX3_areSquare_13 : decode cX3_areSquare 13 = .ok (.getfield 20, 3) := dk_180 0 20 (dk_at dksX3_areSquare_0 13 rfl rfl)
theorem dX3_areSquare_16 : decode cX3_areSquare 16 = .ok (.bipush 86, 2) := dk_16 86 (dk_at dksX3_areSquare_0 16 rfl rfl)
theorem dX3_areSquare_18 : decode cX3_areSquare 18 = .ok (.iconst 4, 1) := dk_7 (dk_at dksX3_areSquare_0 18 rfl rfl)
theorem dX3_areSquare_19 : decode cX3_areSquare 19 = .ok (.iload_n 1, 1) := dk_27 (dk_at dksX3_areSquare_0 19 rfl rfl)
theorem dX3_areSquare_20 : decode cX3_areSquare 20 = .ok (.imul, 1) := dk_104 (dk_at dksX3_areSquare_0 20 rfl rfl)
theorem dX3_areSquare_21 : decode cX3_areSquare 21 = .ok (.iadd, 1) := dk_96 (dk_at dksX3_areSquare_0 21 rfl rfl)
theorem dX3_areSquare_22 : decode cX3_areSquare 22 = .ok (.iload 4, 2) := dk_21 4 (dk_at dksX3_areSquare_0 22 rfl rfl)
theorem dX3_areSquare_24 : decode cX3_areSquare 24 = .ok (.iadd, 1) := dk_96 (dk_at dksX3_areSquare_1 0 rfl rfl)
theorem dX3_areSquare_25 : decode cX3_areSquare 25 = .ok (.iaload, 1) := dk_46 (dk_at dksX3_areSquare_1 1 rfl rfl)
theorem dX3_areSquare_26 : decode cX3_areSquare 26 = .ok (.aload_n 0, 1) := dk_42 (dk_at dksX3_areSquare_1 2 rfl rfl)
theorem dX3_areSquare_27 : decode cX3_areSquare 27 = .ok (.getfield 20, 3) := dk_180 0 20 (dk_at dksX3_areSquare_1 3 rfl rfl)
theorem dX3_areSquare_30 : decode cX3_areSquare 30 = .ok (.bipush 86, 2) := dk_16 86 (dk_at dksX3_areSquare_1 6 rfl rfl)
theorem dX3_areSquare_32 : decode cX3_areSquare 32 = .ok (.iconst 4, 1) := dk_7 (dk_at dksX3_areSquare_1 8 rfl rfl)
theorem dX3_areSquare_33 : decode cX3_areSquare 33 = .ok (.iload_n 2, 1) := dk_28 (dk_at dksX3_areSquare_1 9 rfl rfl)
theorem dX3_areSquare_34 : decode cX3_areSquare 34 = .ok (.imul, 1) := dk_104 (dk_at dksX3_areSquare_1 10 rfl rfl)
theorem dX3_areSquare_35 : decode cX3_areSquare 35 = .ok (.iadd, 1) := dk_96 (dk_at dksX3_areSquare_1 11 rfl rfl)
theorem dX3_areSquare_36 : decode cX3_areSquare 36 = .ok (.iload 4, 2) := dk_21 4 (dk_at dksX3_areSquare_1 12 rfl rfl)
theorem dX3_areSquare_38 : decode cX3_areSquare 38 = .ok (.iadd, 1) := dk_96 (dk_at dksX3_areSquare_1 14 rfl rfl)
theorem dX3_areSquare_39 : decode cX3_areSquare 39 = .ok (.iaload, 1) := dk_46 (dk_at dksX3_areSquare_1 15 rfl rfl)
theorem dX3_areSquare_40 : decode cX3_areSquare 40 = .ok (.imul, 1) := dk_104 (dk_at dksX3_areSquare_1 16 rfl rfl)
theorem dX3_areSquare_41 : decode cX3_areSquare 41 = .ok (.iadd, 1) := dk_96 (dk_at dksX3_areSquare_1 17 rfl rfl)
theorem dX3_areSquare_42 : decode cX3_areSquare 42 = .ok (.istore_n 3, 1) := dk_62 (dk_at dksX3_areSquare_1 18 rfl rfl)
theorem dX3_areSquare_43 : decode cX3_areSquare 43 = .ok (.iinc 4 1, 3) := dk_132 4 1 (dk_at dksX3_areSquare_1 19 rfl rfl)
theorem dX3_areSquare_46 : decode cX3_areSquare 46 = .ok (.goto (-41), 3) := dk_167 255 215 (dk_at dksX3_areSquare_2 0 rfl rfl)
theorem dX3_areSquare_49 : decode cX3_areSquare 49 = .ok (.iload_n 3, 1) := dk_29 (dk_at dksX3_areSquare_2 3 rfl rfl)
theorem dX3_areSquare_50 : decode cX3_areSquare 50 = .ok (.ifCond .ne 7, 3) := dk_154 0 7 (dk_at dksX3_areSquare_2 4 rfl rfl)
theorem dX3_areSquare_53 : decode cX3_areSquare 53 = .ok (.iconst 1, 1) := dk_4 (dk_at dksX3_areSquare_2 7 rfl rfl)
theorem dX3_areSquare_54 : decode cX3_areSquare 54 = .ok (.goto 4, 3) := dk_167 0 4 (dk_at dksX3_areSquare_2 8 rfl rfl)
theorem dX3_areSquare_57 : decode cX3_areSquare 57 = .ok (.iconst 0, 1) := dk_3 (dk_at dksX3_areSquare_2 11 rfl rfl)
theorem dX3_areSquare_58 : decode cX3_areSquare 58 = .ok (.ireturn, 1) := dk_172 (dk_at dksX3_areSquare_2 12 rfl rfl)
abbrev cX3_corners : ByteArray := prog_18_method_94_code
def yX3_corners : MethodName := ⟨RX3, "corners", "()I"⟩
def dkwX3_corners_1 : List UInt8 := [180, 1, 107, 172]
abbrev dktX3_corners_1 : List UInt8 := dkwX3_corners_1 ++ []
def dkwX3_corners_0 : List UInt8 := [42, 182, 0, 174, 42, 180, 0, 183, 154, 0, 9, 42, 4, 182, 0, 177, 172, 42, 182, 1, 110, 42]
abbrev dktX3_corners_0 : List UInt8 := dkwX3_corners_0 ++ dktX3_corners_1
theorem dksX3_corners_0 : cX3_corners.data.toList.drop 0 = dktX3_corners_0 := by decide +kernel
theorem dksX3_corners_1 : cX3_corners.data.toList.drop 22 = dktX3_corners_1 := dk_seg dksX3_corners_0 22 rfl rfl
theorem dX3_corners_0 : decode cX3_corners 0 = .ok (.aload_n 0, 1) := dk_42 (dk_at dksX3_corners_0 0 rfl rfl)
theorem dX3_corners_1 : decode cX3_corners 1 = .ok (.invokevirtual 174, 3) := dk_182 0 174 (dk_at dksX3_corners_0 1 rfl rfl)
theorem dX3_corners_4 : decode cX3_corners 4 = .ok (.aload_n 0, 1) := dk_42 (dk_at dksX3_corners_0 4 rfl rfl)
theorem dX3_corners_5 : decode cX3_corners 5 = .ok (.getfield 183, 3) := dk_180 0 183 (dk_at dksX3_corners_0 5 rfl rfl)
theorem dX3_corners_8 : decode cX3_corners 8 = .ok (.ifCond .ne 9, 3) := dk_154 0 9 (dk_at dksX3_corners_0 8 rfl rfl)
theorem dX3_corners_11 : decode cX3_corners 11 = .ok (.aload_n 0, 1) := dk_42 (dk_at dksX3_corners_0 11 rfl rfl)
theorem dX3_corners_12 : decode cX3_corners 12 = .ok (.iconst 1, 1) := dk_4 (dk_at dksX3_corners_0 12 rfl rfl)
theorem dX3_corners_13 : decode cX3_corners 13 = .ok (.invokevirtual 177, 3) := dk_182 0 177 (dk_at dksX3_corners_0 13 rfl rfl)
theorem dX3_corners_16 : decode cX3_corners 16 = .ok (.ireturn, 1) := dk_172 (dk_at dksX3_corners_0 16 rfl rfl)
theorem dX3_corners_17 : decode cX3_corners 17 = .ok (.aload_n 0, 1) := dk_42 (dk_at dksX3_corners_0 17 rfl rfl)
theorem dX3_corners_18 : decode cX3_corners 18 = .ok (.invokevirtual 366, 3) := dk_182 1 110 (dk_at dksX3_corners_0 18 rfl rfl)
theorem dX3_corners_21 : decode cX3_corners 21 = .ok (.aload_n 0, 1) := dk_42 (dk_at dksX3_corners_0 21 rfl rfl)
theorem dX3_corners_22 : decode cX3_corners 22 = .ok (.getfield 363, 3) := dk_180 1 107 (dk_at dksX3_corners_1 0 rfl rfl)
theorem dX3_corners_25 : decode cX3_corners 25 = .ok (.ireturn, 1) := dk_172 (dk_at dksX3_corners_1 3 rfl rfl)
abbrev cX3_layCorners : ByteArray := prog_18_method_93_code
def yX3_layCorners : MethodName := ⟨RX3, "layCorners", "()V"⟩
def dkwX3_layCorners_11 : List UInt8 := [132, 2, 1, 167, 255, 93, 132, 1, 1, 167, 255, 72, 177]
abbrev dktX3_layCorners_11 : List UInt8 := dkwX3_layCorners_11 ++ []
def dkwX3_layCorners_10 : List UInt8 := [79, 42, 89, 180, 1, 107, 4, 96, 181, 1, 107, 132, 4, 1, 167, 255, 175, 132, 3, 1, 167, 255, 130]
abbrev dktX3_layCorners_10 : List UInt8 := dkwX3_layCorners_10 ++ dktX3_layCorners_11
def dkwX3_layCorners_9 : List UInt8 := [42, 180, 0, 54, 42, 180, 1, 107, 4, 27, 120, 4, 28, 120, 128, 4, 29, 120, 128, 4, 21, 4, 120, 128]
abbrev dktX3_layCorners_9 : List UInt8 := dkwX3_layCorners_9 ++ dktX3_layCorners_10
def dkwX3_layCorners_8 : List UInt8 := [180, 0, 57, 28, 46, 126, 42, 180, 0, 57, 29, 46, 126, 21, 4, 184, 0, 162, 154, 0, 6, 167, 0, 38]
abbrev dktX3_layCorners_8 : List UInt8 := dkwX3_layCorners_8 ++ dktX3_layCorners_9
def dkwX3_layCorners_7 : List UInt8 := [96, 54, 4, 21, 4, 42, 180, 0, 20, 16, 85, 46, 162, 0, 75, 42, 180, 0, 57, 27, 46, 42]
abbrev dktX3_layCorners_7 : List UInt8 := dkwX3_layCorners_7 ++ dktX3_layCorners_8
def dkwX3_layCorners_6 : List UInt8 := [180, 0, 57, 27, 46, 42, 180, 0, 57, 28, 46, 126, 29, 184, 0, 162, 154, 0, 6, 167, 0, 92, 29, 4]
abbrev dktX3_layCorners_6 : List UInt8 := dkwX3_layCorners_6 ++ dktX3_layCorners_7
def dkwX3_layCorners_5 : List UInt8 := [154, 0, 6, 167, 0, 136, 28, 4, 96, 62, 29, 42, 180, 0, 20, 16, 85, 46, 162, 0, 121, 42]
abbrev dktX3_layCorners_5 : List UInt8 := dkwX3_layCorners_5 ++ dktX3_layCorners_6
def dkwX3_layCorners_4 : List UInt8 := [96, 61, 28, 42, 180, 0, 20, 16, 85, 46, 162, 0, 158, 42, 180, 0, 57, 27, 46, 28, 184, 0, 162]
abbrev dktX3_layCorners_4 : List UInt8 := dkwX3_layCorners_4 ++ dktX3_layCorners_5
def dkwX3_layCorners_3 : List UInt8 := [167, 255, 212, 132, 1, 1, 167, 255, 186, 3, 60, 27, 42, 180, 0, 20, 16, 85, 46, 162, 0, 179, 27, 4]
abbrev dktX3_layCorners_3 : List UInt8 := dkwX3_layCorners_3 ++ dktX3_layCorners_4
def dkwX3_layCorners_2 : List UInt8 := [159, 0, 18, 42, 27, 28, 182, 1, 104, 153, 0, 9, 4, 28, 120, 167, 0, 4, 3, 128, 79, 132, 2, 1]
abbrev dktX3_layCorners_2 : List UInt8 := dkwX3_layCorners_2 ++ dktX3_layCorners_3
def dkwX3_layCorners_1 : List UInt8 := [79, 3, 61, 28, 42, 180, 0, 20, 16, 85, 46, 162, 0, 39, 42, 180, 0, 57, 27, 92, 46, 27, 28]
abbrev dktX3_layCorners_1 : List UInt8 := dkwX3_layCorners_1 ++ dktX3_layCorners_2
def dkwX3_layCorners_0 : List UInt8 := [42, 3, 181, 1, 107, 3, 60, 27, 42, 180, 0, 20, 16, 85, 46, 162, 0, 65, 42, 180, 0, 57, 27, 3]
abbrev dktX3_layCorners_0 : List UInt8 := dkwX3_layCorners_0 ++ dktX3_layCorners_1
theorem dksX3_layCorners_0 : cX3_layCorners.data.toList.drop 0 = dktX3_layCorners_0 := by decide +kernel
theorem dksX3_layCorners_1 : cX3_layCorners.data.toList.drop 24 = dktX3_layCorners_1 := dk_seg dksX3_layCorners_0 24 rfl rfl
theorem dksX3_layCorners_2 : cX3_layCorners.data.toList.drop 47 = dktX3_layCorners_2 := dk_seg dksX3_layCorners_1 23 rfl rfl
theorem dksX3_layCorners_3 : cX3_layCorners.data.toList.drop 71 = dktX3_layCorners_3 := dk_seg dksX3_layCorners_2 24 rfl rfl
theorem dksX3_layCorners_4 : cX3_layCorners.data.toList.drop 95 = dktX3_layCorners_4 := dk_seg dksX3_layCorners_3 24 rfl rfl
theorem dksX3_layCorners_5 : cX3_layCorners.data.toList.drop 118 = dktX3_layCorners_5 := dk_seg dksX3_layCorners_4 23 rfl rfl
theorem dksX3_layCorners_6 : cX3_layCorners.data.toList.drop 140 = dktX3_layCorners_6 := dk_seg dksX3_layCorners_5 22 rfl rfl
theorem dksX3_layCorners_7 : cX3_layCorners.data.toList.drop 164 = dktX3_layCorners_7 := dk_seg dksX3_layCorners_6 24 rfl rfl
theorem dksX3_layCorners_8 : cX3_layCorners.data.toList.drop 186 = dktX3_layCorners_8 := dk_seg dksX3_layCorners_7 22 rfl rfl
theorem dksX3_layCorners_9 : cX3_layCorners.data.toList.drop 210 = dktX3_layCorners_9 := dk_seg dksX3_layCorners_8 24 rfl rfl
theorem dksX3_layCorners_10 : cX3_layCorners.data.toList.drop 234 = dktX3_layCorners_10 := dk_seg dksX3_layCorners_9 24 rfl rfl
theorem dksX3_layCorners_11 : cX3_layCorners.data.toList.drop 257 = dktX3_layCorners_11 := dk_seg dksX3_layCorners_10 23 rfl rfl
theorem dX3_layCorners_0 : decode cX3_layCorners 0 = .ok (.aload_n 0, 1) := dk_42 (dk_at dksX3_layCorners_0 0 rfl rfl)
theorem dX3_layCorners_1 : decode cX3_layCorners 1 = .ok (.iconst 0, 1) := dk_3 (dk_at dksX3_layCorners_0 1 rfl rfl)
theorem dX3_layCorners_2 : decode cX3_layCorners 2 = .ok (.putfield 363, 3) := dk_181 1 107 (dk_at dksX3_layCorners_0 2 rfl rfl)
theorem dX3_layCorners_5 : decode cX3_layCorners 5 = .ok (.iconst 0, 1) := dk_3 (dk_at dksX3_layCorners_0 5 rfl rfl)
theorem dX3_layCorners_6 : decode cX3_layCorners 6 = .ok (.istore_n 1, 1) := dk_60 (dk_at dksX3_layCorners_0 6 rfl rfl)
theorem dX3_layCorners_7 : decode cX3_layCorners 7 = .ok (.iload_n 1, 1) := dk_27 (dk_at dksX3_layCorners_0 7 rfl rfl)
theorem dX3_layCorners_8 : decode cX3_layCorners 8 = .ok (.aload_n 0, 1) := dk_42 (dk_at dksX3_layCorners_0 8 rfl rfl)
theorem dX3_layCorners_9 : decode cX3_layCorners 9 = .ok (.getfield 20, 3) := dk_180 0 20 (dk_at dksX3_layCorners_0 9 rfl rfl)
theorem dX3_layCorners_12 : decode cX3_layCorners 12 = .ok (.bipush 85, 2) := dk_16 85 (dk_at dksX3_layCorners_0 12 rfl rfl)
theorem dX3_layCorners_14 : decode cX3_layCorners 14 = .ok (.iaload, 1) := dk_46 (dk_at dksX3_layCorners_0 14 rfl rfl)
theorem dX3_layCorners_15 : decode cX3_layCorners 15 = .ok (.if_icmp .ge 65, 3) := dk_162 0 65 (dk_at dksX3_layCorners_0 15 rfl rfl)
theorem dX3_layCorners_18 : decode cX3_layCorners 18 = .ok (.aload_n 0, 1) := dk_42 (dk_at dksX3_layCorners_0 18 rfl rfl)
theorem dX3_layCorners_19 : decode cX3_layCorners 19 = .ok (.getfield 57, 3) := dk_180 0 57 (dk_at dksX3_layCorners_0 19 rfl rfl)
theorem dX3_layCorners_22 : decode cX3_layCorners 22 = .ok (.iload_n 1, 1) := dk_27 (dk_at dksX3_layCorners_0 22 rfl rfl)
theorem dX3_layCorners_23 : decode cX3_layCorners 23 = .ok (.iconst 0, 1) := dk_3 (dk_at dksX3_layCorners_0 23 rfl rfl)
theorem dX3_layCorners_24 : decode cX3_layCorners 24 = .ok (.iastore, 1) := dk_79 (dk_at dksX3_layCorners_1 0 rfl rfl)
theorem dX3_layCorners_25 : decode cX3_layCorners 25 = .ok (.iconst 0, 1) := dk_3 (dk_at dksX3_layCorners_1 1 rfl rfl)
theorem dX3_layCorners_26 : decode cX3_layCorners 26 = .ok (.istore_n 2, 1) := dk_61 (dk_at dksX3_layCorners_1 2 rfl rfl)
theorem dX3_layCorners_27 : decode cX3_layCorners 27 = .ok (.iload_n 2, 1) := dk_28 (dk_at dksX3_layCorners_1 3 rfl rfl)
theorem dX3_layCorners_28 : decode cX3_layCorners 28 = .ok (.aload_n 0, 1) := dk_42 (dk_at dksX3_layCorners_1 4 rfl rfl)
theorem dX3_layCorners_29 : decode cX3_layCorners 29 = .ok (.getfield 20, 3) := dk_180 0 20 (dk_at dksX3_layCorners_1 5 rfl rfl)
theorem dX3_layCorners_32 : decode cX3_layCorners 32 = .ok (.bipush 85, 2) := dk_16 85 (dk_at dksX3_layCorners_1 8 rfl rfl)
theorem dX3_layCorners_34 : decode cX3_layCorners 34 = .ok (.iaload, 1) := dk_46 (dk_at dksX3_layCorners_1 10 rfl rfl)
theorem dX3_layCorners_35 : decode cX3_layCorners 35 = .ok (.if_icmp .ge 39, 3) := dk_162 0 39 (dk_at dksX3_layCorners_1 11 rfl rfl)
theorem dX3_layCorners_38 : decode cX3_layCorners 38 = .ok (.aload_n 0, 1) := dk_42 (dk_at dksX3_layCorners_1 14 rfl rfl)
theorem dX3_layCorners_39 : decode cX3_layCorners 39 = .ok (.getfield 57, 3) := dk_180 0 57 (dk_at dksX3_layCorners_1 15 rfl rfl)
theorem dX3_layCorners_42 : decode cX3_layCorners 42 = .ok (.iload_n 1, 1) := dk_27 (dk_at dksX3_layCorners_1 18 rfl rfl)
theorem dX3_layCorners_43 : decode cX3_layCorners 43 = .ok (.dup2, 1) := dk_92 (dk_at dksX3_layCorners_1 19 rfl rfl)
theorem dX3_layCorners_44 : decode cX3_layCorners 44 = .ok (.iaload, 1) := dk_46 (dk_at dksX3_layCorners_1 20 rfl rfl)
theorem dX3_layCorners_45 : decode cX3_layCorners 45 = .ok (.iload_n 1, 1) := dk_27 (dk_at dksX3_layCorners_1 21 rfl rfl)
theorem dX3_layCorners_46 : decode cX3_layCorners 46 = .ok (.iload_n 2, 1) := dk_28 (dk_at dksX3_layCorners_1 22 rfl rfl)
theorem dX3_layCorners_47 : decode cX3_layCorners 47 = .ok (.if_icmp .eq 18, 3) := dk_159 0 18 (dk_at dksX3_layCorners_2 0 rfl rfl)
theorem dX3_layCorners_50 : decode cX3_layCorners 50 = .ok (.aload_n 0, 1) := dk_42 (dk_at dksX3_layCorners_2 3 rfl rfl)
theorem dX3_layCorners_51 : decode cX3_layCorners 51 = .ok (.iload_n 1, 1) := dk_27 (dk_at dksX3_layCorners_2 4 rfl rfl)
theorem dX3_layCorners_52 : decode cX3_layCorners 52 = .ok (.iload_n 2, 1) := dk_28 (dk_at dksX3_layCorners_2 5 rfl rfl)
theorem dX3_layCorners_53 : decode cX3_layCorners 53 = .ok (.invokevirtual 360, 3) := dk_182 1 104 (dk_at dksX3_layCorners_2 6 rfl rfl)
theorem dX3_layCorners_56 : decode cX3_layCorners 56 = .ok (.ifCond .eq 9, 3) := dk_153 0 9 (dk_at dksX3_layCorners_2 9 rfl rfl)
theorem dX3_layCorners_59 : decode cX3_layCorners 59 = .ok (.iconst 1, 1) := dk_4 (dk_at dksX3_layCorners_2 12 rfl rfl)
theorem dX3_layCorners_60 : decode cX3_layCorners 60 = .ok (.iload_n 2, 1) := dk_28 (dk_at dksX3_layCorners_2 13 rfl rfl)
theorem dX3_layCorners_61 : decode cX3_layCorners 61 = .ok (.ishl, 1) := dk_120 (dk_at dksX3_layCorners_2 14 rfl rfl)
theorem dX3_layCorners_62 : decode cX3_layCorners 62 = .ok (.goto 4, 3) := dk_167 0 4 (dk_at dksX3_layCorners_2 15 rfl rfl)
theorem dX3_layCorners_65 : decode cX3_layCorners 65 = .ok (.iconst 0, 1) := dk_3 (dk_at dksX3_layCorners_2 18 rfl rfl)
theorem dX3_layCorners_66 : decode cX3_layCorners 66 = .ok (.ior, 1) := dk_128 (dk_at dksX3_layCorners_2 19 rfl rfl)
theorem dX3_layCorners_67 : decode cX3_layCorners 67 = .ok (.iastore, 1) := dk_79 (dk_at dksX3_layCorners_2 20 rfl rfl)
theorem dX3_layCorners_68 : decode cX3_layCorners 68 = .ok (.iinc 2 1, 3) := dk_132 2 1 (dk_at dksX3_layCorners_2 21 rfl rfl)
theorem dX3_layCorners_71 : decode cX3_layCorners 71 = .ok (.goto (-44), 3) := dk_167 255 212 (dk_at dksX3_layCorners_3 0 rfl rfl)
theorem dX3_layCorners_74 : decode cX3_layCorners 74 = .ok (.iinc 1 1, 3) := dk_132 1 1 (dk_at dksX3_layCorners_3 3 rfl rfl)
theorem dX3_layCorners_77 : decode cX3_layCorners 77 = .ok (.goto (-70), 3) := dk_167 255 186 (dk_at dksX3_layCorners_3 6 rfl rfl)
theorem dX3_layCorners_80 : decode cX3_layCorners 80 = .ok (.iconst 0, 1) := dk_3 (dk_at dksX3_layCorners_3 9 rfl rfl)
theorem dX3_layCorners_81 : decode cX3_layCorners 81 = .ok (.istore_n 1, 1) := dk_60 (dk_at dksX3_layCorners_3 10 rfl rfl)
theorem dX3_layCorners_82 : decode cX3_layCorners 82 = .ok (.iload_n 1, 1) := dk_27 (dk_at dksX3_layCorners_3 11 rfl rfl)
theorem dX3_layCorners_83 : decode cX3_layCorners 83 = .ok (.aload_n 0, 1) := dk_42 (dk_at dksX3_layCorners_3 12 rfl rfl)
theorem dX3_layCorners_84 : decode cX3_layCorners 84 = .ok (.getfield 20, 3) := dk_180 0 20 (dk_at dksX3_layCorners_3 13 rfl rfl)
theorem dX3_layCorners_87 : decode cX3_layCorners 87 = .ok (.bipush 85, 2) := dk_16 85 (dk_at dksX3_layCorners_3 16 rfl rfl)
theorem dX3_layCorners_89 : decode cX3_layCorners 89 = .ok (.iaload, 1) := dk_46 (dk_at dksX3_layCorners_3 18 rfl rfl)
theorem dX3_layCorners_90 : decode cX3_layCorners 90 = .ok (.if_icmp .ge 179, 3) := dk_162 0 179 (dk_at dksX3_layCorners_3 19 rfl rfl)
theorem dX3_layCorners_93 : decode cX3_layCorners 93 = .ok (.iload_n 1, 1) := dk_27 (dk_at dksX3_layCorners_3 22 rfl rfl)
theorem dX3_layCorners_94 : decode cX3_layCorners 94 = .ok (.iconst 1, 1) := dk_4 (dk_at dksX3_layCorners_3 23 rfl rfl)
theorem dX3_layCorners_95 : decode cX3_layCorners 95 = .ok (.iadd, 1) := dk_96 (dk_at dksX3_layCorners_4 0 rfl rfl)
theorem dX3_layCorners_96 : decode cX3_layCorners 96 = .ok (.istore_n 2, 1) := dk_61 (dk_at dksX3_layCorners_4 1 rfl rfl)
theorem dX3_layCorners_97 : decode cX3_layCorners 97 = .ok (.iload_n 2, 1) := dk_28 (dk_at dksX3_layCorners_4 2 rfl rfl)
theorem dX3_layCorners_98 : decode cX3_layCorners 98 = .ok (.aload_n 0, 1) := dk_42 (dk_at dksX3_layCorners_4 3 rfl rfl)
theorem dX3_layCorners_99 : decode cX3_layCorners 99 = .ok (.getfield 20, 3) := dk_180 0 20 (dk_at dksX3_layCorners_4 4 rfl rfl)
theorem dX3_layCorners_102 : decode cX3_layCorners 102 = .ok (.bipush 85, 2) := dk_16 85 (dk_at dksX3_layCorners_4 7 rfl rfl)
theorem dX3_layCorners_104 : decode cX3_layCorners 104 = .ok (.iaload, 1) := dk_46 (dk_at dksX3_layCorners_4 9 rfl rfl)
theorem dX3_layCorners_105 : decode cX3_layCorners 105 = .ok (.if_icmp .ge 158, 3) := dk_162 0 158 (dk_at dksX3_layCorners_4 10 rfl rfl)
theorem dX3_layCorners_108 : decode cX3_layCorners 108 = .ok (.aload_n 0, 1) := dk_42 (dk_at dksX3_layCorners_4 13 rfl rfl)
theorem dX3_layCorners_109 : decode cX3_layCorners 109 = .ok (.getfield 57, 3) := dk_180 0 57 (dk_at dksX3_layCorners_4 14 rfl rfl)
theorem dX3_layCorners_112 : decode cX3_layCorners 112 = .ok (.iload_n 1, 1) := dk_27 (dk_at dksX3_layCorners_4 17 rfl rfl)
theorem dX3_layCorners_113 : decode cX3_layCorners 113 = .ok (.iaload, 1) := dk_46 (dk_at dksX3_layCorners_4 18 rfl rfl)
theorem dX3_layCorners_114 : decode cX3_layCorners 114 = .ok (.iload_n 2, 1) := dk_28 (dk_at dksX3_layCorners_4 19 rfl rfl)
theorem dX3_layCorners_115 : decode cX3_layCorners 115 = .ok (.invokestatic 162, 3) := dk_184 0 162 (dk_at dksX3_layCorners_4 20 rfl rfl)
theorem dX3_layCorners_118 : decode cX3_layCorners 118 = .ok (.ifCond .ne 6, 3) := dk_154 0 6 (dk_at dksX3_layCorners_5 0 rfl rfl)
theorem dX3_layCorners_121 : decode cX3_layCorners 121 = .ok (.goto 136, 3) := dk_167 0 136 (dk_at dksX3_layCorners_5 3 rfl rfl)
theorem dX3_layCorners_124 : decode cX3_layCorners 124 = .ok (.iload_n 2, 1) := dk_28 (dk_at dksX3_layCorners_5 6 rfl rfl)
theorem dX3_layCorners_125 : decode cX3_layCorners 125 = .ok (.iconst 1, 1) := dk_4 (dk_at dksX3_layCorners_5 7 rfl rfl)
theorem dX3_layCorners_126 : decode cX3_layCorners 126 = .ok (.iadd, 1) := dk_96 (dk_at dksX3_layCorners_5 8 rfl rfl)
theorem dX3_layCorners_127 : decode cX3_layCorners 127 = .ok (.istore_n 3, 1) := dk_62 (dk_at dksX3_layCorners_5 9 rfl rfl)
theorem dX3_layCorners_128 : decode cX3_layCorners 128 = .ok (.iload_n 3, 1) := dk_29 (dk_at dksX3_layCorners_5 10 rfl rfl)
theorem dX3_layCorners_129 : decode cX3_layCorners 129 = .ok (.aload_n 0, 1) := dk_42 (dk_at dksX3_layCorners_5 11 rfl rfl)
theorem dX3_layCorners_130 : decode cX3_layCorners 130 = .ok (.getfield 20, 3) := dk_180 0 20 (dk_at dksX3_layCorners_5 12 rfl rfl)
theorem dX3_layCorners_133 : decode cX3_layCorners 133 = .ok (.bipush 85, 2) := dk_16 85 (dk_at dksX3_layCorners_5 15 rfl rfl)
theorem dX3_layCorners_135 : decode cX3_layCorners 135 = .ok (.iaload, 1) := dk_46 (dk_at dksX3_layCorners_5 17 rfl rfl)
theorem dX3_layCorners_136 : decode cX3_layCorners 136 = .ok (.if_icmp .ge 121, 3) := dk_162 0 121 (dk_at dksX3_layCorners_5 18 rfl rfl)
theorem dX3_layCorners_139 : decode cX3_layCorners 139 = .ok (.aload_n 0, 1) := dk_42 (dk_at dksX3_layCorners_5 21 rfl rfl)
theorem dX3_layCorners_140 : decode cX3_layCorners 140 = .ok (.getfield 57, 3) := dk_180 0 57 (dk_at dksX3_layCorners_6 0 rfl rfl)
theorem dX3_layCorners_143 : decode cX3_layCorners 143 = .ok (.iload_n 1, 1) := dk_27 (dk_at dksX3_layCorners_6 3 rfl rfl)
theorem dX3_layCorners_144 : decode cX3_layCorners 144 = .ok (.iaload, 1) := dk_46 (dk_at dksX3_layCorners_6 4 rfl rfl)
theorem dX3_layCorners_145 : decode cX3_layCorners 145 = .ok (.aload_n 0, 1) := dk_42 (dk_at dksX3_layCorners_6 5 rfl rfl)
theorem dX3_layCorners_146 : decode cX3_layCorners 146 = .ok (.getfield 57, 3) := dk_180 0 57 (dk_at dksX3_layCorners_6 6 rfl rfl)
theorem dX3_layCorners_149 : decode cX3_layCorners 149 = .ok (.iload_n 2, 1) := dk_28 (dk_at dksX3_layCorners_6 9 rfl rfl)
theorem dX3_layCorners_150 : decode cX3_layCorners 150 = .ok (.iaload, 1) := dk_46 (dk_at dksX3_layCorners_6 10 rfl rfl)
theorem dX3_layCorners_151 : decode cX3_layCorners 151 = .ok (.iand, 1) := dk_126 (dk_at dksX3_layCorners_6 11 rfl rfl)
theorem dX3_layCorners_152 : decode cX3_layCorners 152 = .ok (.iload_n 3, 1) := dk_29 (dk_at dksX3_layCorners_6 12 rfl rfl)
theorem dX3_layCorners_153 : decode cX3_layCorners 153 = .ok (.invokestatic 162, 3) := dk_184 0 162 (dk_at dksX3_layCorners_6 13 rfl rfl)
theorem dX3_layCorners_156 : decode cX3_layCorners 156 = .ok (.ifCond .ne 6, 3) := dk_154 0 6 (dk_at dksX3_layCorners_6 16 rfl rfl)
theorem dX3_layCorners_159 : decode cX3_layCorners 159 = .ok (.goto 92, 3) := dk_167 0 92 (dk_at dksX3_layCorners_6 19 rfl rfl)
theorem dX3_layCorners_162 : decode cX3_layCorners 162 = .ok (.iload_n 3, 1) := dk_29 (dk_at dksX3_layCorners_6 22 rfl rfl)
theorem dX3_layCorners_163 : decode cX3_layCorners 163 = .ok (.iconst 1, 1) := dk_4 (dk_at dksX3_layCorners_6 23 rfl rfl)
theorem dX3_layCorners_164 : decode cX3_layCorners 164 = .ok (.iadd, 1) := dk_96 (dk_at dksX3_layCorners_7 0 rfl rfl)
theorem dX3_layCorners_165 : decode cX3_layCorners 165 = .ok (.istore 4, 2) := dk_54 4 (dk_at dksX3_layCorners_7 1 rfl rfl)
theorem dX3_layCorners_167 : decode cX3_layCorners 167 = .ok (.iload 4, 2) := dk_21 4 (dk_at dksX3_layCorners_7 3 rfl rfl)
theorem dX3_layCorners_169 : decode cX3_layCorners 169 = .ok (.aload_n 0, 1) := dk_42 (dk_at dksX3_layCorners_7 5 rfl rfl)
theorem dX3_layCorners_170 : decode cX3_layCorners 170 = .ok (.getfield 20, 3) := dk_180 0 20 (dk_at dksX3_layCorners_7 6 rfl rfl)
theorem dX3_layCorners_173 : decode cX3_layCorners 173 = .ok (.bipush 85, 2) := dk_16 85 (dk_at dksX3_layCorners_7 9 rfl rfl)
theorem dX3_layCorners_175 : decode cX3_layCorners 175 = .ok (.iaload, 1) := dk_46 (dk_at dksX3_layCorners_7 11 rfl rfl)
theorem dX3_layCorners_176 : decode cX3_layCorners 176 = .ok (.if_icmp .ge 75, 3) := dk_162 0 75 (dk_at dksX3_layCorners_7 12 rfl rfl)
theorem dX3_layCorners_179 : decode cX3_layCorners 179 = .ok (.aload_n 0, 1) := dk_42 (dk_at dksX3_layCorners_7 15 rfl rfl)
theorem dX3_layCorners_180 : decode cX3_layCorners 180 = .ok (.getfield 57, 3) := dk_180 0 57 (dk_at dksX3_layCorners_7 16 rfl rfl)
theorem dX3_layCorners_183 : decode cX3_layCorners 183 = .ok (.iload_n 1, 1) := dk_27 (dk_at dksX3_layCorners_7 19 rfl rfl)
theorem dX3_layCorners_184 : decode cX3_layCorners 184 = .ok (.iaload, 1) := dk_46 (dk_at dksX3_layCorners_7 20 rfl rfl)
theorem dX3_layCorners_185 : decode cX3_layCorners 185 = .ok (.aload_n 0, 1) := dk_42 (dk_at dksX3_layCorners_7 21 rfl rfl)
theorem dX3_layCorners_186 : decode cX3_layCorners 186 = .ok (.getfield 57, 3) := dk_180 0 57 (dk_at dksX3_layCorners_8 0 rfl rfl)
theorem dX3_layCorners_189 : decode cX3_layCorners 189 = .ok (.iload_n 2, 1) := dk_28 (dk_at dksX3_layCorners_8 3 rfl rfl)
theorem dX3_layCorners_190 : decode cX3_layCorners 190 = .ok (.iaload, 1) := dk_46 (dk_at dksX3_layCorners_8 4 rfl rfl)
theorem dX3_layCorners_191 : decode cX3_layCorners 191 = .ok (.iand, 1) := dk_126 (dk_at dksX3_layCorners_8 5 rfl rfl)
theorem dX3_layCorners_192 : decode cX3_layCorners 192 = .ok (.aload_n 0, 1) := dk_42 (dk_at dksX3_layCorners_8 6 rfl rfl)
theorem dX3_layCorners_193 : decode cX3_layCorners 193 = .ok (.getfield 57, 3) := dk_180 0 57 (dk_at dksX3_layCorners_8 7 rfl rfl)
theorem dX3_layCorners_196 : decode cX3_layCorners 196 = .ok (.iload_n 3, 1) := dk_29 (dk_at dksX3_layCorners_8 10 rfl rfl)
theorem dX3_layCorners_197 : decode cX3_layCorners 197 = .ok (.iaload, 1) := dk_46 (dk_at dksX3_layCorners_8 11 rfl rfl)
theorem dX3_layCorners_198 : decode cX3_layCorners 198 = .ok (.iand, 1) := dk_126 (dk_at dksX3_layCorners_8 12 rfl rfl)
theorem dX3_layCorners_199 : decode cX3_layCorners 199 = .ok (.iload 4, 2) := dk_21 4 (dk_at dksX3_layCorners_8 13 rfl rfl)
theorem dX3_layCorners_201 : decode cX3_layCorners 201 = .ok (.invokestatic 162, 3) := dk_184 0 162 (dk_at dksX3_layCorners_8 15 rfl rfl)
theorem dX3_layCorners_204 : decode cX3_layCorners 204 = .ok (.ifCond .ne 6, 3) := dk_154 0 6 (dk_at dksX3_layCorners_8 18 rfl rfl)
theorem dX3_layCorners_207 : decode cX3_layCorners 207 = .ok (.goto 38, 3) := dk_167 0 38 (dk_at dksX3_layCorners_8 21 rfl rfl)
theorem dX3_layCorners_210 : decode cX3_layCorners 210 = .ok (.aload_n 0, 1) := dk_42 (dk_at dksX3_layCorners_9 0 rfl rfl)
theorem dX3_layCorners_211 : decode cX3_layCorners 211 = .ok (.getfield 54, 3) := dk_180 0 54 (dk_at dksX3_layCorners_9 1 rfl rfl)
theorem dX3_layCorners_214 : decode cX3_layCorners 214 = .ok (.aload_n 0, 1) := dk_42 (dk_at dksX3_layCorners_9 4 rfl rfl)
theorem dX3_layCorners_215 : decode cX3_layCorners 215 = .ok (.getfield 363, 3) := dk_180 1 107 (dk_at dksX3_layCorners_9 5 rfl rfl)
theorem dX3_layCorners_218 : decode cX3_layCorners 218 = .ok (.iconst 1, 1) := dk_4 (dk_at dksX3_layCorners_9 8 rfl rfl)
theorem dX3_layCorners_219 : decode cX3_layCorners 219 = .ok (.iload_n 1, 1) := dk_27 (dk_at dksX3_layCorners_9 9 rfl rfl)
theorem dX3_layCorners_220 : decode cX3_layCorners 220 = .ok (.ishl, 1) := dk_120 (dk_at dksX3_layCorners_9 10 rfl rfl)
theorem dX3_layCorners_221 : decode cX3_layCorners 221 = .ok (.iconst 1, 1) := dk_4 (dk_at dksX3_layCorners_9 11 rfl rfl)
theorem dX3_layCorners_222 : decode cX3_layCorners 222 = .ok (.iload_n 2, 1) := dk_28 (dk_at dksX3_layCorners_9 12 rfl rfl)
theorem dX3_layCorners_223 : decode cX3_layCorners 223 = .ok (.ishl, 1) := dk_120 (dk_at dksX3_layCorners_9 13 rfl rfl)
theorem dX3_layCorners_224 : decode cX3_layCorners 224 = .ok (.ior, 1) := dk_128 (dk_at dksX3_layCorners_9 14 rfl rfl)
theorem dX3_layCorners_225 : decode cX3_layCorners 225 = .ok (.iconst 1, 1) := dk_4 (dk_at dksX3_layCorners_9 15 rfl rfl)
theorem dX3_layCorners_226 : decode cX3_layCorners 226 = .ok (.iload_n 3, 1) := dk_29 (dk_at dksX3_layCorners_9 16 rfl rfl)
theorem dX3_layCorners_227 : decode cX3_layCorners 227 = .ok (.ishl, 1) := dk_120 (dk_at dksX3_layCorners_9 17 rfl rfl)
theorem dX3_layCorners_228 : decode cX3_layCorners 228 = .ok (.ior, 1) := dk_128 (dk_at dksX3_layCorners_9 18 rfl rfl)
theorem dX3_layCorners_229 : decode cX3_layCorners 229 = .ok (.iconst 1, 1) := dk_4 (dk_at dksX3_layCorners_9 19 rfl rfl)
theorem dX3_layCorners_230 : decode cX3_layCorners 230 = .ok (.iload 4, 2) := dk_21 4 (dk_at dksX3_layCorners_9 20 rfl rfl)
theorem dX3_layCorners_232 : decode cX3_layCorners 232 = .ok (.ishl, 1) := dk_120 (dk_at dksX3_layCorners_9 22 rfl rfl)
theorem dX3_layCorners_233 : decode cX3_layCorners 233 = .ok (.ior, 1) := dk_128 (dk_at dksX3_layCorners_9 23 rfl rfl)
theorem dX3_layCorners_234 : decode cX3_layCorners 234 = .ok (.iastore, 1) := dk_79 (dk_at dksX3_layCorners_10 0 rfl rfl)
theorem dX3_layCorners_235 : decode cX3_layCorners 235 = .ok (.aload_n 0, 1) := dk_42 (dk_at dksX3_layCorners_10 1 rfl rfl)
theorem dX3_layCorners_236 : decode cX3_layCorners 236 = .ok (.dup, 1) := dk_89 (dk_at dksX3_layCorners_10 2 rfl rfl)
theorem dX3_layCorners_237 : decode cX3_layCorners 237 = .ok (.getfield 363, 3) := dk_180 1 107 (dk_at dksX3_layCorners_10 3 rfl rfl)
theorem dX3_layCorners_240 : decode cX3_layCorners 240 = .ok (.iconst 1, 1) := dk_4 (dk_at dksX3_layCorners_10 6 rfl rfl)
theorem dX3_layCorners_241 : decode cX3_layCorners 241 = .ok (.iadd, 1) := dk_96 (dk_at dksX3_layCorners_10 7 rfl rfl)
theorem dX3_layCorners_242 : decode cX3_layCorners 242 = .ok (.putfield 363, 3) := dk_181 1 107 (dk_at dksX3_layCorners_10 8 rfl rfl)
theorem dX3_layCorners_245 : decode cX3_layCorners 245 = .ok (.iinc 4 1, 3) := dk_132 4 1 (dk_at dksX3_layCorners_10 11 rfl rfl)
theorem dX3_layCorners_248 : decode cX3_layCorners 248 = .ok (.goto (-81), 3) := dk_167 255 175 (dk_at dksX3_layCorners_10 14 rfl rfl)
theorem dX3_layCorners_251 : decode cX3_layCorners 251 = .ok (.iinc 3 1, 3) := dk_132 3 1 (dk_at dksX3_layCorners_10 17 rfl rfl)
theorem dX3_layCorners_254 : decode cX3_layCorners 254 = .ok (.goto (-126), 3) := dk_167 255 130 (dk_at dksX3_layCorners_10 20 rfl rfl)
theorem dX3_layCorners_257 : decode cX3_layCorners 257 = .ok (.iinc 2 1, 3) := dk_132 2 1 (dk_at dksX3_layCorners_11 0 rfl rfl)
theorem dX3_layCorners_260 : decode cX3_layCorners 260 = .ok (.goto (-163), 3) := dk_167 255 93 (dk_at dksX3_layCorners_11 3 rfl rfl)
theorem dX3_layCorners_263 : decode cX3_layCorners 263 = .ok (.iinc 1 1, 3) := dk_132 1 1 (dk_at dksX3_layCorners_11 6 rfl rfl)
theorem dX3_layCorners_266 : decode cX3_layCorners 266 = .ok (.goto (-184), 3) := dk_167 255 72 (dk_at dksX3_layCorners_11 9 rfl rfl)
theorem dX3_layCorners_269 : decode cX3_layCorners 269 = .ok (.return_, 1) := dk_177 (dk_at dksX3_layCorners_11 12 rfl rfl)
abbrev cX3_colours : ByteArray := prog_18_method_99_code
def yX3_colours : MethodName := ⟨RX3, "colours", "()I"⟩
def dkwX3_colours_1 : List UInt8 := [182, 1, 125, 19, 1, 128, 182, 1, 122, 42, 180, 1, 113, 172]
abbrev dktX3_colours_1 : List UInt8 := dkwX3_colours_1 ++ []
def dkwX3_colours_0 : List UInt8 := [42, 182, 0, 174, 42, 180, 0, 183, 154, 0, 9, 42, 4, 182, 0, 177, 172, 42, 182, 1, 110, 42, 42]
abbrev dktX3_colours_0 : List UInt8 := dkwX3_colours_0 ++ dktX3_colours_1
theorem dksX3_colours_0 : cX3_colours.data.toList.drop 0 = dktX3_colours_0 := by decide +kernel
theorem dksX3_colours_1 : cX3_colours.data.toList.drop 23 = dktX3_colours_1 := dk_seg dksX3_colours_0 23 rfl rfl
theorem dX3_colours_0 : decode cX3_colours 0 = .ok (.aload_n 0, 1) := dk_42 (dk_at dksX3_colours_0 0 rfl rfl)
theorem dX3_colours_1 : decode cX3_colours 1 = .ok (.invokevirtual 174, 3) := dk_182 0 174 (dk_at dksX3_colours_0 1 rfl rfl)
theorem dX3_colours_4 : decode cX3_colours 4 = .ok (.aload_n 0, 1) := dk_42 (dk_at dksX3_colours_0 4 rfl rfl)
theorem dX3_colours_5 : decode cX3_colours 5 = .ok (.getfield 183, 3) := dk_180 0 183 (dk_at dksX3_colours_0 5 rfl rfl)
theorem dX3_colours_8 : decode cX3_colours 8 = .ok (.ifCond .ne 9, 3) := dk_154 0 9 (dk_at dksX3_colours_0 8 rfl rfl)
theorem dX3_colours_11 : decode cX3_colours 11 = .ok (.aload_n 0, 1) := dk_42 (dk_at dksX3_colours_0 11 rfl rfl)
theorem dX3_colours_12 : decode cX3_colours 12 = .ok (.iconst 1, 1) := dk_4 (dk_at dksX3_colours_0 12 rfl rfl)
theorem dX3_colours_13 : decode cX3_colours 13 = .ok (.invokevirtual 177, 3) := dk_182 0 177 (dk_at dksX3_colours_0 13 rfl rfl)
theorem dX3_colours_16 : decode cX3_colours 16 = .ok (.ireturn, 1) := dk_172 (dk_at dksX3_colours_0 16 rfl rfl)
theorem dX3_colours_17 : decode cX3_colours 17 = .ok (.aload_n 0, 1) := dk_42 (dk_at dksX3_colours_0 17 rfl rfl)
theorem dX3_colours_18 : decode cX3_colours 18 = .ok (.invokevirtual 366, 3) := dk_182 1 110 (dk_at dksX3_colours_0 18 rfl rfl)
theorem dX3_colours_21 : decode cX3_colours 21 = .ok (.aload_n 0, 1) := dk_42 (dk_at dksX3_colours_0 21 rfl rfl)
theorem dX3_colours_22 : decode cX3_colours 22 = .ok (.aload_n 0, 1) := dk_42 (dk_at dksX3_colours_0 22 rfl rfl)
theorem dX3_colours_23 : decode cX3_colours 23 = .ok (.invokevirtual 381, 3) := dk_182 1 125 (dk_at dksX3_colours_1 0 rfl rfl)
theorem dX3_colours_26 : decode cX3_colours 26 = .ok (.ldc_w 384, 3) := dk_19 1 128 (dk_at dksX3_colours_1 3 rfl rfl)
theorem dX3_colours_29 : decode cX3_colours 29 = .ok (.invokevirtual 378, 3) := dk_182 1 122 (dk_at dksX3_colours_1 6 rfl rfl)
theorem dX3_colours_32 : decode cX3_colours 32 = .ok (.aload_n 0, 1) := dk_42 (dk_at dksX3_colours_1 9 rfl rfl)
theorem dX3_colours_33 : decode cX3_colours 33 = .ok (.getfield 369, 3) := dk_180 1 113 (dk_at dksX3_colours_1 10 rfl rfl)
theorem dX3_colours_36 : decode cX3_colours 36 = .ok (.ireturn, 1) := dk_172 (dk_at dksX3_colours_1 13 rfl rfl)
abbrev cX3_allRays : ByteArray := prog_18_method_97_code
def yX3_allRays : MethodName := ⟨RX3, "allRays", "()I"⟩
def dkwX3_allRays_0 : List UInt8 := [4, 42, 180, 0, 20, 16, 85, 46, 120, 4, 100, 172]
abbrev dktX3_allRays_0 : List UInt8 := dkwX3_allRays_0 ++ []
theorem dksX3_allRays_0 : cX3_allRays.data.toList.drop 0 = dktX3_allRays_0 := by decide +kernel
theorem dX3_allRays_0 : decode cX3_allRays 0 = .ok (.iconst 1, 1) := dk_4 (dk_at dksX3_allRays_0 0 rfl rfl)
theorem dX3_allRays_1 : decode cX3_allRays 1 = .ok (.aload_n 0, 1) := dk_42 (dk_at dksX3_allRays_0 1 rfl rfl)
theorem dX3_allRays_2 : decode cX3_allRays 2 = .ok (.getfield 20, 3) := dk_180 0 20 (dk_at dksX3_allRays_0 2 rfl rfl)
theorem dX3_allRays_5 : decode cX3_allRays 5 = .ok (.bipush 85, 2) := dk_16 85 (dk_at dksX3_allRays_0 5 rfl rfl)
theorem dX3_allRays_7 : decode cX3_allRays 7 = .ok (.iaload, 1) := dk_46 (dk_at dksX3_allRays_0 7 rfl rfl)
theorem dX3_allRays_8 : decode cX3_allRays 8 = .ok (.ishl, 1) := dk_120 (dk_at dksX3_allRays_0 8 rfl rfl)
theorem dX3_allRays_9 : decode cX3_allRays 9 = .ok (.iconst 1, 1) := dk_4 (dk_at dksX3_allRays_0 9 rfl rfl)
theorem dX3_allRays_10 : decode cX3_allRays 10 = .ok (.isub, 1) := dk_100 (dk_at dksX3_allRays_0 10 rfl rfl)
theorem dX3_allRays_11 : decode cX3_allRays 11 = .ok (.ireturn, 1) := dk_172 (dk_at dksX3_allRays_0 11 rfl rfl)
abbrev cX3_colour : ByteArray := prog_18_method_96_code
def yX3_colour : MethodName := ⟨RX3, "colou\x72", "(II)V"⟩
def dkwX3_colour_10 : List UInt8 := [100, 182, 1, 119, 154, 0, 6, 167, 255, 62, 21, 8, 54, 5, 132, 4, 1, 167, 255, 52, 177]
abbrev dktX3_colour_10 : List UInt8 := dkwX3_colour_10 ++ []
def dkwX3_colour_9 : List UInt8 := [153, 0, 11, 21, 5, 21, 6, 128, 167, 0, 5, 21, 5, 54, 8, 42, 27, 21, 8, 21, 6, 4, 120, 4]
abbrev dktX3_colour_9 : List UInt8 := dkwX3_colour_9 ++ dktX3_colour_10
def dkwX3_colour_8 : List UInt8 := [21, 6, 126, 153, 255, 114, 42, 180, 0, 57, 21, 4, 46, 21, 5, 126, 153, 0, 6, 167, 255, 98, 21, 7]
abbrev dktX3_colour_8 : List UInt8 := dkwX3_colour_8 ++ dktX3_colour_9
def dkwX3_colour_7 : List UInt8 := [167, 0, 4, 3, 54, 7, 42, 180, 0, 60, 21, 4, 92, 46, 4, 96, 79, 21, 7, 153, 0, 26, 27]
abbrev dktX3_colour_7 : List UInt8 := dkwX3_colour_7 ++ dktX3_colour_8
def dkwX3_colour_6 : List UInt8 := [21, 4, 3, 79, 132, 4, 255, 167, 255, 155, 42, 180, 0, 60, 21, 4, 46, 4, 160, 0, 7, 4]
abbrev dktX3_colour_6 : List UInt8 := dkwX3_colour_6 ++ dktX3_colour_7
def dkwX3_colour_5 : List UInt8 := [21, 5, 21, 6, 2, 130, 126, 54, 5, 42, 180, 0, 60, 21, 4, 46, 5, 160, 0, 17, 42, 180, 0, 60]
abbrev dktX3_colour_5 : List UInt8 := dkwX3_colour_5 ++ dktX3_colour_6
def dkwX3_colour_4 : List UInt8 := [181, 1, 116, 42, 180, 1, 113, 28, 160, 0, 4, 177, 132, 4, 255, 167, 255, 195, 4, 21, 4, 120, 54, 6]
abbrev dktX3_colour_4 : List UInt8 := dkwX3_colour_4 ++ dktX3_colour_5
def dkwX3_colour_3 : List UInt8 := [184, 1, 67, 42, 180, 1, 116, 164, 0, 11, 21, 5, 184, 1, 67, 167, 0, 7, 42, 180, 1, 116]
abbrev dktX3_colour_3 : List UInt8 := dkwX3_colour_3 ++ dktX3_colour_4
def dkwX3_colour_2 : List UInt8 := [21, 4, 155, 0, 205, 21, 4, 29, 160, 0, 56, 42, 89, 180, 1, 113, 4, 96, 181, 1, 113, 42, 21, 5]
abbrev dktX3_colour_2 : List UInt8 := dkwX3_colour_2 ++ dktX3_colour_3
def dkwX3_colour_1 : List UInt8 := [163, 0, 17, 42, 180, 0, 60, 21, 4, 3, 79, 132, 4, 1, 167, 255, 239, 3, 54, 4, 3, 54, 5]
abbrev dktX3_colour_1 : List UInt8 := dkwX3_colour_1 ++ dktX3_colour_2
def dkwX3_colour_0 : List UInt8 := [42, 180, 0, 20, 16, 85, 46, 62, 42, 3, 181, 1, 113, 42, 3, 181, 1, 116, 3, 54, 4, 21, 4, 29]
abbrev dktX3_colour_0 : List UInt8 := dkwX3_colour_0 ++ dktX3_colour_1
theorem dksX3_colour_0 : cX3_colour.data.toList.drop 0 = dktX3_colour_0 := by decide +kernel
theorem dksX3_colour_1 : cX3_colour.data.toList.drop 24 = dktX3_colour_1 := dk_seg dksX3_colour_0 24 rfl rfl
theorem dksX3_colour_2 : cX3_colour.data.toList.drop 47 = dktX3_colour_2 := dk_seg dksX3_colour_1 23 rfl rfl
theorem dksX3_colour_3 : cX3_colour.data.toList.drop 71 = dktX3_colour_3 := dk_seg dksX3_colour_2 24 rfl rfl
theorem dksX3_colour_4 : cX3_colour.data.toList.drop 93 = dktX3_colour_4 := dk_seg dksX3_colour_3 22 rfl rfl
theorem dksX3_colour_5 : cX3_colour.data.toList.drop 117 = dktX3_colour_5 := dk_seg dksX3_colour_4 24 rfl rfl
theorem dksX3_colour_6 : cX3_colour.data.toList.drop 141 = dktX3_colour_6 := dk_seg dksX3_colour_5 24 rfl rfl
theorem dksX3_colour_7 : cX3_colour.data.toList.drop 163 = dktX3_colour_7 := dk_seg dksX3_colour_6 22 rfl rfl
theorem dksX3_colour_8 : cX3_colour.data.toList.drop 186 = dktX3_colour_8 := dk_seg dksX3_colour_7 23 rfl rfl
theorem dksX3_colour_9 : cX3_colour.data.toList.drop 210 = dktX3_colour_9 := dk_seg dksX3_colour_8 24 rfl rfl
theorem dksX3_colour_10 : cX3_colour.data.toList.drop 234 = dktX3_colour_10 := dk_seg dksX3_colour_9 24 rfl rfl
theorem dX3_colour_0 : decode cX3_colour 0 = .ok (.aload_n 0, 1) := dk_42 (dk_at dksX3_colour_0 0 rfl rfl)
theorem dX3_colour_1 : decode cX3_colour 1 = .ok (.getfield 20, 3) := dk_180 0 20 (dk_at dksX3_colour_0 1 rfl rfl)
theorem dX3_colour_4 : decode cX3_colour 4 = .ok (.bipush 85, 2) := dk_16 85 (dk_at dksX3_colour_0 4 rfl rfl)
theorem dX3_colour_6 : decode cX3_colour 6 = .ok (.iaload, 1) := dk_46 (dk_at dksX3_colour_0 6 rfl rfl)
theorem dX3_colour_7 : decode cX3_colour 7 = .ok (.istore_n 3, 1) := dk_62 (dk_at dksX3_colour_0 7 rfl rfl)
theorem dX3_colour_8 : decode cX3_colour 8 = .ok (.aload_n 0, 1) := dk_42 (dk_at dksX3_colour_0 8 rfl rfl)
theorem dX3_colour_9 : decode cX3_colour 9 = .ok (.iconst 0, 1) := dk_3 (dk_at dksX3_colour_0 9 rfl rfl)
theorem dX3_colour_10 : decode cX3_colour 10 = .ok (.putfield 369, 3) := dk_181 1 113 (dk_at dksX3_colour_0 10 rfl rfl)
theorem dX3_colour_13 : decode cX3_colour 13 = .ok (.aload_n 0, 1) := dk_42 (dk_at dksX3_colour_0 13 rfl rfl)
theorem dX3_colour_14 : decode cX3_colour 14 = .ok (.iconst 0, 1) := dk_3 (dk_at dksX3_colour_0 14 rfl rfl)
theorem dX3_colour_15 : decode cX3_colour 15 = .ok (.putfield 372, 3) := dk_181 1 116 (dk_at dksX3_colour_0 15 rfl rfl)
theorem dX3_colour_18 : decode cX3_colour 18 = .ok (.iconst 0, 1) := dk_3 (dk_at dksX3_colour_0 18 rfl rfl)
theorem dX3_colour_19 : decode cX3_colour 19 = .ok (.istore 4, 2) := dk_54 4 (dk_at dksX3_colour_0 19 rfl rfl)
theorem dX3_colour_21 : decode cX3_colour 21 = .ok (.iload 4, 2) := dk_21 4 (dk_at dksX3_colour_0 21 rfl rfl)
theorem dX3_colour_23 : decode cX3_colour 23 = .ok (.iload_n 3, 1) := dk_29 (dk_at dksX3_colour_0 23 rfl rfl)
theorem dX3_colour_24 : decode cX3_colour 24 = .ok (.if_icmp .gt 17, 3) := dk_163 0 17 (dk_at dksX3_colour_1 0 rfl rfl)
theorem dX3_colour_27 : decode cX3_colour 27 = .ok (.aload_n 0, 1) := dk_42 (dk_at dksX3_colour_1 3 rfl rfl)
theorem dX3_colour_28 : decode cX3_colour 28 = .ok (.getfield 60, 3) := dk_180 0 60 (dk_at dksX3_colour_1 4 rfl rfl)
theorem dX3_colour_31 : decode cX3_colour 31 = .ok (.iload 4, 2) := dk_21 4 (dk_at dksX3_colour_1 7 rfl rfl)
theorem dX3_colour_33 : decode cX3_colour 33 = .ok (.iconst 0, 1) := dk_3 (dk_at dksX3_colour_1 9 rfl rfl)
theorem dX3_colour_34 : decode cX3_colour 34 = .ok (.iastore, 1) := dk_79 (dk_at dksX3_colour_1 10 rfl rfl)
theorem dX3_colour_35 : decode cX3_colour 35 = .ok (.iinc 4 1, 3) := dk_132 4 1 (dk_at dksX3_colour_1 11 rfl rfl)
theorem dX3_colour_38 : decode cX3_colour 38 = .ok (.goto (-17), 3) := dk_167 255 239 (dk_at dksX3_colour_1 14 rfl rfl)
theorem dX3_colour_41 : decode cX3_colour 41 = .ok (.iconst 0, 1) := dk_3 (dk_at dksX3_colour_1 17 rfl rfl)
theorem dX3_colour_42 : decode cX3_colour 42 = .ok (.istore 4, 2) := dk_54 4 (dk_at dksX3_colour_1 18 rfl rfl)
theorem dX3_colour_44 : decode cX3_colour 44 = .ok (.iconst 0, 1) := dk_3 (dk_at dksX3_colour_1 20 rfl rfl)
theorem dX3_colour_45 : decode cX3_colour 45 = .ok (.istore 5, 2) := dk_54 5 (dk_at dksX3_colour_1 21 rfl rfl)
theorem dX3_colour_47 : decode cX3_colour 47 = .ok (.iload 4, 2) := dk_21 4 (dk_at dksX3_colour_2 0 rfl rfl)
theorem dX3_colour_49 : decode cX3_colour 49 = .ok (.ifCond .lt 205, 3) := dk_155 0 205 (dk_at dksX3_colour_2 2 rfl rfl)
theorem dX3_colour_52 : decode cX3_colour 52 = .ok (.iload 4, 2) := dk_21 4 (dk_at dksX3_colour_2 5 rfl rfl)
theorem dX3_colour_54 : decode cX3_colour 54 = .ok (.iload_n 3, 1) := dk_29 (dk_at dksX3_colour_2 7 rfl rfl)
theorem dX3_colour_55 : decode cX3_colour 55 = .ok (.if_icmp .ne 56, 3) := dk_160 0 56 (dk_at dksX3_colour_2 8 rfl rfl)
theorem dX3_colour_58 : decode cX3_colour 58 = .ok (.aload_n 0, 1) := dk_42 (dk_at dksX3_colour_2 11 rfl rfl)
theorem dX3_colour_59 : decode cX3_colour 59 = .ok (.dup, 1) := dk_89 (dk_at dksX3_colour_2 12 rfl rfl)
theorem dX3_colour_60 : decode cX3_colour 60 = .ok (.getfield 369, 3) := dk_180 1 113 (dk_at dksX3_colour_2 13 rfl rfl)
theorem dX3_colour_63 : decode cX3_colour 63 = .ok (.iconst 1, 1) := dk_4 (dk_at dksX3_colour_2 16 rfl rfl)
theorem dX3_colour_64 : decode cX3_colour 64 = .ok (.iadd, 1) := dk_96 (dk_at dksX3_colour_2 17 rfl rfl)
theorem dX3_colour_65 : decode cX3_colour 65 = .ok (.putfield 369, 3) := dk_181 1 113 (dk_at dksX3_colour_2 18 rfl rfl)
theorem dX3_colour_68 : decode cX3_colour 68 = .ok (.aload_n 0, 1) := dk_42 (dk_at dksX3_colour_2 21 rfl rfl)
theorem dX3_colour_69 : decode cX3_colour 69 = .ok (.iload 5, 2) := dk_21 5 (dk_at dksX3_colour_2 22 rfl rfl)
theorem dX3_colour_71 : decode cX3_colour 71 = .ok (.invokestatic 323, 3) := dk_184 1 67 (dk_at dksX3_colour_3 0 rfl rfl)
theorem dX3_colour_74 : decode cX3_colour 74 = .ok (.aload_n 0, 1) := dk_42 (dk_at dksX3_colour_3 3 rfl rfl)
theorem dX3_colour_75 : decode cX3_colour 75 = .ok (.getfield 372, 3) := dk_180 1 116 (dk_at dksX3_colour_3 4 rfl rfl)
theorem dX3_colour_78 : decode cX3_colour 78 = .ok (.if_icmp .le 11, 3) := dk_164 0 11 (dk_at dksX3_colour_3 7 rfl rfl)
theorem dX3_colour_81 : decode cX3_colour 81 = .ok (.iload 5, 2) := dk_21 5 (dk_at dksX3_colour_3 10 rfl rfl)
theorem dX3_colour_83 : decode cX3_colour 83 = .ok (.invokestatic 323, 3) := dk_184 1 67 (dk_at dksX3_colour_3 12 rfl rfl)
theorem dX3_colour_86 : decode cX3_colour 86 = .ok (.goto 7, 3) := dk_167 0 7 (dk_at dksX3_colour_3 15 rfl rfl)
theorem dX3_colour_89 : decode cX3_colour 89 = .ok (.aload_n 0, 1) := dk_42 (dk_at dksX3_colour_3 18 rfl rfl)
theorem dX3_colour_90 : decode cX3_colour 90 = .ok (.getfield 372, 3) := dk_180 1 116 (dk_at dksX3_colour_3 19 rfl rfl)
theorem dX3_colour_93 : decode cX3_colour 93 = .ok (.putfield 372, 3) := dk_181 1 116 (dk_at dksX3_colour_4 0 rfl rfl)
theorem dX3_colour_96 : decode cX3_colour 96 = .ok (.aload_n 0, 1) := dk_42 (dk_at dksX3_colour_4 3 rfl rfl)
theorem dX3_colour_97 : decode cX3_colour 97 = .ok (.getfield 369, 3) := dk_180 1 113 (dk_at dksX3_colour_4 4 rfl rfl)
theorem dX3_colour_100 : decode cX3_colour 100 = .ok (.iload_n 2, 1) := dk_28 (dk_at dksX3_colour_4 7 rfl rfl)
theorem dX3_colour_101 : decode cX3_colour 101 = .ok (.if_icmp .ne 4, 3) := dk_160 0 4 (dk_at dksX3_colour_4 8 rfl rfl)
theorem dX3_colour_104 : decode cX3_colour 104 = .ok (.return_, 1) := dk_177 (dk_at dksX3_colour_4 11 rfl rfl)
theorem dX3_colour_105 : decode cX3_colour 105 = .ok (.iinc 4 (-1), 3) := dk_132 4 255 (dk_at dksX3_colour_4 12 rfl rfl)
theorem dX3_colour_108 : decode cX3_colour 108 = .ok (.goto (-61), 3) := dk_167 255 195 (dk_at dksX3_colour_4 15 rfl rfl)
theorem dX3_colour_111 : decode cX3_colour 111 = .ok (.iconst 1, 1) := dk_4 (dk_at dksX3_colour_4 18 rfl rfl)
theorem dX3_colour_112 : decode cX3_colour 112 = .ok (.iload 4, 2) := dk_21 4 (dk_at dksX3_colour_4 19 rfl rfl)
theorem dX3_colour_114 : decode cX3_colour 114 = .ok (.ishl, 1) := dk_120 (dk_at dksX3_colour_4 21 rfl rfl)
theorem dX3_colour_115 : decode cX3_colour 115 = .ok (.istore 6, 2) := dk_54 6 (dk_at dksX3_colour_4 22 rfl rfl)
theorem dX3_colour_117 : decode cX3_colour 117 = .ok (.iload 5, 2) := dk_21 5 (dk_at dksX3_colour_5 0 rfl rfl)
theorem dX3_colour_119 : decode cX3_colour 119 = .ok (.iload 6, 2) := dk_21 6 (dk_at dksX3_colour_5 2 rfl rfl)
theorem dX3_colour_121 : decode cX3_colour 121 = .ok (.iconst (-1), 1) := dk_2 (dk_at dksX3_colour_5 4 rfl rfl)
theorem dX3_colour_122 : decode cX3_colour 122 = .ok (.ixor, 1) := dk_130 (dk_at dksX3_colour_5 5 rfl rfl)
theorem dX3_colour_123 : decode cX3_colour 123 = .ok (.iand, 1) := dk_126 (dk_at dksX3_colour_5 6 rfl rfl)
theorem dX3_colour_124 : decode cX3_colour 124 = .ok (.istore 5, 2) := dk_54 5 (dk_at dksX3_colour_5 7 rfl rfl)
theorem dX3_colour_126 : decode cX3_colour 126 = .ok (.aload_n 0, 1) := dk_42 (dk_at dksX3_colour_5 9 rfl rfl)
theorem dX3_colour_127 : decode cX3_colour 127 = .ok (.getfield 60, 3) := dk_180 0 60 (dk_at dksX3_colour_5 10 rfl rfl)
theorem dX3_colour_130 : decode cX3_colour 130 = .ok (.iload 4, 2) := dk_21 4 (dk_at dksX3_colour_5 13 rfl rfl)
theorem dX3_colour_132 : decode cX3_colour 132 = .ok (.iaload, 1) := dk_46 (dk_at dksX3_colour_5 15 rfl rfl)
theorem dX3_colour_133 : decode cX3_colour 133 = .ok (.iconst 2, 1) := dk_5 (dk_at dksX3_colour_5 16 rfl rfl)
theorem dX3_colour_134 : decode cX3_colour 134 = .ok (.if_icmp .ne 17, 3) := dk_160 0 17 (dk_at dksX3_colour_5 17 rfl rfl)
theorem dX3_colour_137 : decode cX3_colour 137 = .ok (.aload_n 0, 1) := dk_42 (dk_at dksX3_colour_5 20 rfl rfl)
theorem dX3_colour_138 : decode cX3_colour 138 = .ok (.getfield 60, 3) := dk_180 0 60 (dk_at dksX3_colour_5 21 rfl rfl)
theorem dX3_colour_141 : decode cX3_colour 141 = .ok (.iload 4, 2) := dk_21 4 (dk_at dksX3_colour_6 0 rfl rfl)
theorem dX3_colour_143 : decode cX3_colour 143 = .ok (.iconst 0, 1) := dk_3 (dk_at dksX3_colour_6 2 rfl rfl)
theorem dX3_colour_144 : decode cX3_colour 144 = .ok (.iastore, 1) := dk_79 (dk_at dksX3_colour_6 3 rfl rfl)
theorem dX3_colour_145 : decode cX3_colour 145 = .ok (.iinc 4 (-1), 3) := dk_132 4 255 (dk_at dksX3_colour_6 4 rfl rfl)
theorem dX3_colour_148 : decode cX3_colour 148 = .ok (.goto (-101), 3) := dk_167 255 155 (dk_at dksX3_colour_6 7 rfl rfl)
theorem dX3_colour_151 : decode cX3_colour 151 = .ok (.aload_n 0, 1) := dk_42 (dk_at dksX3_colour_6 10 rfl rfl)
theorem dX3_colour_152 : decode cX3_colour 152 = .ok (.getfield 60, 3) := dk_180 0 60 (dk_at dksX3_colour_6 11 rfl rfl)
theorem dX3_colour_155 : decode cX3_colour 155 = .ok (.iload 4, 2) := dk_21 4 (dk_at dksX3_colour_6 14 rfl rfl)
theorem dX3_colour_157 : decode cX3_colour 157 = .ok (.iaload, 1) := dk_46 (dk_at dksX3_colour_6 16 rfl rfl)
theorem dX3_colour_158 : decode cX3_colour 158 = .ok (.iconst 1, 1) := dk_4 (dk_at dksX3_colour_6 17 rfl rfl)
theorem dX3_colour_159 : decode cX3_colour 159 = .ok (.if_icmp .ne 7, 3) := dk_160 0 7 (dk_at dksX3_colour_6 18 rfl rfl)
theorem dX3_colour_162 : decode cX3_colour 162 = .ok (.iconst 1, 1) := dk_4 (dk_at dksX3_colour_6 21 rfl rfl)
theorem dX3_colour_163 : decode cX3_colour 163 = .ok (.goto 4, 3) := dk_167 0 4 (dk_at dksX3_colour_7 0 rfl rfl)
theorem dX3_colour_166 : decode cX3_colour 166 = .ok (.iconst 0, 1) := dk_3 (dk_at dksX3_colour_7 3 rfl rfl)
theorem dX3_colour_167 : decode cX3_colour 167 = .ok (.istore 7, 2) := dk_54 7 (dk_at dksX3_colour_7 4 rfl rfl)
theorem dX3_colour_169 : decode cX3_colour 169 = .ok (.aload_n 0, 1) := dk_42 (dk_at dksX3_colour_7 6 rfl rfl)
theorem dX3_colour_170 : decode cX3_colour 170 = .ok (.getfield 60, 3) := dk_180 0 60 (dk_at dksX3_colour_7 7 rfl rfl)
theorem dX3_colour_173 : decode cX3_colour 173 = .ok (.iload 4, 2) := dk_21 4 (dk_at dksX3_colour_7 10 rfl rfl)
theorem dX3_colour_175 : decode cX3_colour 175 = .ok (.dup2, 1) := dk_92 (dk_at dksX3_colour_7 12 rfl rfl)
theorem dX3_colour_176 : decode cX3_colour 176 = .ok (.iaload, 1) := dk_46 (dk_at dksX3_colour_7 13 rfl rfl)
theorem dX3_colour_177 : decode cX3_colour 177 = .ok (.iconst 1, 1) := dk_4 (dk_at dksX3_colour_7 14 rfl rfl)
theorem dX3_colour_178 : decode cX3_colour 178 = .ok (.iadd, 1) := dk_96 (dk_at dksX3_colour_7 15 rfl rfl)
theorem dX3_colour_179 : decode cX3_colour 179 = .ok (.iastore, 1) := dk_79 (dk_at dksX3_colour_7 16 rfl rfl)
theorem dX3_colour_180 : decode cX3_colour 180 = .ok (.iload 7, 2) := dk_21 7 (dk_at dksX3_colour_7 17 rfl rfl)
theorem dX3_colour_182 : decode cX3_colour 182 = .ok (.ifCond .eq 26, 3) := dk_153 0 26 (dk_at dksX3_colour_7 19 rfl rfl)
theorem dX3_colour_185 : decode cX3_colour 185 = .ok (.iload_n 1, 1) := dk_27 (dk_at dksX3_colour_7 22 rfl rfl)
theorem dX3_colour_186 : decode cX3_colour 186 = .ok (.iload 6, 2) := dk_21 6 (dk_at dksX3_colour_8 0 rfl rfl)
theorem dX3_colour_188 : decode cX3_colour 188 = .ok (.iand, 1) := dk_126 (dk_at dksX3_colour_8 2 rfl rfl)
theorem dX3_colour_189 : decode cX3_colour 189 = .ok (.ifCond .eq (-142), 3) := dk_153 255 114 (dk_at dksX3_colour_8 3 rfl rfl)
theorem dX3_colour_192 : decode cX3_colour 192 = .ok (.aload_n 0, 1) := dk_42 (dk_at dksX3_colour_8 6 rfl rfl)
theorem dX3_colour_193 : decode cX3_colour 193 = .ok (.getfield 57, 3) := dk_180 0 57 (dk_at dksX3_colour_8 7 rfl rfl)
theorem dX3_colour_196 : decode cX3_colour 196 = .ok (.iload 4, 2) := dk_21 4 (dk_at dksX3_colour_8 10 rfl rfl)
theorem dX3_colour_198 : decode cX3_colour 198 = .ok (.iaload, 1) := dk_46 (dk_at dksX3_colour_8 12 rfl rfl)
theorem dX3_colour_199 : decode cX3_colour 199 = .ok (.iload 5, 2) := dk_21 5 (dk_at dksX3_colour_8 13 rfl rfl)
theorem dX3_colour_201 : decode cX3_colour 201 = .ok (.iand, 1) := dk_126 (dk_at dksX3_colour_8 15 rfl rfl)
theorem dX3_colour_202 : decode cX3_colour 202 = .ok (.ifCond .eq 6, 3) := dk_153 0 6 (dk_at dksX3_colour_8 16 rfl rfl)
theorem dX3_colour_205 : decode cX3_colour 205 = .ok (.goto (-158), 3) := dk_167 255 98 (dk_at dksX3_colour_8 19 rfl rfl)
theorem dX3_colour_208 : decode cX3_colour 208 = .ok (.iload 7, 2) := dk_21 7 (dk_at dksX3_colour_8 22 rfl rfl)
theorem dX3_colour_210 : decode cX3_colour 210 = .ok (.ifCond .eq 11, 3) := dk_153 0 11 (dk_at dksX3_colour_9 0 rfl rfl)
theorem dX3_colour_213 : decode cX3_colour 213 = .ok (.iload 5, 2) := dk_21 5 (dk_at dksX3_colour_9 3 rfl rfl)
theorem dX3_colour_215 : decode cX3_colour 215 = .ok (.iload 6, 2) := dk_21 6 (dk_at dksX3_colour_9 5 rfl rfl)
theorem dX3_colour_217 : decode cX3_colour 217 = .ok (.ior, 1) := dk_128 (dk_at dksX3_colour_9 7 rfl rfl)
theorem dX3_colour_218 : decode cX3_colour 218 = .ok (.goto 5, 3) := dk_167 0 5 (dk_at dksX3_colour_9 8 rfl rfl)
theorem dX3_colour_221 : decode cX3_colour 221 = .ok (.iload 5, 2) := dk_21 5 (dk_at dksX3_colour_9 11 rfl rfl)
theorem dX3_colour_223 : decode cX3_colour 223 = .ok (.istore 8, 2) := dk_54 8 (dk_at dksX3_colour_9 13 rfl rfl)
theorem dX3_colour_225 : decode cX3_colour 225 = .ok (.aload_n 0, 1) := dk_42 (dk_at dksX3_colour_9 15 rfl rfl)
theorem dX3_colour_226 : decode cX3_colour 226 = .ok (.iload_n 1, 1) := dk_27 (dk_at dksX3_colour_9 16 rfl rfl)
theorem dX3_colour_227 : decode cX3_colour 227 = .ok (.iload 8, 2) := dk_21 8 (dk_at dksX3_colour_9 17 rfl rfl)
theorem dX3_colour_229 : decode cX3_colour 229 = .ok (.iload 6, 2) := dk_21 6 (dk_at dksX3_colour_9 19 rfl rfl)
theorem dX3_colour_231 : decode cX3_colour 231 = .ok (.iconst 1, 1) := dk_4 (dk_at dksX3_colour_9 21 rfl rfl)
theorem dX3_colour_232 : decode cX3_colour 232 = .ok (.ishl, 1) := dk_120 (dk_at dksX3_colour_9 22 rfl rfl)
theorem dX3_colour_233 : decode cX3_colour 233 = .ok (.iconst 1, 1) := dk_4 (dk_at dksX3_colour_9 23 rfl rfl)
theorem dX3_colour_234 : decode cX3_colour 234 = .ok (.isub, 1) := dk_100 (dk_at dksX3_colour_10 0 rfl rfl)
theorem dX3_colour_235 : decode cX3_colour 235 = .ok (.invokevirtual 375, 3) := dk_182 1 119 (dk_at dksX3_colour_10 1 rfl rfl)
theorem dX3_colour_238 : decode cX3_colour 238 = .ok (.ifCond .ne 6, 3) := dk_154 0 6 (dk_at dksX3_colour_10 4 rfl rfl)
theorem dX3_colour_241 : decode cX3_colour 241 = .ok (.goto (-194), 3) := dk_167 255 62 (dk_at dksX3_colour_10 7 rfl rfl)
theorem dX3_colour_244 : decode cX3_colour 244 = .ok (.iload 8, 2) := dk_21 8 (dk_at dksX3_colour_10 10 rfl rfl)
theorem dX3_colour_246 : decode cX3_colour 246 = .ok (.istore 5, 2) := dk_54 5 (dk_at dksX3_colour_10 12 rfl rfl)
theorem dX3_colour_248 : decode cX3_colour 248 = .ok (.iinc 4 1, 3) := dk_132 4 1 (dk_at dksX3_colour_10 14 rfl rfl)
theorem dX3_colour_251 : decode cX3_colour 251 = .ok (.goto (-204), 3) := dk_167 255 52 (dk_at dksX3_colour_10 17 rfl rfl)
theorem dX3_colour_254 : decode cX3_colour 254 = .ok (.return_, 1) := dk_177 (dk_at dksX3_colour_10 20 rfl rfl)
abbrev cX3_isSoFar : ByteArray := prog_18_method_95_code
def yX3_isSoFar : MethodName := ⟨RX3, "isSoFa\x72", "(III)Z"⟩
def dkwX3_isSoFar_3 : List UInt8 := [167, 0, 4, 3, 54, 4, 132, 5, 1, 167, 255, 181, 21, 4, 172]
abbrev dktX3_isSoFar_3 : List UInt8 := dkwX3_isSoFar_3 ++ []
def dkwX3_isSoFar_2 : List UInt8 := [54, 7, 21, 7, 5, 162, 0, 22, 21, 6, 29, 2, 130, 126, 154, 0, 9, 21, 7, 4, 160, 0, 7, 4]
abbrev dktX3_isSoFar_2 : List UInt8 := dkwX3_isSoFar_2 ++ dktX3_isSoFar_3
def dkwX3_isSoFar_1 : List UInt8 := [21, 5, 46, 54, 6, 21, 6, 27, 2, 130, 126, 153, 0, 6, 167, 0, 40, 21, 6, 28, 126, 184, 1, 67]
abbrev dktX3_isSoFar_1 : List UInt8 := dkwX3_isSoFar_1 ++ dktX3_isSoFar_2
def dkwX3_isSoFar_0 : List UInt8 := [4, 54, 4, 3, 54, 5, 21, 5, 42, 180, 1, 107, 162, 0, 72, 21, 4, 153, 0, 67, 42, 180, 0, 54]
abbrev dktX3_isSoFar_0 : List UInt8 := dkwX3_isSoFar_0 ++ dktX3_isSoFar_1
theorem dksX3_isSoFar_0 : cX3_isSoFar.data.toList.drop 0 = dktX3_isSoFar_0 := by decide +kernel
theorem dksX3_isSoFar_1 : cX3_isSoFar.data.toList.drop 24 = dktX3_isSoFar_1 := dk_seg dksX3_isSoFar_0 24 rfl rfl
theorem dksX3_isSoFar_2 : cX3_isSoFar.data.toList.drop 48 = dktX3_isSoFar_2 := dk_seg dksX3_isSoFar_1 24 rfl rfl
theorem dksX3_isSoFar_3 : cX3_isSoFar.data.toList.drop 72 = dktX3_isSoFar_3 := dk_seg dksX3_isSoFar_2 24 rfl rfl
theorem dX3_isSoFar_0 : decode cX3_isSoFar 0 = .ok (.iconst 1, 1) := dk_4 (dk_at dksX3_isSoFar_0 0 rfl rfl)
theorem dX3_isSoFar_1 : decode cX3_isSoFar 1 = .ok (.istore 4, 2) := dk_54 4 (dk_at dksX3_isSoFar_0 1 rfl rfl)
theorem dX3_isSoFar_3 : decode cX3_isSoFar 3 = .ok (.iconst 0, 1) := dk_3 (dk_at dksX3_isSoFar_0 3 rfl rfl)
theorem dX3_isSoFar_4 : decode cX3_isSoFar 4 = .ok (.istore 5, 2) := dk_54 5 (dk_at dksX3_isSoFar_0 4 rfl rfl)
theorem dX3_isSoFar_6 : decode cX3_isSoFar 6 = .ok (.iload 5, 2) := dk_21 5 (dk_at dksX3_isSoFar_0 6 rfl rfl)
theorem dX3_isSoFar_8 : decode cX3_isSoFar 8 = .ok (.aload_n 0, 1) := dk_42 (dk_at dksX3_isSoFar_0 8 rfl rfl)
theorem dX3_isSoFar_9 : decode cX3_isSoFar 9 = .ok (.getfield 363, 3) := dk_180 1 107 (dk_at dksX3_isSoFar_0 9 rfl rfl)
theorem dX3_isSoFar_12 : decode cX3_isSoFar 12 = .ok (.if_icmp .ge 72, 3) := dk_162 0 72 (dk_at dksX3_isSoFar_0 12 rfl rfl)
theorem dX3_isSoFar_15 : decode cX3_isSoFar 15 = .ok (.iload 4, 2) := dk_21 4 (dk_at dksX3_isSoFar_0 15 rfl rfl)
theorem dX3_isSoFar_17 : decode cX3_isSoFar 17 = .ok (.ifCond .eq 67, 3) := dk_153 0 67 (dk_at dksX3_isSoFar_0 17 rfl rfl)
theorem dX3_isSoFar_20 : decode cX3_isSoFar 20 = .ok (.aload_n 0, 1) := dk_42 (dk_at dksX3_isSoFar_0 20 rfl rfl)
theorem dX3_isSoFar_21 : decode cX3_isSoFar 21 = .ok (.getfield 54, 3) := dk_180 0 54 (dk_at dksX3_isSoFar_0 21 rfl rfl)
theorem dX3_isSoFar_24 : decode cX3_isSoFar 24 = .ok (.iload 5, 2) := dk_21 5 (dk_at dksX3_isSoFar_1 0 rfl rfl)
theorem dX3_isSoFar_26 : decode cX3_isSoFar 26 = .ok (.iaload, 1) := dk_46 (dk_at dksX3_isSoFar_1 2 rfl rfl)
theorem dX3_isSoFar_27 : decode cX3_isSoFar 27 = .ok (.istore 6, 2) := dk_54 6 (dk_at dksX3_isSoFar_1 3 rfl rfl)
theorem dX3_isSoFar_29 : decode cX3_isSoFar 29 = .ok (.iload 6, 2) := dk_21 6 (dk_at dksX3_isSoFar_1 5 rfl rfl)
theorem dX3_isSoFar_31 : decode cX3_isSoFar 31 = .ok (.iload_n 1, 1) := dk_27 (dk_at dksX3_isSoFar_1 7 rfl rfl)
theorem dX3_isSoFar_32 : decode cX3_isSoFar 32 = .ok (.iconst (-1), 1) := dk_2 (dk_at dksX3_isSoFar_1 8 rfl rfl)
theorem dX3_isSoFar_33 : decode cX3_isSoFar 33 = .ok (.ixor, 1) := dk_130 (dk_at dksX3_isSoFar_1 9 rfl rfl)
theorem dX3_isSoFar_34 : decode cX3_isSoFar 34 = .ok (.iand, 1) := dk_126 (dk_at dksX3_isSoFar_1 10 rfl rfl)
theorem dX3_isSoFar_35 : decode cX3_isSoFar 35 = .ok (.ifCond .eq 6, 3) := dk_153 0 6 (dk_at dksX3_isSoFar_1 11 rfl rfl)
theorem dX3_isSoFar_38 : decode cX3_isSoFar 38 = .ok (.goto 40, 3) := dk_167 0 40 (dk_at dksX3_isSoFar_1 14 rfl rfl)
theorem dX3_isSoFar_41 : decode cX3_isSoFar 41 = .ok (.iload 6, 2) := dk_21 6 (dk_at dksX3_isSoFar_1 17 rfl rfl)
theorem dX3_isSoFar_43 : decode cX3_isSoFar 43 = .ok (.iload_n 2, 1) := dk_28 (dk_at dksX3_isSoFar_1 19 rfl rfl)
theorem dX3_isSoFar_44 : decode cX3_isSoFar 44 = .ok (.iand, 1) := dk_126 (dk_at dksX3_isSoFar_1 20 rfl rfl)
theorem dX3_isSoFar_45 : decode cX3_isSoFar 45 = .ok (.invokestatic 323, 3) := dk_184 1 67 (dk_at dksX3_isSoFar_1 21 rfl rfl)
theorem dX3_isSoFar_48 : decode cX3_isSoFar 48 = .ok (.istore 7, 2) := dk_54 7 (dk_at dksX3_isSoFar_2 0 rfl rfl)
theorem dX3_isSoFar_50 : decode cX3_isSoFar 50 = .ok (.iload 7, 2) := dk_21 7 (dk_at dksX3_isSoFar_2 2 rfl rfl)
theorem dX3_isSoFar_52 : decode cX3_isSoFar 52 = .ok (.iconst 2, 1) := dk_5 (dk_at dksX3_isSoFar_2 4 rfl rfl)
theorem dX3_isSoFar_53 : decode cX3_isSoFar 53 = .ok (.if_icmp .ge 22, 3) := dk_162 0 22 (dk_at dksX3_isSoFar_2 5 rfl rfl)
theorem dX3_isSoFar_56 : decode cX3_isSoFar 56 = .ok (.iload 6, 2) := dk_21 6 (dk_at dksX3_isSoFar_2 8 rfl rfl)
theorem dX3_isSoFar_58 : decode cX3_isSoFar 58 = .ok (.iload_n 3, 1) := dk_29 (dk_at dksX3_isSoFar_2 10 rfl rfl)
theorem dX3_isSoFar_59 : decode cX3_isSoFar 59 = .ok (.iconst (-1), 1) := dk_2 (dk_at dksX3_isSoFar_2 11 rfl rfl)
theorem dX3_isSoFar_60 : decode cX3_isSoFar 60 = .ok (.ixor, 1) := dk_130 (dk_at dksX3_isSoFar_2 12 rfl rfl)
theorem dX3_isSoFar_61 : decode cX3_isSoFar 61 = .ok (.iand, 1) := dk_126 (dk_at dksX3_isSoFar_2 13 rfl rfl)
theorem dX3_isSoFar_62 : decode cX3_isSoFar 62 = .ok (.ifCond .ne 9, 3) := dk_154 0 9 (dk_at dksX3_isSoFar_2 14 rfl rfl)
theorem dX3_isSoFar_65 : decode cX3_isSoFar 65 = .ok (.iload 7, 2) := dk_21 7 (dk_at dksX3_isSoFar_2 17 rfl rfl)
theorem dX3_isSoFar_67 : decode cX3_isSoFar 67 = .ok (.iconst 1, 1) := dk_4 (dk_at dksX3_isSoFar_2 19 rfl rfl)
theorem dX3_isSoFar_68 : decode cX3_isSoFar 68 = .ok (.if_icmp .ne 7, 3) := dk_160 0 7 (dk_at dksX3_isSoFar_2 20 rfl rfl)
theorem dX3_isSoFar_71 : decode cX3_isSoFar 71 = .ok (.iconst 1, 1) := dk_4 (dk_at dksX3_isSoFar_2 23 rfl rfl)
theorem dX3_isSoFar_72 : decode cX3_isSoFar 72 = .ok (.goto 4, 3) := dk_167 0 4 (dk_at dksX3_isSoFar_3 0 rfl rfl)
theorem dX3_isSoFar_75 : decode cX3_isSoFar 75 = .ok (.iconst 0, 1) := dk_3 (dk_at dksX3_isSoFar_3 3 rfl rfl)
theorem dX3_isSoFar_76 : decode cX3_isSoFar 76 = .ok (.istore 4, 2) := dk_54 4 (dk_at dksX3_isSoFar_3 4 rfl rfl)
theorem dX3_isSoFar_78 : decode cX3_isSoFar 78 = .ok (.iinc 5 1, 3) := dk_132 5 1 (dk_at dksX3_isSoFar_3 6 rfl rfl)
theorem dX3_isSoFar_81 : decode cX3_isSoFar 81 = .ok (.goto (-75), 3) := dk_167 255 181 (dk_at dksX3_isSoFar_3 9 rfl rfl)
theorem dX3_isSoFar_84 : decode cX3_isSoFar 84 = .ok (.iload 4, 2) := dk_21 4 (dk_at dksX3_isSoFar_3 12 rfl rfl)
theorem dX3_isSoFar_86 : decode cX3_isSoFar 86 = .ok (.ireturn, 1) := dk_172 (dk_at dksX3_isSoFar_3 14 rfl rfl)
abbrev cX3_ones : ByteArray := prog_18_method_100_code
def yX3_ones : MethodName := ⟨RX3, "ones", "()I"⟩
def dkwX3_ones_2 : List UInt8 := [167, 0, 7, 42, 180, 1, 116, 172]
abbrev dktX3_ones_2 : List UInt8 := dkwX3_ones_2 ++ []
def dkwX3_ones_1 : List UInt8 := [182, 1, 125, 19, 1, 128, 182, 1, 122, 42, 180, 1, 113, 154, 0, 12, 42, 16, 6, 182, 0, 177]
abbrev dktX3_ones_1 : List UInt8 := dkwX3_ones_1 ++ dktX3_ones_2
def dkwX3_ones_0 : List UInt8 := [42, 182, 0, 174, 42, 180, 0, 183, 154, 0, 9, 42, 4, 182, 0, 177, 172, 42, 182, 1, 110, 42, 42]
abbrev dktX3_ones_0 : List UInt8 := dkwX3_ones_0 ++ dktX3_ones_1
theorem dksX3_ones_0 : cX3_ones.data.toList.drop 0 = dktX3_ones_0 := by decide +kernel
theorem dksX3_ones_1 : cX3_ones.data.toList.drop 23 = dktX3_ones_1 := dk_seg dksX3_ones_0 23 rfl rfl
theorem dksX3_ones_2 : cX3_ones.data.toList.drop 45 = dktX3_ones_2 := dk_seg dksX3_ones_1 22 rfl rfl
theorem dX3_ones_0 : decode cX3_ones 0 = .ok (.aload_n 0, 1) := dk_42 (dk_at dksX3_ones_0 0 rfl rfl)
theorem dX3_ones_1 : decode cX3_ones 1 = .ok (.invokevirtual 174, 3) := dk_182 0 174 (dk_at dksX3_ones_0 1 rfl rfl)
theorem dX3_ones_4 : decode cX3_ones 4 = .ok (.aload_n 0, 1) := dk_42 (dk_at dksX3_ones_0 4 rfl rfl)
theorem dX3_ones_5 : decode cX3_ones 5 = .ok (.getfield 183, 3) := dk_180 0 183 (dk_at dksX3_ones_0 5 rfl rfl)
theorem dX3_ones_8 : decode cX3_ones 8 = .ok (.ifCond .ne 9, 3) := dk_154 0 9 (dk_at dksX3_ones_0 8 rfl rfl)
theorem dX3_ones_11 : decode cX3_ones 11 = .ok (.aload_n 0, 1) := dk_42 (dk_at dksX3_ones_0 11 rfl rfl)
theorem dX3_ones_12 : decode cX3_ones 12 = .ok (.iconst 1, 1) := dk_4 (dk_at dksX3_ones_0 12 rfl rfl)
theorem dX3_ones_13 : decode cX3_ones 13 = .ok (.invokevirtual 177, 3) := dk_182 0 177 (dk_at dksX3_ones_0 13 rfl rfl)
theorem dX3_ones_16 : decode cX3_ones 16 = .ok (.ireturn, 1) := dk_172 (dk_at dksX3_ones_0 16 rfl rfl)
theorem dX3_ones_17 : decode cX3_ones 17 = .ok (.aload_n 0, 1) := dk_42 (dk_at dksX3_ones_0 17 rfl rfl)
theorem dX3_ones_18 : decode cX3_ones 18 = .ok (.invokevirtual 366, 3) := dk_182 1 110 (dk_at dksX3_ones_0 18 rfl rfl)
theorem dX3_ones_21 : decode cX3_ones 21 = .ok (.aload_n 0, 1) := dk_42 (dk_at dksX3_ones_0 21 rfl rfl)
theorem dX3_ones_22 : decode cX3_ones 22 = .ok (.aload_n 0, 1) := dk_42 (dk_at dksX3_ones_0 22 rfl rfl)
theorem dX3_ones_23 : decode cX3_ones 23 = .ok (.invokevirtual 381, 3) := dk_182 1 125 (dk_at dksX3_ones_1 0 rfl rfl)
theorem dX3_ones_26 : decode cX3_ones 26 = .ok (.ldc_w 384, 3) := dk_19 1 128 (dk_at dksX3_ones_1 3 rfl rfl)
theorem dX3_ones_29 : decode cX3_ones 29 = .ok (.invokevirtual 378, 3) := dk_182 1 122 (dk_at dksX3_ones_1 6 rfl rfl)
theorem dX3_ones_32 : decode cX3_ones 32 = .ok (.aload_n 0, 1) := dk_42 (dk_at dksX3_ones_1 9 rfl rfl)
theorem dX3_ones_33 : decode cX3_ones 33 = .ok (.getfield 369, 3) := dk_180 1 113 (dk_at dksX3_ones_1 10 rfl rfl)
theorem dX3_ones_36 : decode cX3_ones 36 = .ok (.ifCond .ne 12, 3) := dk_154 0 12 (dk_at dksX3_ones_1 13 rfl rfl)
theorem dX3_ones_39 : decode cX3_ones 39 = .ok (.aload_n 0, 1) := dk_42 (dk_at dksX3_ones_1 16 rfl rfl)
theorem dX3_ones_40 : decode cX3_ones 40 = .ok (.bipush 6, 2) := dk_16 6 (dk_at dksX3_ones_1 17 rfl rfl)
theorem dX3_ones_42 : decode cX3_ones 42 = .ok (.invokevirtual 177, 3) := dk_182 0 177 (dk_at dksX3_ones_1 19 rfl rfl)
theorem dX3_ones_45 : decode cX3_ones 45 = .ok (.goto 7, 3) := dk_167 0 7 (dk_at dksX3_ones_2 0 rfl rfl)
theorem dX3_ones_48 : decode cX3_ones 48 = .ok (.aload_n 0, 1) := dk_42 (dk_at dksX3_ones_2 3 rfl rfl)
theorem dX3_ones_49 : decode cX3_ones 49 = .ok (.getfield 372, 3) := dk_180 1 116 (dk_at dksX3_ones_2 4 rfl rfl)
theorem dX3_ones_52 : decode cX3_ones 52 = .ok (.ireturn, 1) := dk_172 (dk_at dksX3_ones_2 7 rfl rfl)
abbrev cX3_spare : ByteArray := prog_18_method_101_code
def yX3_spare : MethodName := ⟨RX3, "spare", "()I"⟩
def dkwX3_spare_3 : List UInt8 := [167, 0, 6, 4, 28, 120, 128, 60, 132, 2, 1, 167, 255, 215, 27, 172]
abbrev dktX3_spare_3 : List UInt8 := dkwX3_spare_3 ++ []
def dkwX3_spare_2 : List UInt8 := [162, 0, 36, 27, 42, 42, 182, 1, 125, 4, 28, 120, 2, 130, 126, 182, 1, 129, 153, 0, 7, 3]
abbrev dktX3_spare_2 : List UInt8 := dkwX3_spare_2 ++ dktX3_spare_3
def dkwX3_spare_1 : List UInt8 := [182, 1, 125, 182, 1, 129, 153, 0, 5, 3, 172, 3, 60, 3, 61, 28, 42, 180, 0, 20, 16, 85, 46]
abbrev dktX3_spare_1 : List UInt8 := dkwX3_spare_1 ++ dktX3_spare_2
def dkwX3_spare_0 : List UInt8 := [42, 182, 0, 174, 42, 180, 0, 183, 154, 0, 9, 42, 4, 182, 0, 177, 172, 42, 182, 1, 110, 42, 42]
abbrev dktX3_spare_0 : List UInt8 := dkwX3_spare_0 ++ dktX3_spare_1
theorem dksX3_spare_0 : cX3_spare.data.toList.drop 0 = dktX3_spare_0 := by decide +kernel
theorem dksX3_spare_1 : cX3_spare.data.toList.drop 23 = dktX3_spare_1 := dk_seg dksX3_spare_0 23 rfl rfl
theorem dksX3_spare_2 : cX3_spare.data.toList.drop 46 = dktX3_spare_2 := dk_seg dksX3_spare_1 23 rfl rfl
theorem dksX3_spare_3 : cX3_spare.data.toList.drop 68 = dktX3_spare_3 := dk_seg dksX3_spare_2 22 rfl rfl
theorem dX3_spare_0 : decode cX3_spare 0 = .ok (.aload_n 0, 1) := dk_42 (dk_at dksX3_spare_0 0 rfl rfl)
theorem dX3_spare_1 : decode cX3_spare 1 = .ok (.invokevirtual 174, 3) := dk_182 0 174 (dk_at dksX3_spare_0 1 rfl rfl)
theorem dX3_spare_4 : decode cX3_spare 4 = .ok (.aload_n 0, 1) := dk_42 (dk_at dksX3_spare_0 4 rfl rfl)
theorem dX3_spare_5 : decode cX3_spare 5 = .ok (.getfield 183, 3) := dk_180 0 183 (dk_at dksX3_spare_0 5 rfl rfl)
theorem dX3_spare_8 : decode cX3_spare 8 = .ok (.ifCond .ne 9, 3) := dk_154 0 9 (dk_at dksX3_spare_0 8 rfl rfl)
theorem dX3_spare_11 : decode cX3_spare 11 = .ok (.aload_n 0, 1) := dk_42 (dk_at dksX3_spare_0 11 rfl rfl)
theorem dX3_spare_12 : decode cX3_spare 12 = .ok (.iconst 1, 1) := dk_4 (dk_at dksX3_spare_0 12 rfl rfl)
theorem dX3_spare_13 : decode cX3_spare 13 = .ok (.invokevirtual 177, 3) := dk_182 0 177 (dk_at dksX3_spare_0 13 rfl rfl)
theorem dX3_spare_16 : decode cX3_spare 16 = .ok (.ireturn, 1) := dk_172 (dk_at dksX3_spare_0 16 rfl rfl)
theorem dX3_spare_17 : decode cX3_spare 17 = .ok (.aload_n 0, 1) := dk_42 (dk_at dksX3_spare_0 17 rfl rfl)
theorem dX3_spare_18 : decode cX3_spare 18 = .ok (.invokevirtual 366, 3) := dk_182 1 110 (dk_at dksX3_spare_0 18 rfl rfl)
theorem dX3_spare_21 : decode cX3_spare 21 = .ok (.aload_n 0, 1) := dk_42 (dk_at dksX3_spare_0 21 rfl rfl)
theorem dX3_spare_22 : decode cX3_spare 22 = .ok (.aload_n 0, 1) := dk_42 (dk_at dksX3_spare_0 22 rfl rfl)
theorem dX3_spare_23 : decode cX3_spare 23 = .ok (.invokevirtual 381, 3) := dk_182 1 125 (dk_at dksX3_spare_1 0 rfl rfl)
theorem dX3_spare_26 : decode cX3_spare 26 = .ok (.invokevirtual 385, 3) := dk_182 1 129 (dk_at dksX3_spare_1 3 rfl rfl)
theorem dX3_spare_29 : decode cX3_spare 29 = .ok (.ifCond .eq 5, 3) := dk_153 0 5 (dk_at dksX3_spare_1 6 rfl rfl)
theorem dX3_spare_32 : decode cX3_spare 32 = .ok (.iconst 0, 1) := dk_3 (dk_at dksX3_spare_1 9 rfl rfl)
theorem dX3_spare_33 : decode cX3_spare 33 = .ok (.ireturn, 1) := dk_172 (dk_at dksX3_spare_1 10 rfl rfl)
theorem dX3_spare_34 : decode cX3_spare 34 = .ok (.iconst 0, 1) := dk_3 (dk_at dksX3_spare_1 11 rfl rfl)
theorem dX3_spare_35 : decode cX3_spare 35 = .ok (.istore_n 1, 1) := dk_60 (dk_at dksX3_spare_1 12 rfl rfl)
theorem dX3_spare_36 : decode cX3_spare 36 = .ok (.iconst 0, 1) := dk_3 (dk_at dksX3_spare_1 13 rfl rfl)
theorem dX3_spare_37 : decode cX3_spare 37 = .ok (.istore_n 2, 1) := dk_61 (dk_at dksX3_spare_1 14 rfl rfl)
theorem dX3_spare_38 : decode cX3_spare 38 = .ok (.iload_n 2, 1) := dk_28 (dk_at dksX3_spare_1 15 rfl rfl)
theorem dX3_spare_39 : decode cX3_spare 39 = .ok (.aload_n 0, 1) := dk_42 (dk_at dksX3_spare_1 16 rfl rfl)
theorem dX3_spare_40 : decode cX3_spare 40 = .ok (.getfield 20, 3) := dk_180 0 20 (dk_at dksX3_spare_1 17 rfl rfl)
theorem dX3_spare_43 : decode cX3_spare 43 = .ok (.bipush 85, 2) := dk_16 85 (dk_at dksX3_spare_1 20 rfl rfl)
theorem dX3_spare_45 : decode cX3_spare 45 = .ok (.iaload, 1) := dk_46 (dk_at dksX3_spare_1 22 rfl rfl)
theorem dX3_spare_46 : decode cX3_spare 46 = .ok (.if_icmp .ge 36, 3) := dk_162 0 36 (dk_at dksX3_spare_2 0 rfl rfl)
theorem dX3_spare_49 : decode cX3_spare 49 = .ok (.iload_n 1, 1) := dk_27 (dk_at dksX3_spare_2 3 rfl rfl)
theorem dX3_spare_50 : decode cX3_spare 50 = .ok (.aload_n 0, 1) := dk_42 (dk_at dksX3_spare_2 4 rfl rfl)
theorem dX3_spare_51 : decode cX3_spare 51 = .ok (.aload_n 0, 1) := dk_42 (dk_at dksX3_spare_2 5 rfl rfl)
theorem dX3_spare_52 : decode cX3_spare 52 = .ok (.invokevirtual 381, 3) := dk_182 1 125 (dk_at dksX3_spare_2 6 rfl rfl)
theorem dX3_spare_55 : decode cX3_spare 55 = .ok (.iconst 1, 1) := dk_4 (dk_at dksX3_spare_2 9 rfl rfl)
theorem dX3_spare_56 : decode cX3_spare 56 = .ok (.iload_n 2, 1) := dk_28 (dk_at dksX3_spare_2 10 rfl rfl)
theorem dX3_spare_57 : decode cX3_spare 57 = .ok (.ishl, 1) := dk_120 (dk_at dksX3_spare_2 11 rfl rfl)
theorem dX3_spare_58 : decode cX3_spare 58 = .ok (.iconst (-1), 1) := dk_2 (dk_at dksX3_spare_2 12 rfl rfl)
theorem dX3_spare_59 : decode cX3_spare 59 = .ok (.ixor, 1) := dk_130 (dk_at dksX3_spare_2 13 rfl rfl)
theorem dX3_spare_60 : decode cX3_spare 60 = .ok (.iand, 1) := dk_126 (dk_at dksX3_spare_2 14 rfl rfl)
theorem dX3_spare_61 : decode cX3_spare 61 = .ok (.invokevirtual 385, 3) := dk_182 1 129 (dk_at dksX3_spare_2 15 rfl rfl)
theorem dX3_spare_64 : decode cX3_spare 64 = .ok (.ifCond .eq 7, 3) := dk_153 0 7 (dk_at dksX3_spare_2 18 rfl rfl)
theorem dX3_spare_67 : decode cX3_spare 67 = .ok (.iconst 0, 1) := dk_3 (dk_at dksX3_spare_2 21 rfl rfl)
theorem dX3_spare_68 : decode cX3_spare 68 = .ok (.goto 6, 3) := dk_167 0 6 (dk_at dksX3_spare_3 0 rfl rfl)
theorem dX3_spare_71 : decode cX3_spare 71 = .ok (.iconst 1, 1) := dk_4 (dk_at dksX3_spare_3 3 rfl rfl)
theorem dX3_spare_72 : decode cX3_spare 72 = .ok (.iload_n 2, 1) := dk_28 (dk_at dksX3_spare_3 4 rfl rfl)
theorem dX3_spare_73 : decode cX3_spare 73 = .ok (.ishl, 1) := dk_120 (dk_at dksX3_spare_3 5 rfl rfl)
theorem dX3_spare_74 : decode cX3_spare 74 = .ok (.ior, 1) := dk_128 (dk_at dksX3_spare_3 6 rfl rfl)
theorem dX3_spare_75 : decode cX3_spare 75 = .ok (.istore_n 1, 1) := dk_60 (dk_at dksX3_spare_3 7 rfl rfl)
theorem dX3_spare_76 : decode cX3_spare 76 = .ok (.iinc 2 1, 3) := dk_132 2 1 (dk_at dksX3_spare_3 8 rfl rfl)
theorem dX3_spare_79 : decode cX3_spare 79 = .ok (.goto (-41), 3) := dk_167 255 215 (dk_at dksX3_spare_3 11 rfl rfl)
theorem dX3_spare_82 : decode cX3_spare 82 = .ok (.iload_n 1, 1) := dk_27 (dk_at dksX3_spare_3 14 rfl rfl)
theorem dX3_spare_83 : decode cX3_spare 83 = .ok (.ireturn, 1) := dk_172 (dk_at dksX3_spare_3 15 rfl rfl)
abbrev cX3_hasColour : ByteArray := prog_18_method_98_code
def yX3_hasColour : MethodName := ⟨RX3, "hasColou\x72", "(I)Z"⟩
def dkwX3_hasColour_0 : List UInt8 := [42, 27, 4, 182, 1, 122, 42, 180, 1, 113, 158, 0, 7, 4, 167, 0, 4, 3, 172]
abbrev dktX3_hasColour_0 : List UInt8 := dkwX3_hasColour_0 ++ []
theorem dksX3_hasColour_0 : cX3_hasColour.data.toList.drop 0 = dktX3_hasColour_0 := by decide +kernel
theorem dX3_hasColour_0 : decode cX3_hasColour 0 = .ok (.aload_n 0, 1) := dk_42 (dk_at dksX3_hasColour_0 0 rfl rfl)
theorem dX3_hasColour_1 : decode cX3_hasColour 1 = .ok (.iload_n 1, 1) := dk_27 (dk_at dksX3_hasColour_0 1 rfl rfl)
theorem dX3_hasColour_2 : decode cX3_hasColour 2 = .ok (.iconst 1, 1) := dk_4 (dk_at dksX3_hasColour_0 2 rfl rfl)
theorem dX3_hasColour_3 : decode cX3_hasColour 3 = .ok (.invokevirtual 378, 3) := dk_182 1 122 (dk_at dksX3_hasColour_0 3 rfl rfl)
theorem dX3_hasColour_6 : decode cX3_hasColour 6 = .ok (.aload_n 0, 1) := dk_42 (dk_at dksX3_hasColour_0 6 rfl rfl)
theorem dX3_hasColour_7 : decode cX3_hasColour 7 = .ok (.getfield 369, 3) := dk_180 1 113 (dk_at dksX3_hasColour_0 7 rfl rfl)
theorem dX3_hasColour_10 : decode cX3_hasColour 10 = .ok (.ifCond .le 7, 3) := dk_158 0 7 (dk_at dksX3_hasColour_0 10 rfl rfl)
theorem dX3_hasColour_13 : decode cX3_hasColour 13 = .ok (.iconst 1, 1) := dk_4 (dk_at dksX3_hasColour_0 13 rfl rfl)
theorem dX3_hasColour_14 : decode cX3_hasColour 14 = .ok (.goto 4, 3) := dk_167 0 4 (dk_at dksX3_hasColour_0 14 rfl rfl)
theorem dX3_hasColour_17 : decode cX3_hasColour 17 = .ok (.iconst 0, 1) := dk_3 (dk_at dksX3_hasColour_0 17 rfl rfl)
theorem dX3_hasColour_18 : decode cX3_hasColour 18 = .ok (.ireturn, 1) := dk_172 (dk_at dksX3_hasColour_0 18 rfl rfl)
abbrev cX3_critical : ByteArray := prog_18_method_102_code
def yX3_critical : MethodName := ⟨RX3, "critical", "()I"⟩
def dkwX3_critical_3 : List UInt8 := [27, 4, 28, 120, 2, 130, 126, 60, 132, 2, 1, 167, 255, 220, 27, 172]
abbrev dktX3_critical_3 : List UInt8 := dkwX3_critical_3 ++ []
def dkwX3_critical_2 : List UInt8 := [42, 180, 0, 20, 16, 85, 46, 162, 0, 31, 42, 27, 4, 28, 120, 2, 130, 126, 182, 1, 129, 154, 0, 11]
abbrev dktX3_critical_2 : List UInt8 := dkwX3_critical_2 ++ dktX3_critical_3
def dkwX3_critical_1 : List UInt8 := [182, 1, 125, 182, 1, 129, 153, 0, 10, 42, 16, 6, 182, 0, 177, 172, 42, 182, 1, 125, 60, 3, 61, 28]
abbrev dktX3_critical_1 : List UInt8 := dkwX3_critical_1 ++ dktX3_critical_2
def dkwX3_critical_0 : List UInt8 := [42, 182, 0, 174, 42, 180, 0, 183, 154, 0, 9, 42, 4, 182, 0, 177, 172, 42, 182, 1, 110, 42, 42]
abbrev dktX3_critical_0 : List UInt8 := dkwX3_critical_0 ++ dktX3_critical_1
theorem dksX3_critical_0 : cX3_critical.data.toList.drop 0 = dktX3_critical_0 := by decide +kernel
theorem dksX3_critical_1 : cX3_critical.data.toList.drop 23 = dktX3_critical_1 := dk_seg dksX3_critical_0 23 rfl rfl
theorem dksX3_critical_2 : cX3_critical.data.toList.drop 47 = dktX3_critical_2 := dk_seg dksX3_critical_1 24 rfl rfl
theorem dksX3_critical_3 : cX3_critical.data.toList.drop 71 = dktX3_critical_3 := dk_seg dksX3_critical_2 24 rfl rfl
theorem dX3_critical_0 : decode cX3_critical 0 = .ok (.aload_n 0, 1) := dk_42 (dk_at dksX3_critical_0 0 rfl rfl)
theorem dX3_critical_1 : decode cX3_critical 1 = .ok (.invokevirtual 174, 3) := dk_182 0 174 (dk_at dksX3_critical_0 1 rfl rfl)
theorem dX3_critical_4 : decode cX3_critical 4 = .ok (.aload_n 0, 1) := dk_42 (dk_at dksX3_critical_0 4 rfl rfl)
theorem dX3_critical_5 : decode cX3_critical 5 = .ok (.getfield 183, 3) := dk_180 0 183 (dk_at dksX3_critical_0 5 rfl rfl)
theorem dX3_critical_8 : decode cX3_critical 8 = .ok (.ifCond .ne 9, 3) := dk_154 0 9 (dk_at dksX3_critical_0 8 rfl rfl)
theorem dX3_critical_11 : decode cX3_critical 11 = .ok (.aload_n 0, 1) := dk_42 (dk_at dksX3_critical_0 11 rfl rfl)
theorem dX3_critical_12 : decode cX3_critical 12 = .ok (.iconst 1, 1) := dk_4 (dk_at dksX3_critical_0 12 rfl rfl)
theorem dX3_critical_13 : decode cX3_critical 13 = .ok (.invokevirtual 177, 3) := dk_182 0 177 (dk_at dksX3_critical_0 13 rfl rfl)
theorem dX3_critical_16 : decode cX3_critical 16 = .ok (.ireturn, 1) := dk_172 (dk_at dksX3_critical_0 16 rfl rfl)
theorem dX3_critical_17 : decode cX3_critical 17 = .ok (.aload_n 0, 1) := dk_42 (dk_at dksX3_critical_0 17 rfl rfl)
theorem dX3_critical_18 : decode cX3_critical 18 = .ok (.invokevirtual 366, 3) := dk_182 1 110 (dk_at dksX3_critical_0 18 rfl rfl)
theorem dX3_critical_21 : decode cX3_critical 21 = .ok (.aload_n 0, 1) := dk_42 (dk_at dksX3_critical_0 21 rfl rfl)
theorem dX3_critical_22 : decode cX3_critical 22 = .ok (.aload_n 0, 1) := dk_42 (dk_at dksX3_critical_0 22 rfl rfl)
theorem dX3_critical_23 : decode cX3_critical 23 = .ok (.invokevirtual 381, 3) := dk_182 1 125 (dk_at dksX3_critical_1 0 rfl rfl)
theorem dX3_critical_26 : decode cX3_critical 26 = .ok (.invokevirtual 385, 3) := dk_182 1 129 (dk_at dksX3_critical_1 3 rfl rfl)
theorem dX3_critical_29 : decode cX3_critical 29 = .ok (.ifCond .eq 10, 3) := dk_153 0 10 (dk_at dksX3_critical_1 6 rfl rfl)
theorem dX3_critical_32 : decode cX3_critical 32 = .ok (.aload_n 0, 1) := dk_42 (dk_at dksX3_critical_1 9 rfl rfl)
theorem dX3_critical_33 : decode cX3_critical 33 = .ok (.bipush 6, 2) := dk_16 6 (dk_at dksX3_critical_1 10 rfl rfl)
theorem dX3_critical_35 : decode cX3_critical 35 = .ok (.invokevirtual 177, 3) := dk_182 0 177 (dk_at dksX3_critical_1 12 rfl rfl)
theorem dX3_critical_38 : decode cX3_critical 38 = .ok (.ireturn, 1) := dk_172 (dk_at dksX3_critical_1 15 rfl rfl)
theorem dX3_critical_39 : decode cX3_critical 39 = .ok (.aload_n 0, 1) := dk_42 (dk_at dksX3_critical_1 16 rfl rfl)
theorem dX3_critical_40 : decode cX3_critical 40 = .ok (.invokevirtual 381, 3) := dk_182 1 125 (dk_at dksX3_critical_1 17 rfl rfl)
theorem dX3_critical_43 : decode cX3_critical 43 = .ok (.istore_n 1, 1) := dk_60 (dk_at dksX3_critical_1 20 rfl rfl)
theorem dX3_critical_44 : decode cX3_critical 44 = .ok (.iconst 0, 1) := dk_3 (dk_at dksX3_critical_1 21 rfl rfl)
theorem dX3_critical_45 : decode cX3_critical 45 = .ok (.istore_n 2, 1) := dk_61 (dk_at dksX3_critical_1 22 rfl rfl)
theorem dX3_critical_46 : decode cX3_critical 46 = .ok (.iload_n 2, 1) := dk_28 (dk_at dksX3_critical_1 23 rfl rfl)
theorem dX3_critical_47 : decode cX3_critical 47 = .ok (.aload_n 0, 1) := dk_42 (dk_at dksX3_critical_2 0 rfl rfl)
theorem dX3_critical_48 : decode cX3_critical 48 = .ok (.getfield 20, 3) := dk_180 0 20 (dk_at dksX3_critical_2 1 rfl rfl)
theorem dX3_critical_51 : decode cX3_critical 51 = .ok (.bipush 85, 2) := dk_16 85 (dk_at dksX3_critical_2 4 rfl rfl)
theorem dX3_critical_53 : decode cX3_critical 53 = .ok (.iaload, 1) := dk_46 (dk_at dksX3_critical_2 6 rfl rfl)
theorem dX3_critical_54 : decode cX3_critical 54 = .ok (.if_icmp .ge 31, 3) := dk_162 0 31 (dk_at dksX3_critical_2 7 rfl rfl)
theorem dX3_critical_57 : decode cX3_critical 57 = .ok (.aload_n 0, 1) := dk_42 (dk_at dksX3_critical_2 10 rfl rfl)
theorem dX3_critical_58 : decode cX3_critical 58 = .ok (.iload_n 1, 1) := dk_27 (dk_at dksX3_critical_2 11 rfl rfl)
theorem dX3_critical_59 : decode cX3_critical 59 = .ok (.iconst 1, 1) := dk_4 (dk_at dksX3_critical_2 12 rfl rfl)
theorem dX3_critical_60 : decode cX3_critical 60 = .ok (.iload_n 2, 1) := dk_28 (dk_at dksX3_critical_2 13 rfl rfl)
theorem dX3_critical_61 : decode cX3_critical 61 = .ok (.ishl, 1) := dk_120 (dk_at dksX3_critical_2 14 rfl rfl)
theorem dX3_critical_62 : decode cX3_critical 62 = .ok (.iconst (-1), 1) := dk_2 (dk_at dksX3_critical_2 15 rfl rfl)
theorem dX3_critical_63 : decode cX3_critical 63 = .ok (.ixor, 1) := dk_130 (dk_at dksX3_critical_2 16 rfl rfl)
theorem dX3_critical_64 : decode cX3_critical 64 = .ok (.iand, 1) := dk_126 (dk_at dksX3_critical_2 17 rfl rfl)
theorem dX3_critical_65 : decode cX3_critical 65 = .ok (.invokevirtual 385, 3) := dk_182 1 129 (dk_at dksX3_critical_2 18 rfl rfl)
theorem dX3_critical_68 : decode cX3_critical 68 = .ok (.ifCond .ne 11, 3) := dk_154 0 11 (dk_at dksX3_critical_2 21 rfl rfl)
theorem dX3_critical_71 : decode cX3_critical 71 = .ok (.iload_n 1, 1) := dk_27 (dk_at dksX3_critical_3 0 rfl rfl)
theorem dX3_critical_72 : decode cX3_critical 72 = .ok (.iconst 1, 1) := dk_4 (dk_at dksX3_critical_3 1 rfl rfl)
theorem dX3_critical_73 : decode cX3_critical 73 = .ok (.iload_n 2, 1) := dk_28 (dk_at dksX3_critical_3 2 rfl rfl)
theorem dX3_critical_74 : decode cX3_critical 74 = .ok (.ishl, 1) := dk_120 (dk_at dksX3_critical_3 3 rfl rfl)
theorem dX3_critical_75 : decode cX3_critical 75 = .ok (.iconst (-1), 1) := dk_2 (dk_at dksX3_critical_3 4 rfl rfl)
theorem dX3_critical_76 : decode cX3_critical 76 = .ok (.ixor, 1) := dk_130 (dk_at dksX3_critical_3 5 rfl rfl)
theorem dX3_critical_77 : decode cX3_critical 77 = .ok (.iand, 1) := dk_126 (dk_at dksX3_critical_3 6 rfl rfl)
theorem dX3_critical_78 : decode cX3_critical 78 = .ok (.istore_n 1, 1) := dk_60 (dk_at dksX3_critical_3 7 rfl rfl)
theorem dX3_critical_79 : decode cX3_critical 79 = .ok (.iinc 2 1, 3) := dk_132 2 1 (dk_at dksX3_critical_3 8 rfl rfl)
theorem dX3_critical_82 : decode cX3_critical 82 = .ok (.goto (-36), 3) := dk_167 255 220 (dk_at dksX3_critical_3 11 rfl rfl)
theorem dX3_critical_85 : decode cX3_critical 85 = .ok (.iload_n 1, 1) := dk_27 (dk_at dksX3_critical_3 14 rfl rfl)
theorem dX3_critical_86 : decode cX3_critical 86 = .ok (.ireturn, 1) := dk_172 (dk_at dksX3_critical_3 15 rfl rfl)
abbrev cX3_memory : ByteArray := prog_18_method_105_code
def yX3_memory : MethodName := ⟨RX3, "memory", "()I"⟩
def dkwX3_memory_0 : List UInt8 := [42, 182, 0, 174, 42, 180, 0, 183, 153, 0, 10, 42, 182, 1, 136, 167, 0, 8, 42, 4, 182, 0, 177, 172]
abbrev dktX3_memory_0 : List UInt8 := dkwX3_memory_0 ++ []
theorem dksX3_memory_0 : cX3_memory.data.toList.drop 0 = dktX3_memory_0 := by decide +kernel
theorem dX3_memory_0 : decode cX3_memory 0 = .ok (.aload_n 0, 1) := dk_42 (dk_at dksX3_memory_0 0 rfl rfl)
theorem dX3_memory_1 : decode cX3_memory 1 = .ok (.invokevirtual 174, 3) := dk_182 0 174 (dk_at dksX3_memory_0 1 rfl rfl)
theorem dX3_memory_4 : decode cX3_memory 4 = .ok (.aload_n 0, 1) := dk_42 (dk_at dksX3_memory_0 4 rfl rfl)
theorem dX3_memory_5 : decode cX3_memory 5 = .ok (.getfield 183, 3) := dk_180 0 183 (dk_at dksX3_memory_0 5 rfl rfl)
theorem dX3_memory_8 : decode cX3_memory 8 = .ok (.ifCond .eq 10, 3) := dk_153 0 10 (dk_at dksX3_memory_0 8 rfl rfl)
theorem dX3_memory_11 : decode cX3_memory 11 = .ok (.aload_n 0, 1) := dk_42 (dk_at dksX3_memory_0 11 rfl rfl)
theorem dX3_memory_12 : decode cX3_memory 12 = .ok (.invokevirtual 392, 3) := dk_182 1 136 (dk_at dksX3_memory_0 12 rfl rfl)
theorem dX3_memory_15 : decode cX3_memory 15 = .ok (.goto 8, 3) := dk_167 0 8 (dk_at dksX3_memory_0 15 rfl rfl)
theorem dX3_memory_18 : decode cX3_memory 18 = .ok (.aload_n 0, 1) := dk_42 (dk_at dksX3_memory_0 18 rfl rfl)
theorem dX3_memory_19 : decode cX3_memory 19 = .ok (.iconst 1, 1) := dk_4 (dk_at dksX3_memory_0 19 rfl rfl)
theorem dX3_memory_20 : decode cX3_memory 20 = .ok (.invokevirtual 177, 3) := dk_182 0 177 (dk_at dksX3_memory_0 20 rfl rfl)
theorem dX3_memory_23 : decode cX3_memory 23 = .ok (.ireturn, 1) := dk_172 (dk_at dksX3_memory_0 23 rfl rfl)
abbrev cX3_fewestStates : ByteArray := prog_18_method_104_code
def yX3_fewestStates : MethodName := ⟨RX3, "fewestStates", "()I"⟩
def dkwX3_fewestStates_2 : List UInt8 := [172, 132, 1, 1, 167, 255, 207, 16, 254, 172]
abbrev dktX3_fewestStates_2 : List UInt8 := dkwX3_fewestStates_2 ++ []
def dkwX3_fewestStates_1 : List UInt8 := [180, 0, 66, 28, 2, 79, 132, 2, 1, 167, 255, 233, 42, 27, 3, 3, 3, 182, 1, 132, 153, 0, 5, 27]
abbrev dktX3_fewestStates_1 : List UInt8 := dkwX3_fewestStates_1 ++ dktX3_fewestStates_2
def dkwX3_fewestStates_0 : List UInt8 := [4, 60, 27, 6, 163, 0, 50, 3, 61, 28, 16, 18, 162, 0, 23, 42, 180, 0, 63, 28, 5, 79, 42]
abbrev dktX3_fewestStates_0 : List UInt8 := dkwX3_fewestStates_0 ++ dktX3_fewestStates_1
theorem dksX3_fewestStates_0 : cX3_fewestStates.data.toList.drop 0 = dktX3_fewestStates_0 := by decide +kernel
theorem dksX3_fewestStates_1 : cX3_fewestStates.data.toList.drop 23 = dktX3_fewestStates_1 := dk_seg dksX3_fewestStates_0 23 rfl rfl
theorem dksX3_fewestStates_2 : cX3_fewestStates.data.toList.drop 47 = dktX3_fewestStates_2 := dk_seg dksX3_fewestStates_1 24 rfl rfl
theorem dX3_fewestStates_0 : decode cX3_fewestStates 0 = .ok (.iconst 1, 1) := dk_4 (dk_at dksX3_fewestStates_0 0 rfl rfl)
theorem dX3_fewestStates_1 : decode cX3_fewestStates 1 = .ok (.istore_n 1, 1) := dk_60 (dk_at dksX3_fewestStates_0 1 rfl rfl)
theorem dX3_fewestStates_2 : decode cX3_fewestStates 2 = .ok (.iload_n 1, 1) := dk_27 (dk_at dksX3_fewestStates_0 2 rfl rfl)
theorem dX3_fewestStates_3 : decode cX3_fewestStates 3 = .ok (.iconst 3, 1) := dk_6 (dk_at dksX3_fewestStates_0 3 rfl rfl)
theorem dX3_fewestStates_4 : decode cX3_fewestStates 4 = .ok (.if_icmp .gt 50, 3) := dk_163 0 50 (dk_at dksX3_fewestStates_0 4 rfl rfl)
theorem dX3_fewestStates_7 : decode cX3_fewestStates 7 = .ok (.iconst 0, 1) := dk_3 (dk_at dksX3_fewestStates_0 7 rfl rfl)
theorem dX3_fewestStates_8 : decode cX3_fewestStates 8 = .ok (.istore_n 2, 1) := dk_61 (dk_at dksX3_fewestStates_0 8 rfl rfl)
theorem dX3_fewestStates_9 : decode cX3_fewestStates 9 = .ok (.iload_n 2, 1) := dk_28 (dk_at dksX3_fewestStates_0 9 rfl rfl)
theorem dX3_fewestStates_10 : decode cX3_fewestStates 10 = .ok (.bipush 18, 2) := dk_16 18 (dk_at dksX3_fewestStates_0 10 rfl rfl)
theorem dX3_fewestStates_12 : decode cX3_fewestStates 12 = .ok (.if_icmp .ge 23, 3) := dk_162 0 23 (dk_at dksX3_fewestStates_0 12 rfl rfl)
theorem dX3_fewestStates_15 : decode cX3_fewestStates 15 = .ok (.aload_n 0, 1) := dk_42 (dk_at dksX3_fewestStates_0 15 rfl rfl)
theorem dX3_fewestStates_16 : decode cX3_fewestStates 16 = .ok (.getfield 63, 3) := dk_180 0 63 (dk_at dksX3_fewestStates_0 16 rfl rfl)
theorem dX3_fewestStates_19 : decode cX3_fewestStates 19 = .ok (.iload_n 2, 1) := dk_28 (dk_at dksX3_fewestStates_0 19 rfl rfl)
theorem dX3_fewestStates_20 : decode cX3_fewestStates 20 = .ok (.iconst 2, 1) := dk_5 (dk_at dksX3_fewestStates_0 20 rfl rfl)
theorem dX3_fewestStates_21 : decode cX3_fewestStates 21 = .ok (.iastore, 1) := dk_79 (dk_at dksX3_fewestStates_0 21 rfl rfl)
theorem dX3_fewestStates_22 : decode cX3_fewestStates 22 = .ok (.aload_n 0, 1) := dk_42 (dk_at dksX3_fewestStates_0 22 rfl rfl)
theorem dX3_fewestStates_23 : decode cX3_fewestStates 23 = .ok (.getfield 66, 3) := dk_180 0 66 (dk_at dksX3_fewestStates_1 0 rfl rfl)
theorem dX3_fewestStates_26 : decode cX3_fewestStates 26 = .ok (.iload_n 2, 1) := dk_28 (dk_at dksX3_fewestStates_1 3 rfl rfl)
theorem dX3_fewestStates_27 : decode cX3_fewestStates 27 = .ok (.iconst (-1), 1) := dk_2 (dk_at dksX3_fewestStates_1 4 rfl rfl)
theorem dX3_fewestStates_28 : decode cX3_fewestStates 28 = .ok (.iastore, 1) := dk_79 (dk_at dksX3_fewestStates_1 5 rfl rfl)
theorem dX3_fewestStates_29 : decode cX3_fewestStates 29 = .ok (.iinc 2 1, 3) := dk_132 2 1 (dk_at dksX3_fewestStates_1 6 rfl rfl)
theorem dX3_fewestStates_32 : decode cX3_fewestStates 32 = .ok (.goto (-23), 3) := dk_167 255 233 (dk_at dksX3_fewestStates_1 9 rfl rfl)
theorem dX3_fewestStates_35 : decode cX3_fewestStates 35 = .ok (.aload_n 0, 1) := dk_42 (dk_at dksX3_fewestStates_1 12 rfl rfl)
theorem dX3_fewestStates_36 : decode cX3_fewestStates 36 = .ok (.iload_n 1, 1) := dk_27 (dk_at dksX3_fewestStates_1 13 rfl rfl)
theorem dX3_fewestStates_37 : decode cX3_fewestStates 37 = .ok (.iconst 0, 1) := dk_3 (dk_at dksX3_fewestStates_1 14 rfl rfl)
theorem dX3_fewestStates_38 : decode cX3_fewestStates 38 = .ok (.iconst 0, 1) := dk_3 (dk_at dksX3_fewestStates_1 15 rfl rfl)
theorem dX3_fewestStates_39 : decode cX3_fewestStates 39 = .ok (.iconst 0, 1) := dk_3 (dk_at dksX3_fewestStates_1 16 rfl rfl)
theorem dX3_fewestStates_40 : decode cX3_fewestStates 40 = .ok (.invokevirtual 388, 3) := dk_182 1 132 (dk_at dksX3_fewestStates_1 17 rfl rfl)
theorem dX3_fewestStates_43 : decode cX3_fewestStates 43 = .ok (.ifCond .eq 5, 3) := dk_153 0 5 (dk_at dksX3_fewestStates_1 20 rfl rfl)
theorem dX3_fewestStates_46 : decode cX3_fewestStates 46 = .ok (.iload_n 1, 1) := dk_27 (dk_at dksX3_fewestStates_1 23 rfl rfl)
theorem dX3_fewestStates_47 : decode cX3_fewestStates 47 = .ok (.ireturn, 1) := dk_172 (dk_at dksX3_fewestStates_2 0 rfl rfl)
theorem dX3_fewestStates_48 : decode cX3_fewestStates 48 = .ok (.iinc 1 1, 3) := dk_132 1 1 (dk_at dksX3_fewestStates_2 1 rfl rfl)
theorem dX3_fewestStates_51 : decode cX3_fewestStates 51 = .ok (.goto (-49), 3) := dk_167 255 207 (dk_at dksX3_fewestStates_2 4 rfl rfl)
theorem dX3_fewestStates_54 : decode cX3_fewestStates 54 = .ok (.bipush (-2), 2) := dk_16 254 (dk_at dksX3_fewestStates_2 7 rfl rfl)
theorem dX3_fewestStates_56 : decode cX3_fewestStates 56 = .ok (.ireturn, 1) := dk_172 (dk_at dksX3_fewestStates_2 9 rfl rfl)
abbrev cX3_tellsAll : ByteArray := prog_18_method_103_code
def yX3_tellsAll : MethodName := ⟨RX3, "tellsAll", "(IIII)Z"⟩
def dkwX3_tellsAll_8 : List UInt8 := [21, 5, 2, 79, 3, 172]
abbrev dktX3_tellsAll_8 : List UInt8 := dkwX3_tellsAll_8 ++ []
def dkwX3_tellsAll_7 : List UInt8 := [153, 0, 5, 4, 172, 132, 7, 1, 167, 255, 222, 42, 180, 0, 63, 21, 5, 5, 79, 42, 180, 0, 66]
abbrev dktX3_tellsAll_7 : List UInt8 := dkwX3_tellsAll_7 ++ dktX3_tellsAll_8
def dkwX3_tellsAll_6 : List UInt8 := [162, 0, 34, 42, 180, 0, 66, 21, 5, 21, 7, 79, 42, 27, 28, 29, 4, 96, 21, 7, 182, 1, 132]
abbrev dktX3_tellsAll_6 : List UInt8 := dkwX3_tellsAll_6 ++ dktX3_tellsAll_7
def dkwX3_tellsAll_5 : List UInt8 := [153, 0, 7, 4, 167, 0, 4, 3, 172, 42, 180, 0, 63, 21, 5, 21, 6, 79, 3, 54, 7, 21, 7, 27]
abbrev dktX3_tellsAll_5 : List UInt8 := dkwX3_tellsAll_5 ++ dktX3_tellsAll_6
def dkwX3_tellsAll_4 : List UInt8 := [46, 21, 6, 160, 0, 26, 42, 27, 28, 29, 4, 96, 42, 180, 0, 66, 21, 5, 46, 182, 1, 132]
abbrev dktX3_tellsAll_4 : List UInt8 := dkwX3_tellsAll_4 ++ dktX3_tellsAll_5
def dkwX3_tellsAll_3 : List UInt8 := [104, 96, 29, 96, 46, 54, 6, 42, 180, 0, 63, 21, 5, 46, 5, 159, 0, 40, 42, 180, 0, 63, 21, 5]
abbrev dktX3_tellsAll_3 : List UInt8 := dkwX3_tellsAll_3 ++ dktX3_tellsAll_4
def dkwX3_tellsAll_2 : List UInt8 := [17, 0, 163, 16, 6, 28, 104, 96, 29, 96, 46, 96, 54, 5, 42, 180, 0, 20, 17, 0, 187, 16, 6, 28]
abbrev dktX3_tellsAll_2 : List UInt8 := dkwX3_tellsAll_2 ++ dktX3_tellsAll_3
def dkwX3_tellsAll_1 : List UInt8 := [46, 160, 0, 14, 42, 27, 28, 4, 96, 3, 3, 182, 1, 132, 172, 16, 6, 21, 4, 104, 42, 180, 0, 20]
abbrev dktX3_tellsAll_1 : List UInt8 := dkwX3_tellsAll_1 ++ dktX3_tellsAll_2
def dkwX3_tellsAll_0 : List UInt8 := [28, 42, 180, 0, 20, 17, 0, 158, 46, 160, 0, 5, 4, 172, 29, 42, 180, 0, 20, 17, 0, 159, 28, 96]
abbrev dktX3_tellsAll_0 : List UInt8 := dkwX3_tellsAll_0 ++ dktX3_tellsAll_1
theorem dksX3_tellsAll_0 : cX3_tellsAll.data.toList.drop 0 = dktX3_tellsAll_0 := by decide +kernel
theorem dksX3_tellsAll_1 : cX3_tellsAll.data.toList.drop 24 = dktX3_tellsAll_1 := dk_seg dksX3_tellsAll_0 24 rfl rfl
theorem dksX3_tellsAll_2 : cX3_tellsAll.data.toList.drop 48 = dktX3_tellsAll_2 := dk_seg dksX3_tellsAll_1 24 rfl rfl
theorem dksX3_tellsAll_3 : cX3_tellsAll.data.toList.drop 72 = dktX3_tellsAll_3 := dk_seg dksX3_tellsAll_2 24 rfl rfl
theorem dksX3_tellsAll_4 : cX3_tellsAll.data.toList.drop 96 = dktX3_tellsAll_4 := dk_seg dksX3_tellsAll_3 24 rfl rfl
theorem dksX3_tellsAll_5 : cX3_tellsAll.data.toList.drop 118 = dktX3_tellsAll_5 := dk_seg dksX3_tellsAll_4 22 rfl rfl
theorem dksX3_tellsAll_6 : cX3_tellsAll.data.toList.drop 142 = dktX3_tellsAll_6 := dk_seg dksX3_tellsAll_5 24 rfl rfl
theorem dksX3_tellsAll_7 : cX3_tellsAll.data.toList.drop 165 = dktX3_tellsAll_7 := dk_seg dksX3_tellsAll_6 23 rfl rfl
theorem dksX3_tellsAll_8 : cX3_tellsAll.data.toList.drop 188 = dktX3_tellsAll_8 := dk_seg dksX3_tellsAll_7 23 rfl rfl
theorem dX3_tellsAll_0 : decode cX3_tellsAll 0 = .ok (.iload_n 2, 1) := dk_28 (dk_at dksX3_tellsAll_0 0 rfl rfl)
theorem dX3_tellsAll_1 : decode cX3_tellsAll 1 = .ok (.aload_n 0, 1) := dk_42 (dk_at dksX3_tellsAll_0 1 rfl rfl)
theorem dX3_tellsAll_2 : decode cX3_tellsAll 2 = .ok (.getfield 20, 3) := dk_180 0 20 (dk_at dksX3_tellsAll_0 2 rfl rfl)
theorem dX3_tellsAll_5 : decode cX3_tellsAll 5 = .ok (.sipush 158, 3) := dk_17 0 158 (dk_at dksX3_tellsAll_0 5 rfl rfl)
theorem dX3_tellsAll_8 : decode cX3_tellsAll 8 = .ok (.iaload, 1) := dk_46 (dk_at dksX3_tellsAll_0 8 rfl rfl)
theorem dX3_tellsAll_9 : decode cX3_tellsAll 9 = .ok (.if_icmp .ne 5, 3) := dk_160 0 5 (dk_at dksX3_tellsAll_0 9 rfl rfl)
theorem dX3_tellsAll_12 : decode cX3_tellsAll 12 = .ok (.iconst 1, 1) := dk_4 (dk_at dksX3_tellsAll_0 12 rfl rfl)
theorem dX3_tellsAll_13 : decode cX3_tellsAll 13 = .ok (.ireturn, 1) := dk_172 (dk_at dksX3_tellsAll_0 13 rfl rfl)
theorem dX3_tellsAll_14 : decode cX3_tellsAll 14 = .ok (.iload_n 3, 1) := dk_29 (dk_at dksX3_tellsAll_0 14 rfl rfl)
theorem dX3_tellsAll_15 : decode cX3_tellsAll 15 = .ok (.aload_n 0, 1) := dk_42 (dk_at dksX3_tellsAll_0 15 rfl rfl)
theorem dX3_tellsAll_16 : decode cX3_tellsAll 16 = .ok (.getfield 20, 3) := dk_180 0 20 (dk_at dksX3_tellsAll_0 16 rfl rfl)
theorem dX3_tellsAll_19 : decode cX3_tellsAll 19 = .ok (.sipush 159, 3) := dk_17 0 159 (dk_at dksX3_tellsAll_0 19 rfl rfl)
theorem dX3_tellsAll_22 : decode cX3_tellsAll 22 = .ok (.iload_n 2, 1) := dk_28 (dk_at dksX3_tellsAll_0 22 rfl rfl)
theorem dX3_tellsAll_23 : decode cX3_tellsAll 23 = .ok (.iadd, 1) := dk_96 (dk_at dksX3_tellsAll_0 23 rfl rfl)
theorem dX3_tellsAll_24 : decode cX3_tellsAll 24 = .ok (.iaload, 1) := dk_46 (dk_at dksX3_tellsAll_1 0 rfl rfl)
theorem dX3_tellsAll_25 : decode cX3_tellsAll 25 = .ok (.if_icmp .ne 14, 3) := dk_160 0 14 (dk_at dksX3_tellsAll_1 1 rfl rfl)
theorem dX3_tellsAll_28 : decode cX3_tellsAll 28 = .ok (.aload_n 0, 1) := dk_42 (dk_at dksX3_tellsAll_1 4 rfl rfl)
theorem dX3_tellsAll_29 : decode cX3_tellsAll 29 = .ok (.iload_n 1, 1) := dk_27 (dk_at dksX3_tellsAll_1 5 rfl rfl)
theorem dX3_tellsAll_30 : decode cX3_tellsAll 30 = .ok (.iload_n 2, 1) := dk_28 (dk_at dksX3_tellsAll_1 6 rfl rfl)
theorem dX3_tellsAll_31 : decode cX3_tellsAll 31 = .ok (.iconst 1, 1) := dk_4 (dk_at dksX3_tellsAll_1 7 rfl rfl)
theorem dX3_tellsAll_32 : decode cX3_tellsAll 32 = .ok (.iadd, 1) := dk_96 (dk_at dksX3_tellsAll_1 8 rfl rfl)
theorem dX3_tellsAll_33 : decode cX3_tellsAll 33 = .ok (.iconst 0, 1) := dk_3 (dk_at dksX3_tellsAll_1 9 rfl rfl)
theorem dX3_tellsAll_34 : decode cX3_tellsAll 34 = .ok (.iconst 0, 1) := dk_3 (dk_at dksX3_tellsAll_1 10 rfl rfl)
theorem dX3_tellsAll_35 : decode cX3_tellsAll 35 = .ok (.invokevirtual 388, 3) := dk_182 1 132 (dk_at dksX3_tellsAll_1 11 rfl rfl)
theorem dX3_tellsAll_38 : decode cX3_tellsAll 38 = .ok (.ireturn, 1) := dk_172 (dk_at dksX3_tellsAll_1 14 rfl rfl)
theorem dX3_tellsAll_39 : decode cX3_tellsAll 39 = .ok (.bipush 6, 2) := dk_16 6 (dk_at dksX3_tellsAll_1 15 rfl rfl)
theorem dX3_tellsAll_41 : decode cX3_tellsAll 41 = .ok (.iload 4, 2) := dk_21 4 (dk_at dksX3_tellsAll_1 17 rfl rfl)
theorem dX3_tellsAll_43 : decode cX3_tellsAll 43 = .ok (.imul, 1) := dk_104 (dk_at dksX3_tellsAll_1 19 rfl rfl)
theorem dX3_tellsAll_44 : decode cX3_tellsAll 44 = .ok (.aload_n 0, 1) := dk_42 (dk_at dksX3_tellsAll_1 20 rfl rfl)
theorem dX3_tellsAll_45 : decode cX3_tellsAll 45 = .ok (.getfield 20, 3) := dk_180 0 20 (dk_at dksX3_tellsAll_1 21 rfl rfl)
theorem dX3_tellsAll_48 : decode cX3_tellsAll 48 = .ok (.sipush 163, 3) := dk_17 0 163 (dk_at dksX3_tellsAll_2 0 rfl rfl)
theorem dX3_tellsAll_51 : decode cX3_tellsAll 51 = .ok (.bipush 6, 2) := dk_16 6 (dk_at dksX3_tellsAll_2 3 rfl rfl)
theorem dX3_tellsAll_53 : decode cX3_tellsAll 53 = .ok (.iload_n 2, 1) := dk_28 (dk_at dksX3_tellsAll_2 5 rfl rfl)
theorem dX3_tellsAll_54 : decode cX3_tellsAll 54 = .ok (.imul, 1) := dk_104 (dk_at dksX3_tellsAll_2 6 rfl rfl)
theorem dX3_tellsAll_55 : decode cX3_tellsAll 55 = .ok (.iadd, 1) := dk_96 (dk_at dksX3_tellsAll_2 7 rfl rfl)
theorem dX3_tellsAll_56 : decode cX3_tellsAll 56 = .ok (.iload_n 3, 1) := dk_29 (dk_at dksX3_tellsAll_2 8 rfl rfl)
theorem dX3_tellsAll_57 : decode cX3_tellsAll 57 = .ok (.iadd, 1) := dk_96 (dk_at dksX3_tellsAll_2 9 rfl rfl)
theorem dX3_tellsAll_58 : decode cX3_tellsAll 58 = .ok (.iaload, 1) := dk_46 (dk_at dksX3_tellsAll_2 10 rfl rfl)
theorem dX3_tellsAll_59 : decode cX3_tellsAll 59 = .ok (.iadd, 1) := dk_96 (dk_at dksX3_tellsAll_2 11 rfl rfl)
theorem dX3_tellsAll_60 : decode cX3_tellsAll 60 = .ok (.istore 5, 2) := dk_54 5 (dk_at dksX3_tellsAll_2 12 rfl rfl)
theorem dX3_tellsAll_62 : decode cX3_tellsAll 62 = .ok (.aload_n 0, 1) := dk_42 (dk_at dksX3_tellsAll_2 14 rfl rfl)
theorem dX3_tellsAll_63 : decode cX3_tellsAll 63 = .ok (.getfield 20, 3) := dk_180 0 20 (dk_at dksX3_tellsAll_2 15 rfl rfl)
theorem dX3_tellsAll_66 : decode cX3_tellsAll 66 = .ok (.sipush 187, 3) := dk_17 0 187 (dk_at dksX3_tellsAll_2 18 rfl rfl)
theorem dX3_tellsAll_69 : decode cX3_tellsAll 69 = .ok (.bipush 6, 2) := dk_16 6 (dk_at dksX3_tellsAll_2 21 rfl rfl)
theorem dX3_tellsAll_71 : decode cX3_tellsAll 71 = .ok (.iload_n 2, 1) := dk_28 (dk_at dksX3_tellsAll_2 23 rfl rfl)
theorem dX3_tellsAll_72 : decode cX3_tellsAll 72 = .ok (.imul, 1) := dk_104 (dk_at dksX3_tellsAll_3 0 rfl rfl)
theorem dX3_tellsAll_73 : decode cX3_tellsAll 73 = .ok (.iadd, 1) := dk_96 (dk_at dksX3_tellsAll_3 1 rfl rfl)
theorem dX3_tellsAll_74 : decode cX3_tellsAll 74 = .ok (.iload_n 3, 1) := dk_29 (dk_at dksX3_tellsAll_3 2 rfl rfl)
theorem dX3_tellsAll_75 : decode cX3_tellsAll 75 = .ok (.iadd, 1) := dk_96 (dk_at dksX3_tellsAll_3 3 rfl rfl)
theorem dX3_tellsAll_76 : decode cX3_tellsAll 76 = .ok (.iaload, 1) := dk_46 (dk_at dksX3_tellsAll_3 4 rfl rfl)
theorem dX3_tellsAll_77 : decode cX3_tellsAll 77 = .ok (.istore 6, 2) := dk_54 6 (dk_at dksX3_tellsAll_3 5 rfl rfl)
theorem dX3_tellsAll_79 : decode cX3_tellsAll 79 = .ok (.aload_n 0, 1) := dk_42 (dk_at dksX3_tellsAll_3 7 rfl rfl)
theorem dX3_tellsAll_80 : decode cX3_tellsAll 80 = .ok (.getfield 63, 3) := dk_180 0 63 (dk_at dksX3_tellsAll_3 8 rfl rfl)
theorem dX3_tellsAll_83 : decode cX3_tellsAll 83 = .ok (.iload 5, 2) := dk_21 5 (dk_at dksX3_tellsAll_3 11 rfl rfl)
theorem dX3_tellsAll_85 : decode cX3_tellsAll 85 = .ok (.iaload, 1) := dk_46 (dk_at dksX3_tellsAll_3 13 rfl rfl)
theorem dX3_tellsAll_86 : decode cX3_tellsAll 86 = .ok (.iconst 2, 1) := dk_5 (dk_at dksX3_tellsAll_3 14 rfl rfl)
theorem dX3_tellsAll_87 : decode cX3_tellsAll 87 = .ok (.if_icmp .eq 40, 3) := dk_159 0 40 (dk_at dksX3_tellsAll_3 15 rfl rfl)
theorem dX3_tellsAll_90 : decode cX3_tellsAll 90 = .ok (.aload_n 0, 1) := dk_42 (dk_at dksX3_tellsAll_3 18 rfl rfl)
theorem dX3_tellsAll_91 : decode cX3_tellsAll 91 = .ok (.getfield 63, 3) := dk_180 0 63 (dk_at dksX3_tellsAll_3 19 rfl rfl)
theorem dX3_tellsAll_94 : decode cX3_tellsAll 94 = .ok (.iload 5, 2) := dk_21 5 (dk_at dksX3_tellsAll_3 22 rfl rfl)
theorem dX3_tellsAll_96 : decode cX3_tellsAll 96 = .ok (.iaload, 1) := dk_46 (dk_at dksX3_tellsAll_4 0 rfl rfl)
theorem dX3_tellsAll_97 : decode cX3_tellsAll 97 = .ok (.iload 6, 2) := dk_21 6 (dk_at dksX3_tellsAll_4 1 rfl rfl)
theorem dX3_tellsAll_99 : decode cX3_tellsAll 99 = .ok (.if_icmp .ne 26, 3) := dk_160 0 26 (dk_at dksX3_tellsAll_4 3 rfl rfl)
theorem dX3_tellsAll_102 : decode cX3_tellsAll 102 = .ok (.aload_n 0, 1) := dk_42 (dk_at dksX3_tellsAll_4 6 rfl rfl)
theorem dX3_tellsAll_103 : decode cX3_tellsAll 103 = .ok (.iload_n 1, 1) := dk_27 (dk_at dksX3_tellsAll_4 7 rfl rfl)
theorem dX3_tellsAll_104 : decode cX3_tellsAll 104 = .ok (.iload_n 2, 1) := dk_28 (dk_at dksX3_tellsAll_4 8 rfl rfl)
theorem dX3_tellsAll_105 : decode cX3_tellsAll 105 = .ok (.iload_n 3, 1) := dk_29 (dk_at dksX3_tellsAll_4 9 rfl rfl)
theorem dX3_tellsAll_106 : decode cX3_tellsAll 106 = .ok (.iconst 1, 1) := dk_4 (dk_at dksX3_tellsAll_4 10 rfl rfl)
theorem dX3_tellsAll_107 : decode cX3_tellsAll 107 = .ok (.iadd, 1) := dk_96 (dk_at dksX3_tellsAll_4 11 rfl rfl)
theorem dX3_tellsAll_108 : decode cX3_tellsAll 108 = .ok (.aload_n 0, 1) := dk_42 (dk_at dksX3_tellsAll_4 12 rfl rfl)
theorem dX3_tellsAll_109 : decode cX3_tellsAll 109 = .ok (.getfield 66, 3) := dk_180 0 66 (dk_at dksX3_tellsAll_4 13 rfl rfl)
theorem dX3_tellsAll_112 : decode cX3_tellsAll 112 = .ok (.iload 5, 2) := dk_21 5 (dk_at dksX3_tellsAll_4 16 rfl rfl)
theorem dX3_tellsAll_114 : decode cX3_tellsAll 114 = .ok (.iaload, 1) := dk_46 (dk_at dksX3_tellsAll_4 18 rfl rfl)
theorem dX3_tellsAll_115 : decode cX3_tellsAll 115 = .ok (.invokevirtual 388, 3) := dk_182 1 132 (dk_at dksX3_tellsAll_4 19 rfl rfl)
theorem dX3_tellsAll_118 : decode cX3_tellsAll 118 = .ok (.ifCond .eq 7, 3) := dk_153 0 7 (dk_at dksX3_tellsAll_5 0 rfl rfl)
theorem dX3_tellsAll_121 : decode cX3_tellsAll 121 = .ok (.iconst 1, 1) := dk_4 (dk_at dksX3_tellsAll_5 3 rfl rfl)
theorem dX3_tellsAll_122 : decode cX3_tellsAll 122 = .ok (.goto 4, 3) := dk_167 0 4 (dk_at dksX3_tellsAll_5 4 rfl rfl)
theorem dX3_tellsAll_125 : decode cX3_tellsAll 125 = .ok (.iconst 0, 1) := dk_3 (dk_at dksX3_tellsAll_5 7 rfl rfl)
theorem dX3_tellsAll_126 : decode cX3_tellsAll 126 = .ok (.ireturn, 1) := dk_172 (dk_at dksX3_tellsAll_5 8 rfl rfl)
theorem dX3_tellsAll_127 : decode cX3_tellsAll 127 = .ok (.aload_n 0, 1) := dk_42 (dk_at dksX3_tellsAll_5 9 rfl rfl)
theorem dX3_tellsAll_128 : decode cX3_tellsAll 128 = .ok (.getfield 63, 3) := dk_180 0 63 (dk_at dksX3_tellsAll_5 10 rfl rfl)
theorem dX3_tellsAll_131 : decode cX3_tellsAll 131 = .ok (.iload 5, 2) := dk_21 5 (dk_at dksX3_tellsAll_5 13 rfl rfl)
theorem dX3_tellsAll_133 : decode cX3_tellsAll 133 = .ok (.iload 6, 2) := dk_21 6 (dk_at dksX3_tellsAll_5 15 rfl rfl)
theorem dX3_tellsAll_135 : decode cX3_tellsAll 135 = .ok (.iastore, 1) := dk_79 (dk_at dksX3_tellsAll_5 17 rfl rfl)
theorem dX3_tellsAll_136 : decode cX3_tellsAll 136 = .ok (.iconst 0, 1) := dk_3 (dk_at dksX3_tellsAll_5 18 rfl rfl)
theorem dX3_tellsAll_137 : decode cX3_tellsAll 137 = .ok (.istore 7, 2) := dk_54 7 (dk_at dksX3_tellsAll_5 19 rfl rfl)
theorem dX3_tellsAll_139 : decode cX3_tellsAll 139 = .ok (.iload 7, 2) := dk_21 7 (dk_at dksX3_tellsAll_5 21 rfl rfl)
theorem dX3_tellsAll_141 : decode cX3_tellsAll 141 = .ok (.iload_n 1, 1) := dk_27 (dk_at dksX3_tellsAll_5 23 rfl rfl)
theorem dX3_tellsAll_142 : decode cX3_tellsAll 142 = .ok (.if_icmp .ge 34, 3) := dk_162 0 34 (dk_at dksX3_tellsAll_6 0 rfl rfl)
theorem dX3_tellsAll_145 : decode cX3_tellsAll 145 = .ok (.aload_n 0, 1) := dk_42 (dk_at dksX3_tellsAll_6 3 rfl rfl)
theorem dX3_tellsAll_146 : decode cX3_tellsAll 146 = .ok (.getfield 66, 3) := dk_180 0 66 (dk_at dksX3_tellsAll_6 4 rfl rfl)
theorem dX3_tellsAll_149 : decode cX3_tellsAll 149 = .ok (.iload 5, 2) := dk_21 5 (dk_at dksX3_tellsAll_6 7 rfl rfl)
theorem dX3_tellsAll_151 : decode cX3_tellsAll 151 = .ok (.iload 7, 2) := dk_21 7 (dk_at dksX3_tellsAll_6 9 rfl rfl)
theorem dX3_tellsAll_153 : decode cX3_tellsAll 153 = .ok (.iastore, 1) := dk_79 (dk_at dksX3_tellsAll_6 11 rfl rfl)
theorem dX3_tellsAll_154 : decode cX3_tellsAll 154 = .ok (.aload_n 0, 1) := dk_42 (dk_at dksX3_tellsAll_6 12 rfl rfl)
theorem dX3_tellsAll_155 : decode cX3_tellsAll 155 = .ok (.iload_n 1, 1) := dk_27 (dk_at dksX3_tellsAll_6 13 rfl rfl)
theorem dX3_tellsAll_156 : decode cX3_tellsAll 156 = .ok (.iload_n 2, 1) := dk_28 (dk_at dksX3_tellsAll_6 14 rfl rfl)
theorem dX3_tellsAll_157 : decode cX3_tellsAll 157 = .ok (.iload_n 3, 1) := dk_29 (dk_at dksX3_tellsAll_6 15 rfl rfl)
theorem dX3_tellsAll_158 : decode cX3_tellsAll 158 = .ok (.iconst 1, 1) := dk_4 (dk_at dksX3_tellsAll_6 16 rfl rfl)
theorem dX3_tellsAll_159 : decode cX3_tellsAll 159 = .ok (.iadd, 1) := dk_96 (dk_at dksX3_tellsAll_6 17 rfl rfl)
theorem dX3_tellsAll_160 : decode cX3_tellsAll 160 = .ok (.iload 7, 2) := dk_21 7 (dk_at dksX3_tellsAll_6 18 rfl rfl)
theorem dX3_tellsAll_162 : decode cX3_tellsAll 162 = .ok (.invokevirtual 388, 3) := dk_182 1 132 (dk_at dksX3_tellsAll_6 20 rfl rfl)
theorem dX3_tellsAll_165 : decode cX3_tellsAll 165 = .ok (.ifCond .eq 5, 3) := dk_153 0 5 (dk_at dksX3_tellsAll_7 0 rfl rfl)
theorem dX3_tellsAll_168 : decode cX3_tellsAll 168 = .ok (.iconst 1, 1) := dk_4 (dk_at dksX3_tellsAll_7 3 rfl rfl)
theorem dX3_tellsAll_169 : decode cX3_tellsAll 169 = .ok (.ireturn, 1) := dk_172 (dk_at dksX3_tellsAll_7 4 rfl rfl)
theorem dX3_tellsAll_170 : decode cX3_tellsAll 170 = .ok (.iinc 7 1, 3) := dk_132 7 1 (dk_at dksX3_tellsAll_7 5 rfl rfl)
theorem dX3_tellsAll_173 : decode cX3_tellsAll 173 = .ok (.goto (-34), 3) := dk_167 255 222 (dk_at dksX3_tellsAll_7 8 rfl rfl)
theorem dX3_tellsAll_176 : decode cX3_tellsAll 176 = .ok (.aload_n 0, 1) := dk_42 (dk_at dksX3_tellsAll_7 11 rfl rfl)
theorem dX3_tellsAll_177 : decode cX3_tellsAll 177 = .ok (.getfield 63, 3) := dk_180 0 63 (dk_at dksX3_tellsAll_7 12 rfl rfl)
theorem dX3_tellsAll_180 : decode cX3_tellsAll 180 = .ok (.iload 5, 2) := dk_21 5 (dk_at dksX3_tellsAll_7 15 rfl rfl)
theorem dX3_tellsAll_182 : decode cX3_tellsAll 182 = .ok (.iconst 2, 1) := dk_5 (dk_at dksX3_tellsAll_7 17 rfl rfl)
theorem dX3_tellsAll_183 : decode cX3_tellsAll 183 = .ok (.iastore, 1) := dk_79 (dk_at dksX3_tellsAll_7 18 rfl rfl)
theorem dX3_tellsAll_184 : decode cX3_tellsAll 184 = .ok (.aload_n 0, 1) := dk_42 (dk_at dksX3_tellsAll_7 19 rfl rfl)
theorem dX3_tellsAll_185 : decode cX3_tellsAll 185 = .ok (.getfield 66, 3) := dk_180 0 66 (dk_at dksX3_tellsAll_7 20 rfl rfl)
theorem dX3_tellsAll_188 : decode cX3_tellsAll 188 = .ok (.iload 5, 2) := dk_21 5 (dk_at dksX3_tellsAll_8 0 rfl rfl)
theorem dX3_tellsAll_190 : decode cX3_tellsAll 190 = .ok (.iconst (-1), 1) := dk_2 (dk_at dksX3_tellsAll_8 2 rfl rfl)
theorem dX3_tellsAll_191 : decode cX3_tellsAll 191 = .ok (.iastore, 1) := dk_79 (dk_at dksX3_tellsAll_8 3 rfl rfl)
theorem dX3_tellsAll_192 : decode cX3_tellsAll 192 = .ok (.iconst 0, 1) := dk_3 (dk_at dksX3_tellsAll_8 4 rfl rfl)
theorem dX3_tellsAll_193 : decode cX3_tellsAll 193 = .ok (.ireturn, 1) := dk_172 (dk_at dksX3_tellsAll_8 5 rfl rfl)
abbrev cX3_machine : ByteArray := prog_18_method_106_code
def yX3_machine : MethodName := ⟨RX3, "machine", "(IIZ)I"⟩
def dkwX3_machine_3 : List UInt8 := [42, 180, 0, 66, 21, 4, 46, 167, 0, 10, 42, 180, 0, 63, 21, 4, 46, 172]
abbrev dktX3_machine_3 : List UInt8 := dkwX3_machine_3 ++ []
def dkwX3_machine_2 : List UInt8 := [28, 96, 54, 4, 42, 180, 0, 63, 21, 4, 46, 5, 160, 0, 8, 16, 254, 167, 0, 24, 29, 153, 0, 13]
abbrev dktX3_machine_2 : List UInt8 := dkwX3_machine_2 ++ dktX3_machine_3
def dkwX3_machine_1 : List UInt8 := [182, 0, 177, 172, 42, 182, 1, 136, 16, 254, 160, 0, 10, 42, 16, 6, 182, 0, 177, 172, 16, 6, 27, 104]
abbrev dktX3_machine_1 : List UInt8 := dkwX3_machine_1 ++ dktX3_machine_2
def dkwX3_machine_0 : List UInt8 := [42, 182, 0, 174, 42, 28, 182, 1, 40, 153, 0, 12, 27, 3, 5, 184, 0, 170, 154, 0, 9, 42, 4]
abbrev dktX3_machine_0 : List UInt8 := dkwX3_machine_0 ++ dktX3_machine_1
theorem dksX3_machine_0 : cX3_machine.data.toList.drop 0 = dktX3_machine_0 := by decide +kernel
theorem dksX3_machine_1 : cX3_machine.data.toList.drop 23 = dktX3_machine_1 := dk_seg dksX3_machine_0 23 rfl rfl
theorem dksX3_machine_2 : cX3_machine.data.toList.drop 47 = dktX3_machine_2 := dk_seg dksX3_machine_1 24 rfl rfl
theorem dksX3_machine_3 : cX3_machine.data.toList.drop 71 = dktX3_machine_3 := dk_seg dksX3_machine_2 24 rfl rfl
theorem dX3_machine_0 : decode cX3_machine 0 = .ok (.aload_n 0, 1) := dk_42 (dk_at dksX3_machine_0 0 rfl rfl)
theorem dX3_machine_1 : decode cX3_machine 1 = .ok (.invokevirtual 174, 3) := dk_182 0 174 (dk_at dksX3_machine_0 1 rfl rfl)
theorem dX3_machine_4 : decode cX3_machine 4 = .ok (.aload_n 0, 1) := dk_42 (dk_at dksX3_machine_0 4 rfl rfl)
theorem dX3_machine_5 : decode cX3_machine 5 = .ok (.iload_n 2, 1) := dk_28 (dk_at dksX3_machine_0 5 rfl rfl)
theorem dX3_machine_6 : decode cX3_machine 6 = .ok (.invokevirtual 296, 3) := dk_182 1 40 (dk_at dksX3_machine_0 6 rfl rfl)
theorem dX3_machine_9 : decode cX3_machine 9 = .ok (.ifCond .eq 12, 3) := dk_153 0 12 (dk_at dksX3_machine_0 9 rfl rfl)
theorem dX3_machine_12 : decode cX3_machine 12 = .ok (.iload_n 1, 1) := dk_27 (dk_at dksX3_machine_0 12 rfl rfl)
theorem dX3_machine_13 : decode cX3_machine 13 = .ok (.iconst 0, 1) := dk_3 (dk_at dksX3_machine_0 13 rfl rfl)
theorem dX3_machine_14 : decode cX3_machine 14 = .ok (.iconst 2, 1) := dk_5 (dk_at dksX3_machine_0 14 rfl rfl)
theorem dX3_machine_15 : decode cX3_machine 15 = .ok (.invokestatic 170, 3) := dk_184 0 170 (dk_at dksX3_machine_0 15 rfl rfl)
theorem dX3_machine_18 : decode cX3_machine 18 = .ok (.ifCond .ne 9, 3) := dk_154 0 9 (dk_at dksX3_machine_0 18 rfl rfl)
theorem dX3_machine_21 : decode cX3_machine 21 = .ok (.aload_n 0, 1) := dk_42 (dk_at dksX3_machine_0 21 rfl rfl)
theorem dX3_machine_22 : decode cX3_machine 22 = .ok (.iconst 1, 1) := dk_4 (dk_at dksX3_machine_0 22 rfl rfl)
theorem dX3_machine_23 : decode cX3_machine 23 = .ok (.invokevirtual 177, 3) := dk_182 0 177 (dk_at dksX3_machine_1 0 rfl rfl)
theorem dX3_machine_26 : decode cX3_machine 26 = .ok (.ireturn, 1) := dk_172 (dk_at dksX3_machine_1 3 rfl rfl)
theorem dX3_machine_27 : decode cX3_machine 27 = .ok (.aload_n 0, 1) := dk_42 (dk_at dksX3_machine_1 4 rfl rfl)
theorem dX3_machine_28 : decode cX3_machine 28 = .ok (.invokevirtual 392, 3) := dk_182 1 136 (dk_at dksX3_machine_1 5 rfl rfl)
theorem dX3_machine_31 : decode cX3_machine 31 = .ok (.bipush (-2), 2) := dk_16 254 (dk_at dksX3_machine_1 8 rfl rfl)
theorem dX3_machine_33 : decode cX3_machine 33 = .ok (.if_icmp .ne 10, 3) := dk_160 0 10 (dk_at dksX3_machine_1 10 rfl rfl)
theorem dX3_machine_36 : decode cX3_machine 36 = .ok (.aload_n 0, 1) := dk_42 (dk_at dksX3_machine_1 13 rfl rfl)
theorem dX3_machine_37 : decode cX3_machine 37 = .ok (.bipush 6, 2) := dk_16 6 (dk_at dksX3_machine_1 14 rfl rfl)
theorem dX3_machine_39 : decode cX3_machine 39 = .ok (.invokevirtual 177, 3) := dk_182 0 177 (dk_at dksX3_machine_1 16 rfl rfl)
theorem dX3_machine_42 : decode cX3_machine 42 = .ok (.ireturn, 1) := dk_172 (dk_at dksX3_machine_1 19 rfl rfl)
theorem dX3_machine_43 : decode cX3_machine 43 = .ok (.bipush 6, 2) := dk_16 6 (dk_at dksX3_machine_1 20 rfl rfl)
theorem dX3_machine_45 : decode cX3_machine 45 = .ok (.iload_n 1, 1) := dk_27 (dk_at dksX3_machine_1 22 rfl rfl)
theorem dX3_machine_46 : decode cX3_machine 46 = .ok (.imul, 1) := dk_104 (dk_at dksX3_machine_1 23 rfl rfl)
theorem dX3_machine_47 : decode cX3_machine 47 = .ok (.iload_n 2, 1) := dk_28 (dk_at dksX3_machine_2 0 rfl rfl)
theorem dX3_machine_48 : decode cX3_machine 48 = .ok (.iadd, 1) := dk_96 (dk_at dksX3_machine_2 1 rfl rfl)
theorem dX3_machine_49 : decode cX3_machine 49 = .ok (.istore 4, 2) := dk_54 4 (dk_at dksX3_machine_2 2 rfl rfl)
theorem dX3_machine_51 : decode cX3_machine 51 = .ok (.aload_n 0, 1) := dk_42 (dk_at dksX3_machine_2 4 rfl rfl)
theorem dX3_machine_52 : decode cX3_machine 52 = .ok (.getfield 63, 3) := dk_180 0 63 (dk_at dksX3_machine_2 5 rfl rfl)
theorem dX3_machine_55 : decode cX3_machine 55 = .ok (.iload 4, 2) := dk_21 4 (dk_at dksX3_machine_2 8 rfl rfl)
theorem dX3_machine_57 : decode cX3_machine 57 = .ok (.iaload, 1) := dk_46 (dk_at dksX3_machine_2 10 rfl rfl)
theorem dX3_machine_58 : decode cX3_machine 58 = .ok (.iconst 2, 1) := dk_5 (dk_at dksX3_machine_2 11 rfl rfl)
theorem dX3_machine_59 : decode cX3_machine 59 = .ok (.if_icmp .ne 8, 3) := dk_160 0 8 (dk_at dksX3_machine_2 12 rfl rfl)
theorem dX3_machine_62 : decode cX3_machine 62 = .ok (.bipush (-2), 2) := dk_16 254 (dk_at dksX3_machine_2 15 rfl rfl)
theorem dX3_machine_64 : decode cX3_machine 64 = .ok (.goto 24, 3) := dk_167 0 24 (dk_at dksX3_machine_2 17 rfl rfl)
theorem dX3_machine_67 : decode cX3_machine 67 = .ok (.iload_n 3, 1) := dk_29 (dk_at dksX3_machine_2 20 rfl rfl)
theorem dX3_machine_68 : decode cX3_machine 68 = .ok (.ifCond .eq 13, 3) := dk_153 0 13 (dk_at dksX3_machine_2 21 rfl rfl)
theorem dX3_machine_71 : decode cX3_machine 71 = .ok (.aload_n 0, 1) := dk_42 (dk_at dksX3_machine_3 0 rfl rfl)
theorem dX3_machine_72 : decode cX3_machine 72 = .ok (.getfield 66, 3) := dk_180 0 66 (dk_at dksX3_machine_3 1 rfl rfl)
theorem dX3_machine_75 : decode cX3_machine 75 = .ok (.iload 4, 2) := dk_21 4 (dk_at dksX3_machine_3 4 rfl rfl)
theorem dX3_machine_77 : decode cX3_machine 77 = .ok (.iaload, 1) := dk_46 (dk_at dksX3_machine_3 6 rfl rfl)
theorem dX3_machine_78 : decode cX3_machine 78 = .ok (.goto 10, 3) := dk_167 0 10 (dk_at dksX3_machine_3 7 rfl rfl)
theorem dX3_machine_81 : decode cX3_machine 81 = .ok (.aload_n 0, 1) := dk_42 (dk_at dksX3_machine_3 10 rfl rfl)
theorem dX3_machine_82 : decode cX3_machine 82 = .ok (.getfield 63, 3) := dk_180 0 63 (dk_at dksX3_machine_3 11 rfl rfl)
theorem dX3_machine_85 : decode cX3_machine 85 = .ok (.iload 4, 2) := dk_21 4 (dk_at dksX3_machine_3 14 rfl rfl)
theorem dX3_machine_87 : decode cX3_machine 87 = .ok (.iaload, 1) := dk_46 (dk_at dksX3_machine_3 16 rfl rfl)
theorem dX3_machine_88 : decode cX3_machine 88 = .ok (.ireturn, 1) := dk_172 (dk_at dksX3_machine_3 17 rfl rfl)
abbrev cX3_flip : ByteArray := prog_18_method_110_code
def yX3_flip : MethodName := ⟨RX3, "flip", "(I)Z"⟩
def dkwX3_flip_11 : List UInt8 := [3, 27, 16, 254, 16, 254, 16, 254, 182, 1, 147, 172]
abbrev dktX3_flip_11 : List UInt8 := dkwX3_flip_11 ++ []
def dkwX3_flip_10 : List UInt8 := [46, 79, 42, 180, 0, 26, 21, 7, 21, 8, 79, 132, 4, 1, 167, 255, 132, 132, 2, 1, 167, 255, 37, 42]
abbrev dktX3_flip_10 : List UInt8 := dkwX3_flip_10 ++ dktX3_flip_11
def dkwX3_flip_9 : List UInt8 := [21, 8, 79, 42, 180, 0, 26, 21, 6, 46, 54, 8, 42, 180, 0, 26, 21, 6, 42, 180, 0, 26, 21, 7]
abbrev dktX3_flip_9 : List UInt8 := dkwX3_flip_9 ++ dktX3_flip_10
def dkwX3_flip_8 : List UInt8 := [21, 6, 96, 42, 180, 0, 20, 16, 17, 21, 7, 96, 46, 79, 42, 180, 0, 20, 16, 17, 21, 7, 96]
abbrev dktX3_flip_8 : List UInt8 := dkwX3_flip_8 ++ dktX3_flip_9
def dkwX3_flip_7 : List UInt8 := [104, 21, 5, 96, 54, 7, 42, 180, 0, 20, 16, 17, 21, 6, 96, 46, 54, 8, 42, 180, 0, 20, 16, 17]
abbrev dktX3_flip_7 : List UInt8 := dkwX3_flip_7 ++ dktX3_flip_8
def dkwX3_flip_6 : List UInt8 := [29, 130, 54, 5, 21, 5, 21, 4, 162, 0, 6, 167, 0, 95, 7, 28, 104, 21, 4, 96, 54, 6, 7, 28]
abbrev dktX3_flip_6 : List UInt8 := dkwX3_flip_6 ++ dktX3_flip_7
def dkwX3_flip_5 : List UInt8 := [154, 0, 6, 167, 0, 133, 3, 54, 4, 21, 4, 42, 180, 0, 20, 28, 184, 0, 247, 162, 0, 117, 21, 4]
abbrev dktX3_flip_5 : List UInt8 := dkwX3_flip_5 ++ dktX3_flip_6
def dkwX3_flip_4 : List UInt8 := [167, 0, 21, 42, 180, 0, 20, 16, 9, 28, 96, 46, 27, 160, 0, 7, 4, 167, 0, 4, 3, 62, 29]
abbrev dktX3_flip_4 : List UInt8 := dkwX3_flip_4 ++ dktX3_flip_5
def dkwX3_flip_3 : List UInt8 := [160, 0, 7, 4, 167, 0, 41, 3, 167, 0, 37, 42, 180, 0, 20, 4, 28, 96, 46, 27, 160, 0, 7, 5]
abbrev dktX3_flip_3 : List UInt8 := dkwX3_flip_3 ++ dktX3_flip_4
def dkwX3_flip_2 : List UInt8 := [180, 0, 20, 16, 9, 28, 96, 46, 16, 254, 160, 0, 23, 42, 180, 0, 20, 4, 28, 96, 46, 27]
abbrev dktX3_flip_2 : List UInt8 := dkwX3_flip_2 ++ dktX3_flip_3
def dkwX3_flip_1 : List UInt8 := [180, 0, 29, 3, 16, 49, 184, 1, 143, 3, 61, 28, 42, 180, 0, 20, 3, 46, 162, 0, 215, 42]
abbrev dktX3_flip_1 : List UInt8 := dkwX3_flip_1 ++ dktX3_flip_2
def dkwX3_flip_0 : List UInt8 := [42, 182, 0, 174, 42, 27, 182, 1, 40, 154, 0, 9, 42, 4, 182, 1, 80, 172, 42, 180, 0, 20, 3, 42]
abbrev dktX3_flip_0 : List UInt8 := dkwX3_flip_0 ++ dktX3_flip_1
theorem dksX3_flip_0 : cX3_flip.data.toList.drop 0 = dktX3_flip_0 := by decide +kernel
theorem dksX3_flip_1 : cX3_flip.data.toList.drop 24 = dktX3_flip_1 := dk_seg dksX3_flip_0 24 rfl rfl
theorem dksX3_flip_2 : cX3_flip.data.toList.drop 46 = dktX3_flip_2 := dk_seg dksX3_flip_1 22 rfl rfl
theorem dksX3_flip_3 : cX3_flip.data.toList.drop 68 = dktX3_flip_3 := dk_seg dksX3_flip_2 22 rfl rfl
theorem dksX3_flip_4 : cX3_flip.data.toList.drop 92 = dktX3_flip_4 := dk_seg dksX3_flip_3 24 rfl rfl
theorem dksX3_flip_5 : cX3_flip.data.toList.drop 115 = dktX3_flip_5 := dk_seg dksX3_flip_4 23 rfl rfl
theorem dksX3_flip_6 : cX3_flip.data.toList.drop 139 = dktX3_flip_6 := dk_seg dksX3_flip_5 24 rfl rfl
theorem dksX3_flip_7 : cX3_flip.data.toList.drop 163 = dktX3_flip_7 := dk_seg dksX3_flip_6 24 rfl rfl
theorem dksX3_flip_8 : cX3_flip.data.toList.drop 187 = dktX3_flip_8 := dk_seg dksX3_flip_7 24 rfl rfl
theorem dksX3_flip_9 : cX3_flip.data.toList.drop 210 = dktX3_flip_9 := dk_seg dksX3_flip_8 23 rfl rfl
theorem dksX3_flip_10 : cX3_flip.data.toList.drop 234 = dktX3_flip_10 := dk_seg dksX3_flip_9 24 rfl rfl
theorem dksX3_flip_11 : cX3_flip.data.toList.drop 258 = dktX3_flip_11 := dk_seg dksX3_flip_10 24 rfl rfl
theorem dX3_flip_0 : decode cX3_flip 0 = .ok (.aload_n 0, 1) := dk_42 (dk_at dksX3_flip_0 0 rfl rfl)
theorem dX3_flip_1 : decode cX3_flip 1 = .ok (.invokevirtual 174, 3) := dk_182 0 174 (dk_at dksX3_flip_0 1 rfl rfl)
theorem dX3_flip_4 : decode cX3_flip 4 = .ok (.aload_n 0, 1) := dk_42 (dk_at dksX3_flip_0 4 rfl rfl)
theorem dX3_flip_5 : decode cX3_flip 5 = .ok (.iload_n 1, 1) := dk_27 (dk_at dksX3_flip_0 5 rfl rfl)
theorem dX3_flip_6 : decode cX3_flip 6 = .ok (.invokevirtual 296, 3) := dk_182 1 40 (dk_at dksX3_flip_0 6 rfl rfl)
theorem dX3_flip_9 : decode cX3_flip 9 = .ok (.ifCond .ne 9, 3) := dk_154 0 9 (dk_at dksX3_flip_0 9 rfl rfl)
theorem dX3_flip_12 : decode cX3_flip 12 = .ok (.aload_n 0, 1) := dk_42 (dk_at dksX3_flip_0 12 rfl rfl)
theorem dX3_flip_13 : decode cX3_flip 13 = .ok (.iconst 1, 1) := dk_4 (dk_at dksX3_flip_0 13 rfl rfl)
theorem dX3_flip_14 : decode cX3_flip 14 = .ok (.invokevirtual 336, 3) := dk_182 1 80 (dk_at dksX3_flip_0 14 rfl rfl)
theorem dX3_flip_17 : decode cX3_flip 17 = .ok (.ireturn, 1) := dk_172 (dk_at dksX3_flip_0 17 rfl rfl)
theorem dX3_flip_18 : decode cX3_flip 18 = .ok (.aload_n 0, 1) := dk_42 (dk_at dksX3_flip_0 18 rfl rfl)
theorem dX3_flip_19 : decode cX3_flip 19 = .ok (.getfield 20, 3) := dk_180 0 20 (dk_at dksX3_flip_0 19 rfl rfl)
theorem dX3_flip_22 : decode cX3_flip 22 = .ok (.iconst 0, 1) := dk_3 (dk_at dksX3_flip_0 22 rfl rfl)
theorem dX3_flip_23 : decode cX3_flip 23 = .ok (.aload_n 0, 1) := dk_42 (dk_at dksX3_flip_0 23 rfl rfl)
theorem dX3_flip_24 : decode cX3_flip 24 = .ok (.getfield 29, 3) := dk_180 0 29 (dk_at dksX3_flip_1 0 rfl rfl)
theorem dX3_flip_27 : decode cX3_flip 27 = .ok (.iconst 0, 1) := dk_3 (dk_at dksX3_flip_1 3 rfl rfl)
theorem dX3_flip_28 : decode cX3_flip 28 = .ok (.bipush 49, 2) := dk_16 49 (dk_at dksX3_flip_1 4 rfl rfl)
theorem dX3_flip_30 : decode cX3_flip 30 = .ok (.invokestatic 399, 3) := dk_184 1 143 (dk_at dksX3_flip_1 6 rfl rfl)
theorem dX3_flip_33 : decode cX3_flip 33 = .ok (.iconst 0, 1) := dk_3 (dk_at dksX3_flip_1 9 rfl rfl)
theorem dX3_flip_34 : decode cX3_flip 34 = .ok (.istore_n 2, 1) := dk_61 (dk_at dksX3_flip_1 10 rfl rfl)
theorem dX3_flip_35 : decode cX3_flip 35 = .ok (.iload_n 2, 1) := dk_28 (dk_at dksX3_flip_1 11 rfl rfl)
theorem dX3_flip_36 : decode cX3_flip 36 = .ok (.aload_n 0, 1) := dk_42 (dk_at dksX3_flip_1 12 rfl rfl)
theorem dX3_flip_37 : decode cX3_flip 37 = .ok (.getfield 20, 3) := dk_180 0 20 (dk_at dksX3_flip_1 13 rfl rfl)
theorem dX3_flip_40 : decode cX3_flip 40 = .ok (.iconst 0, 1) := dk_3 (dk_at dksX3_flip_1 16 rfl rfl)
theorem dX3_flip_41 : decode cX3_flip 41 = .ok (.iaload, 1) := dk_46 (dk_at dksX3_flip_1 17 rfl rfl)
theorem dX3_flip_42 : decode cX3_flip 42 = .ok (.if_icmp .ge 215, 3) := dk_162 0 215 (dk_at dksX3_flip_1 18 rfl rfl)
theorem dX3_flip_45 : decode cX3_flip 45 = .ok (.aload_n 0, 1) := dk_42 (dk_at dksX3_flip_1 21 rfl rfl)
theorem dX3_flip_46 : decode cX3_flip 46 = .ok (.getfield 20, 3) := dk_180 0 20 (dk_at dksX3_flip_2 0 rfl rfl)
theorem dX3_flip_49 : decode cX3_flip 49 = .ok (.bipush 9, 2) := dk_16 9 (dk_at dksX3_flip_2 3 rfl rfl)
theorem dX3_flip_51 : decode cX3_flip 51 = .ok (.iload_n 2, 1) := dk_28 (dk_at dksX3_flip_2 5 rfl rfl)
theorem dX3_flip_52 : decode cX3_flip 52 = .ok (.iadd, 1) := dk_96 (dk_at dksX3_flip_2 6 rfl rfl)
theorem dX3_flip_53 : decode cX3_flip 53 = .ok (.iaload, 1) := dk_46 (dk_at dksX3_flip_2 7 rfl rfl)
theorem dX3_flip_54 : decode cX3_flip 54 = .ok (.bipush (-2), 2) := dk_16 254 (dk_at dksX3_flip_2 8 rfl rfl)
theorem dX3_flip_56 : decode cX3_flip 56 = .ok (.if_icmp .ne 23, 3) := dk_160 0 23 (dk_at dksX3_flip_2 10 rfl rfl)
theorem dX3_flip_59 : decode cX3_flip 59 = .ok (.aload_n 0, 1) := dk_42 (dk_at dksX3_flip_2 13 rfl rfl)
theorem dX3_flip_60 : decode cX3_flip 60 = .ok (.getfield 20, 3) := dk_180 0 20 (dk_at dksX3_flip_2 14 rfl rfl)
theorem dX3_flip_63 : decode cX3_flip 63 = .ok (.iconst 1, 1) := dk_4 (dk_at dksX3_flip_2 17 rfl rfl)
theorem dX3_flip_64 : decode cX3_flip 64 = .ok (.iload_n 2, 1) := dk_28 (dk_at dksX3_flip_2 18 rfl rfl)
theorem dX3_flip_65 : decode cX3_flip 65 = .ok (.iadd, 1) := dk_96 (dk_at dksX3_flip_2 19 rfl rfl)
theorem dX3_flip_66 : decode cX3_flip 66 = .ok (.iaload, 1) := dk_46 (dk_at dksX3_flip_2 20 rfl rfl)
theorem dX3_flip_67 : decode cX3_flip 67 = .ok (.iload_n 1, 1) := dk_27 (dk_at dksX3_flip_2 21 rfl rfl)
theorem dX3_flip_68 : decode cX3_flip 68 = .ok (.if_icmp .ne 7, 3) := dk_160 0 7 (dk_at dksX3_flip_3 0 rfl rfl)
theorem dX3_flip_71 : decode cX3_flip 71 = .ok (.iconst 1, 1) := dk_4 (dk_at dksX3_flip_3 3 rfl rfl)
theorem dX3_flip_72 : decode cX3_flip 72 = .ok (.goto 41, 3) := dk_167 0 41 (dk_at dksX3_flip_3 4 rfl rfl)
theorem dX3_flip_75 : decode cX3_flip 75 = .ok (.iconst 0, 1) := dk_3 (dk_at dksX3_flip_3 7 rfl rfl)
theorem dX3_flip_76 : decode cX3_flip 76 = .ok (.goto 37, 3) := dk_167 0 37 (dk_at dksX3_flip_3 8 rfl rfl)
theorem dX3_flip_79 : decode cX3_flip 79 = .ok (.aload_n 0, 1) := dk_42 (dk_at dksX3_flip_3 11 rfl rfl)
theorem dX3_flip_80 : decode cX3_flip 80 = .ok (.getfield 20, 3) := dk_180 0 20 (dk_at dksX3_flip_3 12 rfl rfl)
theorem dX3_flip_83 : decode cX3_flip 83 = .ok (.iconst 1, 1) := dk_4 (dk_at dksX3_flip_3 15 rfl rfl)
theorem dX3_flip_84 : decode cX3_flip 84 = .ok (.iload_n 2, 1) := dk_28 (dk_at dksX3_flip_3 16 rfl rfl)
theorem dX3_flip_85 : decode cX3_flip 85 = .ok (.iadd, 1) := dk_96 (dk_at dksX3_flip_3 17 rfl rfl)
theorem dX3_flip_86 : decode cX3_flip 86 = .ok (.iaload, 1) := dk_46 (dk_at dksX3_flip_3 18 rfl rfl)
theorem dX3_flip_87 : decode cX3_flip 87 = .ok (.iload_n 1, 1) := dk_27 (dk_at dksX3_flip_3 19 rfl rfl)
theorem dX3_flip_88 : decode cX3_flip 88 = .ok (.if_icmp .ne 7, 3) := dk_160 0 7 (dk_at dksX3_flip_3 20 rfl rfl)
theorem dX3_flip_91 : decode cX3_flip 91 = .ok (.iconst 2, 1) := dk_5 (dk_at dksX3_flip_3 23 rfl rfl)
theorem dX3_flip_92 : decode cX3_flip 92 = .ok (.goto 21, 3) := dk_167 0 21 (dk_at dksX3_flip_4 0 rfl rfl)
theorem dX3_flip_95 : decode cX3_flip 95 = .ok (.aload_n 0, 1) := dk_42 (dk_at dksX3_flip_4 3 rfl rfl)
theorem dX3_flip_96 : decode cX3_flip 96 = .ok (.getfield 20, 3) := dk_180 0 20 (dk_at dksX3_flip_4 4 rfl rfl)
theorem dX3_flip_99 : decode cX3_flip 99 = .ok (.bipush 9, 2) := dk_16 9 (dk_at dksX3_flip_4 7 rfl rfl)
theorem dX3_flip_101 : decode cX3_flip 101 = .ok (.iload_n 2, 1) := dk_28 (dk_at dksX3_flip_4 9 rfl rfl)
theorem dX3_flip_102 : decode cX3_flip 102 = .ok (.iadd, 1) := dk_96 (dk_at dksX3_flip_4 10 rfl rfl)
theorem dX3_flip_103 : decode cX3_flip 103 = .ok (.iaload, 1) := dk_46 (dk_at dksX3_flip_4 11 rfl rfl)
theorem dX3_flip_104 : decode cX3_flip 104 = .ok (.iload_n 1, 1) := dk_27 (dk_at dksX3_flip_4 12 rfl rfl)
theorem dX3_flip_105 : decode cX3_flip 105 = .ok (.if_icmp .ne 7, 3) := dk_160 0 7 (dk_at dksX3_flip_4 13 rfl rfl)
theorem dX3_flip_108 : decode cX3_flip 108 = .ok (.iconst 1, 1) := dk_4 (dk_at dksX3_flip_4 16 rfl rfl)
theorem dX3_flip_109 : decode cX3_flip 109 = .ok (.goto 4, 3) := dk_167 0 4 (dk_at dksX3_flip_4 17 rfl rfl)
theorem dX3_flip_112 : decode cX3_flip 112 = .ok (.iconst 0, 1) := dk_3 (dk_at dksX3_flip_4 20 rfl rfl)
theorem dX3_flip_113 : decode cX3_flip 113 = .ok (.istore_n 3, 1) := dk_62 (dk_at dksX3_flip_4 21 rfl rfl)
theorem dX3_flip_114 : decode cX3_flip 114 = .ok (.iload_n 3, 1) := dk_29 (dk_at dksX3_flip_4 22 rfl rfl)
theorem dX3_flip_115 : decode cX3_flip 115 = .ok (.ifCond .ne 6, 3) := dk_154 0 6 (dk_at dksX3_flip_5 0 rfl rfl)
theorem dX3_flip_118 : decode cX3_flip 118 = .ok (.goto 133, 3) := dk_167 0 133 (dk_at dksX3_flip_5 3 rfl rfl)
theorem dX3_flip_121 : decode cX3_flip 121 = .ok (.iconst 0, 1) := dk_3 (dk_at dksX3_flip_5 6 rfl rfl)
theorem dX3_flip_122 : decode cX3_flip 122 = .ok (.istore 4, 2) := dk_54 4 (dk_at dksX3_flip_5 7 rfl rfl)
theorem dX3_flip_124 : decode cX3_flip 124 = .ok (.iload 4, 2) := dk_21 4 (dk_at dksX3_flip_5 9 rfl rfl)
theorem dX3_flip_126 : decode cX3_flip 126 = .ok (.aload_n 0, 1) := dk_42 (dk_at dksX3_flip_5 11 rfl rfl)
theorem dX3_flip_127 : decode cX3_flip 127 = .ok (.getfield 20, 3) := dk_180 0 20 (dk_at dksX3_flip_5 12 rfl rfl)
theorem dX3_flip_130 : decode cX3_flip 130 = .ok (.iload_n 2, 1) := dk_28 (dk_at dksX3_flip_5 15 rfl rfl)
theorem dX3_flip_131 : decode cX3_flip 131 = .ok (.invokestatic 247, 3) := dk_184 0 247 (dk_at dksX3_flip_5 16 rfl rfl)
theorem dX3_flip_134 : decode cX3_flip 134 = .ok (.if_icmp .ge 117, 3) := dk_162 0 117 (dk_at dksX3_flip_5 19 rfl rfl)
theorem dX3_flip_137 : decode cX3_flip 137 = .ok (.iload 4, 2) := dk_21 4 (dk_at dksX3_flip_5 22 rfl rfl)
theorem dX3_flip_139 : decode cX3_flip 139 = .ok (.iload_n 3, 1) := dk_29 (dk_at dksX3_flip_6 0 rfl rfl)
theorem dX3_flip_140 : decode cX3_flip 140 = .ok (.ixor, 1) := dk_130 (dk_at dksX3_flip_6 1 rfl rfl)
theorem dX3_flip_141 : decode cX3_flip 141 = .ok (.istore 5, 2) := dk_54 5 (dk_at dksX3_flip_6 2 rfl rfl)
theorem dX3_flip_143 : decode cX3_flip 143 = .ok (.iload 5, 2) := dk_21 5 (dk_at dksX3_flip_6 4 rfl rfl)
theorem dX3_flip_145 : decode cX3_flip 145 = .ok (.iload 4, 2) := dk_21 4 (dk_at dksX3_flip_6 6 rfl rfl)
theorem dX3_flip_147 : decode cX3_flip 147 = .ok (.if_icmp .ge 6, 3) := dk_162 0 6 (dk_at dksX3_flip_6 8 rfl rfl)
theorem dX3_flip_150 : decode cX3_flip 150 = .ok (.goto 95, 3) := dk_167 0 95 (dk_at dksX3_flip_6 11 rfl rfl)
theorem dX3_flip_153 : decode cX3_flip 153 = .ok (.iconst 4, 1) := dk_7 (dk_at dksX3_flip_6 14 rfl rfl)
theorem dX3_flip_154 : decode cX3_flip 154 = .ok (.iload_n 2, 1) := dk_28 (dk_at dksX3_flip_6 15 rfl rfl)
theorem dX3_flip_155 : decode cX3_flip 155 = .ok (.imul, 1) := dk_104 (dk_at dksX3_flip_6 16 rfl rfl)
theorem dX3_flip_156 : decode cX3_flip 156 = .ok (.iload 4, 2) := dk_21 4 (dk_at dksX3_flip_6 17 rfl rfl)
theorem dX3_flip_158 : decode cX3_flip 158 = .ok (.iadd, 1) := dk_96 (dk_at dksX3_flip_6 19 rfl rfl)
theorem dX3_flip_159 : decode cX3_flip 159 = .ok (.istore 6, 2) := dk_54 6 (dk_at dksX3_flip_6 20 rfl rfl)
theorem dX3_flip_161 : decode cX3_flip 161 = .ok (.iconst 4, 1) := dk_7 (dk_at dksX3_flip_6 22 rfl rfl)
theorem dX3_flip_162 : decode cX3_flip 162 = .ok (.iload_n 2, 1) := dk_28 (dk_at dksX3_flip_6 23 rfl rfl)
theorem dX3_flip_163 : decode cX3_flip 163 = .ok (.imul, 1) := dk_104 (dk_at dksX3_flip_7 0 rfl rfl)
theorem dX3_flip_164 : decode cX3_flip 164 = .ok (.iload 5, 2) := dk_21 5 (dk_at dksX3_flip_7 1 rfl rfl)
theorem dX3_flip_166 : decode cX3_flip 166 = .ok (.iadd, 1) := dk_96 (dk_at dksX3_flip_7 3 rfl rfl)
theorem dX3_flip_167 : decode cX3_flip 167 = .ok (.istore 7, 2) := dk_54 7 (dk_at dksX3_flip_7 4 rfl rfl)
theorem dX3_flip_169 : decode cX3_flip 169 = .ok (.aload_n 0, 1) := dk_42 (dk_at dksX3_flip_7 6 rfl rfl)
theorem dX3_flip_170 : decode cX3_flip 170 = .ok (.getfield 20, 3) := dk_180 0 20 (dk_at dksX3_flip_7 7 rfl rfl)
theorem dX3_flip_173 : decode cX3_flip 173 = .ok (.bipush 17, 2) := dk_16 17 (dk_at dksX3_flip_7 10 rfl rfl)
theorem dX3_flip_175 : decode cX3_flip 175 = .ok (.iload 6, 2) := dk_21 6 (dk_at dksX3_flip_7 12 rfl rfl)
theorem dX3_flip_177 : decode cX3_flip 177 = .ok (.iadd, 1) := dk_96 (dk_at dksX3_flip_7 14 rfl rfl)
theorem dX3_flip_178 : decode cX3_flip 178 = .ok (.iaload, 1) := dk_46 (dk_at dksX3_flip_7 15 rfl rfl)
theorem dX3_flip_179 : decode cX3_flip 179 = .ok (.istore 8, 2) := dk_54 8 (dk_at dksX3_flip_7 16 rfl rfl)
theorem dX3_flip_181 : decode cX3_flip 181 = .ok (.aload_n 0, 1) := dk_42 (dk_at dksX3_flip_7 18 rfl rfl)
theorem dX3_flip_182 : decode cX3_flip 182 = .ok (.getfield 20, 3) := dk_180 0 20 (dk_at dksX3_flip_7 19 rfl rfl)
theorem dX3_flip_185 : decode cX3_flip 185 = .ok (.bipush 17, 2) := dk_16 17 (dk_at dksX3_flip_7 22 rfl rfl)
theorem dX3_flip_187 : decode cX3_flip 187 = .ok (.iload 6, 2) := dk_21 6 (dk_at dksX3_flip_8 0 rfl rfl)
theorem dX3_flip_189 : decode cX3_flip 189 = .ok (.iadd, 1) := dk_96 (dk_at dksX3_flip_8 2 rfl rfl)
theorem dX3_flip_190 : decode cX3_flip 190 = .ok (.aload_n 0, 1) := dk_42 (dk_at dksX3_flip_8 3 rfl rfl)
theorem dX3_flip_191 : decode cX3_flip 191 = .ok (.getfield 20, 3) := dk_180 0 20 (dk_at dksX3_flip_8 4 rfl rfl)
theorem dX3_flip_194 : decode cX3_flip 194 = .ok (.bipush 17, 2) := dk_16 17 (dk_at dksX3_flip_8 7 rfl rfl)
theorem dX3_flip_196 : decode cX3_flip 196 = .ok (.iload 7, 2) := dk_21 7 (dk_at dksX3_flip_8 9 rfl rfl)
theorem dX3_flip_198 : decode cX3_flip 198 = .ok (.iadd, 1) := dk_96 (dk_at dksX3_flip_8 11 rfl rfl)
theorem dX3_flip_199 : decode cX3_flip 199 = .ok (.iaload, 1) := dk_46 (dk_at dksX3_flip_8 12 rfl rfl)
theorem dX3_flip_200 : decode cX3_flip 200 = .ok (.iastore, 1) := dk_79 (dk_at dksX3_flip_8 13 rfl rfl)
theorem dX3_flip_201 : decode cX3_flip 201 = .ok (.aload_n 0, 1) := dk_42 (dk_at dksX3_flip_8 14 rfl rfl)
theorem dX3_flip_202 : decode cX3_flip 202 = .ok (.getfield 20, 3) := dk_180 0 20 (dk_at dksX3_flip_8 15 rfl rfl)
theorem dX3_flip_205 : decode cX3_flip 205 = .ok (.bipush 17, 2) := dk_16 17 (dk_at dksX3_flip_8 18 rfl rfl)
theorem dX3_flip_207 : decode cX3_flip 207 = .ok (.iload 7, 2) := dk_21 7 (dk_at dksX3_flip_8 20 rfl rfl)
theorem dX3_flip_209 : decode cX3_flip 209 = .ok (.iadd, 1) := dk_96 (dk_at dksX3_flip_8 22 rfl rfl)
theorem dX3_flip_210 : decode cX3_flip 210 = .ok (.iload 8, 2) := dk_21 8 (dk_at dksX3_flip_9 0 rfl rfl)
theorem dX3_flip_212 : decode cX3_flip 212 = .ok (.iastore, 1) := dk_79 (dk_at dksX3_flip_9 2 rfl rfl)
theorem dX3_flip_213 : decode cX3_flip 213 = .ok (.aload_n 0, 1) := dk_42 (dk_at dksX3_flip_9 3 rfl rfl)
theorem dX3_flip_214 : decode cX3_flip 214 = .ok (.getfield 26, 3) := dk_180 0 26 (dk_at dksX3_flip_9 4 rfl rfl)
theorem dX3_flip_217 : decode cX3_flip 217 = .ok (.iload 6, 2) := dk_21 6 (dk_at dksX3_flip_9 7 rfl rfl)
theorem dX3_flip_219 : decode cX3_flip 219 = .ok (.iaload, 1) := dk_46 (dk_at dksX3_flip_9 9 rfl rfl)
theorem dX3_flip_220 : decode cX3_flip 220 = .ok (.istore 8, 2) := dk_54 8 (dk_at dksX3_flip_9 10 rfl rfl)
theorem dX3_flip_222 : decode cX3_flip 222 = .ok (.aload_n 0, 1) := dk_42 (dk_at dksX3_flip_9 12 rfl rfl)
theorem dX3_flip_223 : decode cX3_flip 223 = .ok (.getfield 26, 3) := dk_180 0 26 (dk_at dksX3_flip_9 13 rfl rfl)
theorem dX3_flip_226 : decode cX3_flip 226 = .ok (.iload 6, 2) := dk_21 6 (dk_at dksX3_flip_9 16 rfl rfl)
theorem dX3_flip_228 : decode cX3_flip 228 = .ok (.aload_n 0, 1) := dk_42 (dk_at dksX3_flip_9 18 rfl rfl)
theorem dX3_flip_229 : decode cX3_flip 229 = .ok (.getfield 26, 3) := dk_180 0 26 (dk_at dksX3_flip_9 19 rfl rfl)
theorem dX3_flip_232 : decode cX3_flip 232 = .ok (.iload 7, 2) := dk_21 7 (dk_at dksX3_flip_9 22 rfl rfl)
theorem dX3_flip_234 : decode cX3_flip 234 = .ok (.iaload, 1) := dk_46 (dk_at dksX3_flip_10 0 rfl rfl)
theorem dX3_flip_235 : decode cX3_flip 235 = .ok (.iastore, 1) := dk_79 (dk_at dksX3_flip_10 1 rfl rfl)
theorem dX3_flip_236 : decode cX3_flip 236 = .ok (.aload_n 0, 1) := dk_42 (dk_at dksX3_flip_10 2 rfl rfl)
theorem dX3_flip_237 : decode cX3_flip 237 = .ok (.getfield 26, 3) := dk_180 0 26 (dk_at dksX3_flip_10 3 rfl rfl)
theorem dX3_flip_240 : decode cX3_flip 240 = .ok (.iload 7, 2) := dk_21 7 (dk_at dksX3_flip_10 6 rfl rfl)
theorem dX3_flip_242 : decode cX3_flip 242 = .ok (.iload 8, 2) := dk_21 8 (dk_at dksX3_flip_10 8 rfl rfl)
theorem dX3_flip_244 : decode cX3_flip 244 = .ok (.iastore, 1) := dk_79 (dk_at dksX3_flip_10 10 rfl rfl)
theorem dX3_flip_245 : decode cX3_flip 245 = .ok (.iinc 4 1, 3) := dk_132 4 1 (dk_at dksX3_flip_10 11 rfl rfl)
theorem dX3_flip_248 : decode cX3_flip 248 = .ok (.goto (-124), 3) := dk_167 255 132 (dk_at dksX3_flip_10 14 rfl rfl)
theorem dX3_flip_251 : decode cX3_flip 251 = .ok (.iinc 2 1, 3) := dk_132 2 1 (dk_at dksX3_flip_10 17 rfl rfl)
theorem dX3_flip_254 : decode cX3_flip 254 = .ok (.goto (-219), 3) := dk_167 255 37 (dk_at dksX3_flip_10 20 rfl rfl)
theorem dX3_flip_257 : decode cX3_flip 257 = .ok (.aload_n 0, 1) := dk_42 (dk_at dksX3_flip_10 23 rfl rfl)
theorem dX3_flip_258 : decode cX3_flip 258 = .ok (.iconst 0, 1) := dk_3 (dk_at dksX3_flip_11 0 rfl rfl)
theorem dX3_flip_259 : decode cX3_flip 259 = .ok (.iload_n 1, 1) := dk_27 (dk_at dksX3_flip_11 1 rfl rfl)
theorem dX3_flip_260 : decode cX3_flip 260 = .ok (.bipush (-2), 2) := dk_16 254 (dk_at dksX3_flip_11 2 rfl rfl)
theorem dX3_flip_262 : decode cX3_flip 262 = .ok (.bipush (-2), 2) := dk_16 254 (dk_at dksX3_flip_11 4 rfl rfl)
theorem dX3_flip_264 : decode cX3_flip 264 = .ok (.bipush (-2), 2) := dk_16 254 (dk_at dksX3_flip_11 6 rfl rfl)
theorem dX3_flip_266 : decode cX3_flip 266 = .ok (.invokevirtual 403, 3) := dk_182 1 147 (dk_at dksX3_flip_11 8 rfl rfl)
theorem dX3_flip_269 : decode cX3_flip 269 = .ok (.ireturn, 1) := dk_172 (dk_at dksX3_flip_11 11 rfl rfl)
abbrev cX3_copy : ByteArray := prog_18_method_107_code
def yX3_copy : MethodName := ⟨RX3, "copy", "([II[III)V"⟩
def dkwX3_copy_1 : List UInt8 := [132, 5, 1, 167, 255, 234, 177]
abbrev dktX3_copy_1 : List UInt8 := dkwX3_copy_1 ++ []
def dkwX3_copy_0 : List UInt8 := [3, 54, 5, 21, 5, 21, 4, 162, 0, 21, 44, 29, 21, 5, 96, 42, 27, 21, 5, 96, 46, 79]
abbrev dktX3_copy_0 : List UInt8 := dkwX3_copy_0 ++ dktX3_copy_1
theorem dksX3_copy_0 : cX3_copy.data.toList.drop 0 = dktX3_copy_0 := by decide +kernel
theorem dksX3_copy_1 : cX3_copy.data.toList.drop 22 = dktX3_copy_1 := dk_seg dksX3_copy_0 22 rfl rfl
theorem dX3_copy_0 : decode cX3_copy 0 = .ok (.iconst 0, 1) := dk_3 (dk_at dksX3_copy_0 0 rfl rfl)
theorem dX3_copy_1 : decode cX3_copy 1 = .ok (.istore 5, 2) := dk_54 5 (dk_at dksX3_copy_0 1 rfl rfl)
theorem dX3_copy_3 : decode cX3_copy 3 = .ok (.iload 5, 2) := dk_21 5 (dk_at dksX3_copy_0 3 rfl rfl)
theorem dX3_copy_5 : decode cX3_copy 5 = .ok (.iload 4, 2) := dk_21 4 (dk_at dksX3_copy_0 5 rfl rfl)
theorem dX3_copy_7 : decode cX3_copy 7 = .ok (.if_icmp .ge 21, 3) := dk_162 0 21 (dk_at dksX3_copy_0 7 rfl rfl)
theorem dX3_copy_10 : decode cX3_copy 10 = .ok (.aload_n 2, 1) := dk_44 (dk_at dksX3_copy_0 10 rfl rfl)
theorem dX3_copy_11 : decode cX3_copy 11 = .ok (.iload_n 3, 1) := dk_29 (dk_at dksX3_copy_0 11 rfl rfl)
theorem dX3_copy_12 : decode cX3_copy 12 = .ok (.iload 5, 2) := dk_21 5 (dk_at dksX3_copy_0 12 rfl rfl)
theorem dX3_copy_14 : decode cX3_copy 14 = .ok (.iadd, 1) := dk_96 (dk_at dksX3_copy_0 14 rfl rfl)
theorem dX3_copy_15 : decode cX3_copy 15 = .ok (.aload_n 0, 1) := dk_42 (dk_at dksX3_copy_0 15 rfl rfl)
theorem dX3_copy_16 : decode cX3_copy 16 = .ok (.iload_n 1, 1) := dk_27 (dk_at dksX3_copy_0 16 rfl rfl)
theorem dX3_copy_17 : decode cX3_copy 17 = .ok (.iload 5, 2) := dk_21 5 (dk_at dksX3_copy_0 17 rfl rfl)
theorem dX3_copy_19 : decode cX3_copy 19 = .ok (.iadd, 1) := dk_96 (dk_at dksX3_copy_0 19 rfl rfl)
theorem dX3_copy_20 : decode cX3_copy 20 = .ok (.iaload, 1) := dk_46 (dk_at dksX3_copy_0 20 rfl rfl)
theorem dX3_copy_21 : decode cX3_copy 21 = .ok (.iastore, 1) := dk_79 (dk_at dksX3_copy_0 21 rfl rfl)
theorem dX3_copy_22 : decode cX3_copy 22 = .ok (.iinc 5 1, 3) := dk_132 5 1 (dk_at dksX3_copy_1 0 rfl rfl)
theorem dX3_copy_25 : decode cX3_copy 25 = .ok (.goto (-22), 3) := dk_167 255 234 (dk_at dksX3_copy_1 3 rfl rfl)
theorem dX3_copy_28 : decode cX3_copy 28 = .ok (.return_, 1) := dk_177 (dk_at dksX3_copy_1 6 rfl rfl)
abbrev cX3_did : ByteArray := prog_18_method_108_code
def yX3_did : MethodName := ⟨RX3, "did", "(IIIII)Z"⟩
def dkwX3_did_2 : List UInt8 := [181, 0, 189, 42, 3, 181, 0, 192, 4, 172]
abbrev dktX3_did_2 : List UInt8 := dkwX3_did_2 ++ []
def dkwX3_did_1 : List UInt8 := [184, 1, 139, 42, 42, 180, 0, 189, 16, 20, 160, 0, 8, 16, 20, 167, 0, 9, 42, 180, 0, 189, 4, 96]
abbrev dktX3_did_1 : List UInt8 := dkwX3_did_1 ++ dktX3_did_2
def dkwX3_did_0 : List UInt8 := [42, 180, 0, 32, 42, 180, 0, 41, 42, 180, 0, 189, 42, 180, 0, 29, 27, 28, 29, 21, 4, 21, 5]
abbrev dktX3_did_0 : List UInt8 := dkwX3_did_0 ++ dktX3_did_1
theorem dksX3_did_0 : cX3_did.data.toList.drop 0 = dktX3_did_0 := by decide +kernel
theorem dksX3_did_1 : cX3_did.data.toList.drop 23 = dktX3_did_1 := dk_seg dksX3_did_0 23 rfl rfl
theorem dksX3_did_2 : cX3_did.data.toList.drop 47 = dktX3_did_2 := dk_seg dksX3_did_1 24 rfl rfl
theorem dX3_did_0 : decode cX3_did 0 = .ok (.aload_n 0, 1) := dk_42 (dk_at dksX3_did_0 0 rfl rfl)
theorem dX3_did_1 : decode cX3_did 1 = .ok (.getfield 32, 3) := dk_180 0 32 (dk_at dksX3_did_0 1 rfl rfl)
theorem dX3_did_4 : decode cX3_did 4 = .ok (.aload_n 0, 1) := dk_42 (dk_at dksX3_did_0 4 rfl rfl)
theorem dX3_did_5 : decode cX3_did 5 = .ok (.getfield 41, 3) := dk_180 0 41 (dk_at dksX3_did_0 5 rfl rfl)
theorem dX3_did_8 : decode cX3_did 8 = .ok (.aload_n 0, 1) := dk_42 (dk_at dksX3_did_0 8 rfl rfl)
theorem dX3_did_9 : decode cX3_did 9 = .ok (.getfield 189, 3) := dk_180 0 189 (dk_at dksX3_did_0 9 rfl rfl)
theorem dX3_did_12 : decode cX3_did 12 = .ok (.aload_n 0, 1) := dk_42 (dk_at dksX3_did_0 12 rfl rfl)
theorem dX3_did_13 : decode cX3_did 13 = .ok (.getfield 29, 3) := dk_180 0 29 (dk_at dksX3_did_0 13 rfl rfl)
theorem dX3_did_16 : decode cX3_did 16 = .ok (.iload_n 1, 1) := dk_27 (dk_at dksX3_did_0 16 rfl rfl)
theorem dX3_did_17 : decode cX3_did 17 = .ok (.iload_n 2, 1) := dk_28 (dk_at dksX3_did_0 17 rfl rfl)
theorem dX3_did_18 : decode cX3_did 18 = .ok (.iload_n 3, 1) := dk_29 (dk_at dksX3_did_0 18 rfl rfl)
theorem dX3_did_19 : decode cX3_did 19 = .ok (.iload 4, 2) := dk_21 4 (dk_at dksX3_did_0 19 rfl rfl)
theorem dX3_did_21 : decode cX3_did 21 = .ok (.iload 5, 2) := dk_21 5 (dk_at dksX3_did_0 21 rfl rfl)
theorem dX3_did_23 : decode cX3_did 23 = .ok (.invokestatic 395, 3) := dk_184 1 139 (dk_at dksX3_did_1 0 rfl rfl)
theorem dX3_did_26 : decode cX3_did 26 = .ok (.aload_n 0, 1) := dk_42 (dk_at dksX3_did_1 3 rfl rfl)
theorem dX3_did_27 : decode cX3_did 27 = .ok (.aload_n 0, 1) := dk_42 (dk_at dksX3_did_1 4 rfl rfl)
theorem dX3_did_28 : decode cX3_did 28 = .ok (.getfield 189, 3) := dk_180 0 189 (dk_at dksX3_did_1 5 rfl rfl)
theorem dX3_did_31 : decode cX3_did 31 = .ok (.bipush 20, 2) := dk_16 20 (dk_at dksX3_did_1 8 rfl rfl)
theorem dX3_did_33 : decode cX3_did 33 = .ok (.if_icmp .ne 8, 3) := dk_160 0 8 (dk_at dksX3_did_1 10 rfl rfl)
theorem dX3_did_36 : decode cX3_did 36 = .ok (.bipush 20, 2) := dk_16 20 (dk_at dksX3_did_1 13 rfl rfl)
theorem dX3_did_38 : decode cX3_did 38 = .ok (.goto 9, 3) := dk_167 0 9 (dk_at dksX3_did_1 15 rfl rfl)
theorem dX3_did_41 : decode cX3_did 41 = .ok (.aload_n 0, 1) := dk_42 (dk_at dksX3_did_1 18 rfl rfl)
theorem dX3_did_42 : decode cX3_did 42 = .ok (.getfield 189, 3) := dk_180 0 189 (dk_at dksX3_did_1 19 rfl rfl)
theorem dX3_did_45 : decode cX3_did 45 = .ok (.iconst 1, 1) := dk_4 (dk_at dksX3_did_1 22 rfl rfl)
theorem dX3_did_46 : decode cX3_did 46 = .ok (.iadd, 1) := dk_96 (dk_at dksX3_did_1 23 rfl rfl)
theorem dX3_did_47 : decode cX3_did 47 = .ok (.putfield 189, 3) := dk_181 0 189 (dk_at dksX3_did_2 0 rfl rfl)
theorem dX3_did_50 : decode cX3_did 50 = .ok (.aload_n 0, 1) := dk_42 (dk_at dksX3_did_2 3 rfl rfl)
theorem dX3_did_51 : decode cX3_did 51 = .ok (.iconst 0, 1) := dk_3 (dk_at dksX3_did_2 4 rfl rfl)
theorem dX3_did_52 : decode cX3_did 52 = .ok (.putfield 192, 3) := dk_181 0 192 (dk_at dksX3_did_2 5 rfl rfl)
theorem dX3_did_55 : decode cX3_did 55 = .ok (.iconst 1, 1) := dk_4 (dk_at dksX3_did_2 8 rfl rfl)
theorem dX3_did_56 : decode cX3_did 56 = .ok (.ireturn, 1) := dk_172 (dk_at dksX3_did_2 9 rfl rfl)
abbrev cX3_keep : ByteArray := prog_18_method_109_code
def yX3_keep : MethodName := ⟨RX3, "keep", "([I[II[IIIIII)V"⟩
def dkwX3_keep_5 : List UInt8 := [8, 21, 9, 104, 7, 96, 21, 8, 79, 177]
abbrev dktX3_keep_5 : List UInt8 := dkwX3_keep_5 ++ []
def dkwX3_keep_4 : List UInt8 := [21, 5, 79, 43, 8, 21, 9, 104, 5, 96, 21, 6, 79, 43, 8, 21, 9, 104, 6, 96, 21, 7, 79, 43]
abbrev dktX3_keep_4 : List UInt8 := dkwX3_keep_4 ++ dktX3_keep_5
def dkwX3_keep_3 : List UInt8 := [21, 9, 104, 16, 49, 184, 1, 143, 43, 8, 21, 9, 104, 21, 4, 79, 43, 8, 21, 9, 104, 4, 96]
abbrev dktX3_keep_3 : List UInt8 := dkwX3_keep_3 ++ dktX3_keep_4
def dkwX3_keep_2 : List UInt8 := [21, 10, 43, 21, 10, 8, 96, 46, 79, 132, 10, 1, 167, 255, 236, 132, 9, 255, 45, 3, 42, 16, 49]
abbrev dktX3_keep_2 : List UInt8 := dkwX3_keep_2 ++ dktX3_keep_3
def dkwX3_keep_1 : List UInt8 := [21, 10, 16, 49, 96, 46, 79, 132, 10, 1, 167, 255, 234, 3, 54, 10, 21, 10, 16, 95, 162, 0, 19, 43]
abbrev dktX3_keep_1 : List UInt8 := dkwX3_keep_1 ++ dktX3_keep_2
def dkwX3_keep_0 : List UInt8 := [28, 54, 9, 28, 16, 20, 160, 0, 60, 3, 54, 10, 21, 10, 17, 3, 163, 162, 0, 20, 42, 21, 10, 42]
abbrev dktX3_keep_0 : List UInt8 := dkwX3_keep_0 ++ dktX3_keep_1
theorem dksX3_keep_0 : cX3_keep.data.toList.drop 0 = dktX3_keep_0 := by decide +kernel
theorem dksX3_keep_1 : cX3_keep.data.toList.drop 24 = dktX3_keep_1 := dk_seg dksX3_keep_0 24 rfl rfl
theorem dksX3_keep_2 : cX3_keep.data.toList.drop 48 = dktX3_keep_2 := dk_seg dksX3_keep_1 24 rfl rfl
theorem dksX3_keep_3 : cX3_keep.data.toList.drop 71 = dktX3_keep_3 := dk_seg dksX3_keep_2 23 rfl rfl
theorem dksX3_keep_4 : cX3_keep.data.toList.drop 94 = dktX3_keep_4 := dk_seg dksX3_keep_3 23 rfl rfl
theorem dksX3_keep_5 : cX3_keep.data.toList.drop 118 = dktX3_keep_5 := dk_seg dksX3_keep_4 24 rfl rfl
theorem dX3_keep_0 : decode cX3_keep 0 = .ok (.iload_n 2, 1) := dk_28 (dk_at dksX3_keep_0 0 rfl rfl)
theorem dX3_keep_1 : decode cX3_keep 1 = .ok (.istore 9, 2) := dk_54 9 (dk_at dksX3_keep_0 1 rfl rfl)
theorem dX3_keep_3 : decode cX3_keep 3 = .ok (.iload_n 2, 1) := dk_28 (dk_at dksX3_keep_0 3 rfl rfl)
theorem dX3_keep_4 : decode cX3_keep 4 = .ok (.bipush 20, 2) := dk_16 20 (dk_at dksX3_keep_0 4 rfl rfl)
theorem dX3_keep_6 : decode cX3_keep 6 = .ok (.if_icmp .ne 60, 3) := dk_160 0 60 (dk_at dksX3_keep_0 6 rfl rfl)
theorem dX3_keep_9 : decode cX3_keep 9 = .ok (.iconst 0, 1) := dk_3 (dk_at dksX3_keep_0 9 rfl rfl)
theorem dX3_keep_10 : decode cX3_keep 10 = .ok (.istore 10, 2) := dk_54 10 (dk_at dksX3_keep_0 10 rfl rfl)
theorem dX3_keep_12 : decode cX3_keep 12 = .ok (.iload 10, 2) := dk_21 10 (dk_at dksX3_keep_0 12 rfl rfl)
theorem dX3_keep_14 : decode cX3_keep 14 = .ok (.sipush 931, 3) := dk_17 3 163 (dk_at dksX3_keep_0 14 rfl rfl)
theorem dX3_keep_17 : decode cX3_keep 17 = .ok (.if_icmp .ge 20, 3) := dk_162 0 20 (dk_at dksX3_keep_0 17 rfl rfl)
theorem dX3_keep_20 : decode cX3_keep 20 = .ok (.aload_n 0, 1) := dk_42 (dk_at dksX3_keep_0 20 rfl rfl)
theorem dX3_keep_21 : decode cX3_keep 21 = .ok (.iload 10, 2) := dk_21 10 (dk_at dksX3_keep_0 21 rfl rfl)
theorem dX3_keep_23 : decode cX3_keep 23 = .ok (.aload_n 0, 1) := dk_42 (dk_at dksX3_keep_0 23 rfl rfl)
theorem dX3_keep_24 : decode cX3_keep 24 = .ok (.iload 10, 2) := dk_21 10 (dk_at dksX3_keep_1 0 rfl rfl)
theorem dX3_keep_26 : decode cX3_keep 26 = .ok (.bipush 49, 2) := dk_16 49 (dk_at dksX3_keep_1 2 rfl rfl)
theorem dX3_keep_28 : decode cX3_keep 28 = .ok (.iadd, 1) := dk_96 (dk_at dksX3_keep_1 4 rfl rfl)
theorem dX3_keep_29 : decode cX3_keep 29 = .ok (.iaload, 1) := dk_46 (dk_at dksX3_keep_1 5 rfl rfl)
theorem dX3_keep_30 : decode cX3_keep 30 = .ok (.iastore, 1) := dk_79 (dk_at dksX3_keep_1 6 rfl rfl)
theorem dX3_keep_31 : decode cX3_keep 31 = .ok (.iinc 10 1, 3) := dk_132 10 1 (dk_at dksX3_keep_1 7 rfl rfl)
theorem dX3_keep_34 : decode cX3_keep 34 = .ok (.goto (-22), 3) := dk_167 255 234 (dk_at dksX3_keep_1 10 rfl rfl)
theorem dX3_keep_37 : decode cX3_keep 37 = .ok (.iconst 0, 1) := dk_3 (dk_at dksX3_keep_1 13 rfl rfl)
theorem dX3_keep_38 : decode cX3_keep 38 = .ok (.istore 10, 2) := dk_54 10 (dk_at dksX3_keep_1 14 rfl rfl)
theorem dX3_keep_40 : decode cX3_keep 40 = .ok (.iload 10, 2) := dk_21 10 (dk_at dksX3_keep_1 16 rfl rfl)
theorem dX3_keep_42 : decode cX3_keep 42 = .ok (.bipush 95, 2) := dk_16 95 (dk_at dksX3_keep_1 18 rfl rfl)
theorem dX3_keep_44 : decode cX3_keep 44 = .ok (.if_icmp .ge 19, 3) := dk_162 0 19 (dk_at dksX3_keep_1 20 rfl rfl)
theorem dX3_keep_47 : decode cX3_keep 47 = .ok (.aload_n 1, 1) := dk_43 (dk_at dksX3_keep_1 23 rfl rfl)
theorem dX3_keep_48 : decode cX3_keep 48 = .ok (.iload 10, 2) := dk_21 10 (dk_at dksX3_keep_2 0 rfl rfl)
theorem dX3_keep_50 : decode cX3_keep 50 = .ok (.aload_n 1, 1) := dk_43 (dk_at dksX3_keep_2 2 rfl rfl)
theorem dX3_keep_51 : decode cX3_keep 51 = .ok (.iload 10, 2) := dk_21 10 (dk_at dksX3_keep_2 3 rfl rfl)
theorem dX3_keep_53 : decode cX3_keep 53 = .ok (.iconst 5, 1) := dk_8 (dk_at dksX3_keep_2 5 rfl rfl)
theorem dX3_keep_54 : decode cX3_keep 54 = .ok (.iadd, 1) := dk_96 (dk_at dksX3_keep_2 6 rfl rfl)
theorem dX3_keep_55 : decode cX3_keep 55 = .ok (.iaload, 1) := dk_46 (dk_at dksX3_keep_2 7 rfl rfl)
theorem dX3_keep_56 : decode cX3_keep 56 = .ok (.iastore, 1) := dk_79 (dk_at dksX3_keep_2 8 rfl rfl)
theorem dX3_keep_57 : decode cX3_keep 57 = .ok (.iinc 10 1, 3) := dk_132 10 1 (dk_at dksX3_keep_2 9 rfl rfl)
theorem dX3_keep_60 : decode cX3_keep 60 = .ok (.goto (-20), 3) := dk_167 255 236 (dk_at dksX3_keep_2 12 rfl rfl)
theorem dX3_keep_63 : decode cX3_keep 63 = .ok (.iinc 9 (-1), 3) := dk_132 9 255 (dk_at dksX3_keep_2 15 rfl rfl)
theorem dX3_keep_66 : decode cX3_keep 66 = .ok (.aload_n 3, 1) := dk_45 (dk_at dksX3_keep_2 18 rfl rfl)
theorem dX3_keep_67 : decode cX3_keep 67 = .ok (.iconst 0, 1) := dk_3 (dk_at dksX3_keep_2 19 rfl rfl)
theorem dX3_keep_68 : decode cX3_keep 68 = .ok (.aload_n 0, 1) := dk_42 (dk_at dksX3_keep_2 20 rfl rfl)
theorem dX3_keep_69 : decode cX3_keep 69 = .ok (.bipush 49, 2) := dk_16 49 (dk_at dksX3_keep_2 21 rfl rfl)
theorem dX3_keep_71 : decode cX3_keep 71 = .ok (.iload 9, 2) := dk_21 9 (dk_at dksX3_keep_3 0 rfl rfl)
theorem dX3_keep_73 : decode cX3_keep 73 = .ok (.imul, 1) := dk_104 (dk_at dksX3_keep_3 2 rfl rfl)
theorem dX3_keep_74 : decode cX3_keep 74 = .ok (.bipush 49, 2) := dk_16 49 (dk_at dksX3_keep_3 3 rfl rfl)
theorem dX3_keep_76 : decode cX3_keep 76 = .ok (.invokestatic 399, 3) := dk_184 1 143 (dk_at dksX3_keep_3 5 rfl rfl)
theorem dX3_keep_79 : decode cX3_keep 79 = .ok (.aload_n 1, 1) := dk_43 (dk_at dksX3_keep_3 8 rfl rfl)
theorem dX3_keep_80 : decode cX3_keep 80 = .ok (.iconst 5, 1) := dk_8 (dk_at dksX3_keep_3 9 rfl rfl)
theorem dX3_keep_81 : decode cX3_keep 81 = .ok (.iload 9, 2) := dk_21 9 (dk_at dksX3_keep_3 10 rfl rfl)
theorem dX3_keep_83 : decode cX3_keep 83 = .ok (.imul, 1) := dk_104 (dk_at dksX3_keep_3 12 rfl rfl)
theorem dX3_keep_84 : decode cX3_keep 84 = .ok (.iload 4, 2) := dk_21 4 (dk_at dksX3_keep_3 13 rfl rfl)
theorem dX3_keep_86 : decode cX3_keep 86 = .ok (.iastore, 1) := dk_79 (dk_at dksX3_keep_3 15 rfl rfl)
theorem dX3_keep_87 : decode cX3_keep 87 = .ok (.aload_n 1, 1) := dk_43 (dk_at dksX3_keep_3 16 rfl rfl)
theorem dX3_keep_88 : decode cX3_keep 88 = .ok (.iconst 5, 1) := dk_8 (dk_at dksX3_keep_3 17 rfl rfl)
theorem dX3_keep_89 : decode cX3_keep 89 = .ok (.iload 9, 2) := dk_21 9 (dk_at dksX3_keep_3 18 rfl rfl)
theorem dX3_keep_91 : decode cX3_keep 91 = .ok (.imul, 1) := dk_104 (dk_at dksX3_keep_3 20 rfl rfl)
theorem dX3_keep_92 : decode cX3_keep 92 = .ok (.iconst 1, 1) := dk_4 (dk_at dksX3_keep_3 21 rfl rfl)
theorem dX3_keep_93 : decode cX3_keep 93 = .ok (.iadd, 1) := dk_96 (dk_at dksX3_keep_3 22 rfl rfl)
theorem dX3_keep_94 : decode cX3_keep 94 = .ok (.iload 5, 2) := dk_21 5 (dk_at dksX3_keep_4 0 rfl rfl)
theorem dX3_keep_96 : decode cX3_keep 96 = .ok (.iastore, 1) := dk_79 (dk_at dksX3_keep_4 2 rfl rfl)
theorem dX3_keep_97 : decode cX3_keep 97 = .ok (.aload_n 1, 1) := dk_43 (dk_at dksX3_keep_4 3 rfl rfl)
theorem dX3_keep_98 : decode cX3_keep 98 = .ok (.iconst 5, 1) := dk_8 (dk_at dksX3_keep_4 4 rfl rfl)
theorem dX3_keep_99 : decode cX3_keep 99 = .ok (.iload 9, 2) := dk_21 9 (dk_at dksX3_keep_4 5 rfl rfl)
theorem dX3_keep_101 : decode cX3_keep 101 = .ok (.imul, 1) := dk_104 (dk_at dksX3_keep_4 7 rfl rfl)
theorem dX3_keep_102 : decode cX3_keep 102 = .ok (.iconst 2, 1) := dk_5 (dk_at dksX3_keep_4 8 rfl rfl)
theorem dX3_keep_103 : decode cX3_keep 103 = .ok (.iadd, 1) := dk_96 (dk_at dksX3_keep_4 9 rfl rfl)
theorem dX3_keep_104 : decode cX3_keep 104 = .ok (.iload 6, 2) := dk_21 6 (dk_at dksX3_keep_4 10 rfl rfl)
theorem dX3_keep_106 : decode cX3_keep 106 = .ok (.iastore, 1) := dk_79 (dk_at dksX3_keep_4 12 rfl rfl)
theorem dX3_keep_107 : decode cX3_keep 107 = .ok (.aload_n 1, 1) := dk_43 (dk_at dksX3_keep_4 13 rfl rfl)
theorem dX3_keep_108 : decode cX3_keep 108 = .ok (.iconst 5, 1) := dk_8 (dk_at dksX3_keep_4 14 rfl rfl)
theorem dX3_keep_109 : decode cX3_keep 109 = .ok (.iload 9, 2) := dk_21 9 (dk_at dksX3_keep_4 15 rfl rfl)
theorem dX3_keep_111 : decode cX3_keep 111 = .ok (.imul, 1) := dk_104 (dk_at dksX3_keep_4 17 rfl rfl)
theorem dX3_keep_112 : decode cX3_keep 112 = .ok (.iconst 3, 1) := dk_6 (dk_at dksX3_keep_4 18 rfl rfl)
theorem dX3_keep_113 : decode cX3_keep 113 = .ok (.iadd, 1) := dk_96 (dk_at dksX3_keep_4 19 rfl rfl)
theorem dX3_keep_114 : decode cX3_keep 114 = .ok (.iload 7, 2) := dk_21 7 (dk_at dksX3_keep_4 20 rfl rfl)
theorem dX3_keep_116 : decode cX3_keep 116 = .ok (.iastore, 1) := dk_79 (dk_at dksX3_keep_4 22 rfl rfl)
theorem dX3_keep_117 : decode cX3_keep 117 = .ok (.aload_n 1, 1) := dk_43 (dk_at dksX3_keep_4 23 rfl rfl)
theorem dX3_keep_118 : decode cX3_keep 118 = .ok (.iconst 5, 1) := dk_8 (dk_at dksX3_keep_5 0 rfl rfl)
theorem dX3_keep_119 : decode cX3_keep 119 = .ok (.iload 9, 2) := dk_21 9 (dk_at dksX3_keep_5 1 rfl rfl)
theorem dX3_keep_121 : decode cX3_keep 121 = .ok (.imul, 1) := dk_104 (dk_at dksX3_keep_5 3 rfl rfl)
theorem dX3_keep_122 : decode cX3_keep 122 = .ok (.iconst 4, 1) := dk_7 (dk_at dksX3_keep_5 4 rfl rfl)
theorem dX3_keep_123 : decode cX3_keep 123 = .ok (.iadd, 1) := dk_96 (dk_at dksX3_keep_5 5 rfl rfl)
theorem dX3_keep_124 : decode cX3_keep 124 = .ok (.iload 8, 2) := dk_21 8 (dk_at dksX3_keep_5 6 rfl rfl)
theorem dX3_keep_126 : decode cX3_keep 126 = .ok (.iastore, 1) := dk_79 (dk_at dksX3_keep_5 8 rfl rfl)
theorem dX3_keep_127 : decode cX3_keep 127 = .ok (.return_, 1) := dk_177 (dk_at dksX3_keep_5 9 rfl rfl)
abbrev cX3_drop : ByteArray := prog_18_method_112_code
def yX3_drop : MethodName := ⟨RX3, "drop", "(I)Z"⟩
def dkwX3_drop_2 : List UInt8 := [182, 1, 147, 172]
abbrev dktX3_drop_2 : List UInt8 := dkwX3_drop_2 ++ []
def dkwX3_drop_1 : List UInt8 := [180, 0, 29, 3, 16, 49, 184, 1, 143, 42, 27, 182, 1, 151, 42, 4, 27, 16, 254, 16, 254, 16, 254]
abbrev dktX3_drop_1 : List UInt8 := dkwX3_drop_1 ++ dktX3_drop_2
def dkwX3_drop_0 : List UInt8 := [42, 182, 0, 174, 42, 27, 182, 0, 244, 154, 0, 9, 42, 4, 182, 1, 80, 172, 42, 180, 0, 20, 3, 42]
abbrev dktX3_drop_0 : List UInt8 := dkwX3_drop_0 ++ dktX3_drop_1
theorem dksX3_drop_0 : cX3_drop.data.toList.drop 0 = dktX3_drop_0 := by decide +kernel
theorem dksX3_drop_1 : cX3_drop.data.toList.drop 24 = dktX3_drop_1 := dk_seg dksX3_drop_0 24 rfl rfl
theorem dksX3_drop_2 : cX3_drop.data.toList.drop 47 = dktX3_drop_2 := dk_seg dksX3_drop_1 23 rfl rfl
theorem dX3_drop_0 : decode cX3_drop 0 = .ok (.aload_n 0, 1) := dk_42 (dk_at dksX3_drop_0 0 rfl rfl)
theorem dX3_drop_1 : decode cX3_drop 1 = .ok (.invokevirtual 174, 3) := dk_182 0 174 (dk_at dksX3_drop_0 1 rfl rfl)
theorem dX3_drop_4 : decode cX3_drop 4 = .ok (.aload_n 0, 1) := dk_42 (dk_at dksX3_drop_0 4 rfl rfl)
theorem dX3_drop_5 : decode cX3_drop 5 = .ok (.iload_n 1, 1) := dk_27 (dk_at dksX3_drop_0 5 rfl rfl)
theorem dX3_drop_6 : decode cX3_drop 6 = .ok (.invokevirtual 244, 3) := dk_182 0 244 (dk_at dksX3_drop_0 6 rfl rfl)
theorem dX3_drop_9 : decode cX3_drop 9 = .ok (.ifCond .ne 9, 3) := dk_154 0 9 (dk_at dksX3_drop_0 9 rfl rfl)
theorem dX3_drop_12 : decode cX3_drop 12 = .ok (.aload_n 0, 1) := dk_42 (dk_at dksX3_drop_0 12 rfl rfl)
theorem dX3_drop_13 : decode cX3_drop 13 = .ok (.iconst 1, 1) := dk_4 (dk_at dksX3_drop_0 13 rfl rfl)
theorem dX3_drop_14 : decode cX3_drop 14 = .ok (.invokevirtual 336, 3) := dk_182 1 80 (dk_at dksX3_drop_0 14 rfl rfl)
theorem dX3_drop_17 : decode cX3_drop 17 = .ok (.ireturn, 1) := dk_172 (dk_at dksX3_drop_0 17 rfl rfl)
theorem dX3_drop_18 : decode cX3_drop 18 = .ok (.aload_n 0, 1) := dk_42 (dk_at dksX3_drop_0 18 rfl rfl)
theorem dX3_drop_19 : decode cX3_drop 19 = .ok (.getfield 20, 3) := dk_180 0 20 (dk_at dksX3_drop_0 19 rfl rfl)
theorem dX3_drop_22 : decode cX3_drop 22 = .ok (.iconst 0, 1) := dk_3 (dk_at dksX3_drop_0 22 rfl rfl)
theorem dX3_drop_23 : decode cX3_drop 23 = .ok (.aload_n 0, 1) := dk_42 (dk_at dksX3_drop_0 23 rfl rfl)
theorem dX3_drop_24 : decode cX3_drop 24 = .ok (.getfield 29, 3) := dk_180 0 29 (dk_at dksX3_drop_1 0 rfl rfl)
theorem dX3_drop_27 : decode cX3_drop 27 = .ok (.iconst 0, 1) := dk_3 (dk_at dksX3_drop_1 3 rfl rfl)
theorem dX3_drop_28 : decode cX3_drop 28 = .ok (.bipush 49, 2) := dk_16 49 (dk_at dksX3_drop_1 4 rfl rfl)
theorem dX3_drop_30 : decode cX3_drop 30 = .ok (.invokestatic 399, 3) := dk_184 1 143 (dk_at dksX3_drop_1 6 rfl rfl)
theorem dX3_drop_33 : decode cX3_drop 33 = .ok (.aload_n 0, 1) := dk_42 (dk_at dksX3_drop_1 9 rfl rfl)
theorem dX3_drop_34 : decode cX3_drop 34 = .ok (.iload_n 1, 1) := dk_27 (dk_at dksX3_drop_1 10 rfl rfl)
theorem dX3_drop_35 : decode cX3_drop 35 = .ok (.invokevirtual 407, 3) := dk_182 1 151 (dk_at dksX3_drop_1 11 rfl rfl)
theorem dX3_drop_38 : decode cX3_drop 38 = .ok (.aload_n 0, 1) := dk_42 (dk_at dksX3_drop_1 14 rfl rfl)
theorem dX3_drop_39 : decode cX3_drop 39 = .ok (.iconst 1, 1) := dk_4 (dk_at dksX3_drop_1 15 rfl rfl)
theorem dX3_drop_40 : decode cX3_drop 40 = .ok (.iload_n 1, 1) := dk_27 (dk_at dksX3_drop_1 16 rfl rfl)
theorem dX3_drop_41 : decode cX3_drop 41 = .ok (.bipush (-2), 2) := dk_16 254 (dk_at dksX3_drop_1 17 rfl rfl)
theorem dX3_drop_43 : decode cX3_drop 43 = .ok (.bipush (-2), 2) := dk_16 254 (dk_at dksX3_drop_1 19 rfl rfl)
theorem dX3_drop_45 : decode cX3_drop 45 = .ok (.bipush (-2), 2) := dk_16 254 (dk_at dksX3_drop_1 21 rfl rfl)
theorem dX3_drop_47 : decode cX3_drop 47 = .ok (.invokevirtual 403, 3) := dk_182 1 147 (dk_at dksX3_drop_2 0 rfl rfl)
theorem dX3_drop_50 : decode cX3_drop 50 = .ok (.ireturn, 1) := dk_172 (dk_at dksX3_drop_2 3 rfl rfl)
abbrev cX3_goesAway : ByteArray := prog_18_method_111_code
def yX3_goesAway : MethodName := ⟨RX3, "goesAway", "(I)V"⟩
def dkwX3_goesAway_8 : List UInt8 := [132, 3, 1, 167, 255, 223, 177]
abbrev dktX3_goesAway_8 : List UInt8 := dkwX3_goesAway_8 ++ []
def dkwX3_goesAway_7 : List UInt8 := [180, 0, 20, 16, 17, 7, 28, 104, 96, 29, 96, 3, 79, 42, 180, 0, 26, 7, 28, 104, 29, 96, 3, 79]
abbrev dktX3_goesAway_7 : List UInt8 := dkwX3_goesAway_7 ++ dktX3_goesAway_8
def dkwX3_goesAway_6 : List UInt8 := [4, 28, 96, 3, 79, 42, 180, 0, 20, 16, 9, 28, 96, 3, 79, 3, 62, 29, 7, 162, 0, 34, 42]
abbrev dktX3_goesAway_6 : List UInt8 := dkwX3_goesAway_6 ++ dktX3_goesAway_7
def dkwX3_goesAway_5 : List UInt8 := [167, 255, 140, 42, 180, 0, 20, 3, 92, 46, 4, 100, 79, 42, 180, 0, 20, 3, 46, 61, 42, 180, 0, 20]
abbrev dktX3_goesAway_5 : List UInt8 := dkwX3_goesAway_5 ++ dktX3_goesAway_6
def dkwX3_goesAway_4 : List UInt8 := [29, 96, 42, 180, 0, 26, 7, 28, 104, 7, 96, 29, 96, 46, 79, 132, 3, 1, 167, 255, 198, 132, 2, 1]
abbrev dktX3_goesAway_4 : List UInt8 := dkwX3_goesAway_4 ++ dktX3_goesAway_5
def dkwX3_goesAway_3 : List UInt8 := [96, 42, 180, 0, 20, 16, 17, 7, 28, 104, 96, 7, 96, 29, 96, 46, 79, 42, 180, 0, 26, 7, 28, 104]
abbrev dktX3_goesAway_3 : List UInt8 := dkwX3_goesAway_3 ++ dktX3_goesAway_4
def dkwX3_goesAway_2 : List UInt8 := [28, 96, 4, 96, 46, 79, 3, 62, 29, 7, 162, 0, 59, 42, 180, 0, 20, 16, 17, 7, 28, 104, 96, 29]
abbrev dktX3_goesAway_2 : List UInt8 := dkwX3_goesAway_2 ++ dktX3_goesAway_3
def dkwX3_goesAway_1 : List UInt8 := [180, 0, 20, 4, 28, 96, 4, 96, 46, 79, 42, 180, 0, 20, 16, 9, 28, 96, 42, 180, 0, 20, 16, 9]
abbrev dktX3_goesAway_1 : List UInt8 := dkwX3_goesAway_1 ++ dktX3_goesAway_2
def dkwX3_goesAway_0 : List UInt8 := [27, 61, 28, 4, 96, 42, 180, 0, 20, 3, 46, 162, 0, 110, 42, 180, 0, 20, 4, 28, 96, 42]
abbrev dktX3_goesAway_0 : List UInt8 := dkwX3_goesAway_0 ++ dktX3_goesAway_1
theorem dksX3_goesAway_0 : cX3_goesAway.data.toList.drop 0 = dktX3_goesAway_0 := by decide +kernel
theorem dksX3_goesAway_1 : cX3_goesAway.data.toList.drop 22 = dktX3_goesAway_1 := dk_seg dksX3_goesAway_0 22 rfl rfl
theorem dksX3_goesAway_2 : cX3_goesAway.data.toList.drop 46 = dktX3_goesAway_2 := dk_seg dksX3_goesAway_1 24 rfl rfl
theorem dksX3_goesAway_3 : cX3_goesAway.data.toList.drop 70 = dktX3_goesAway_3 := dk_seg dksX3_goesAway_2 24 rfl rfl
theorem dksX3_goesAway_4 : cX3_goesAway.data.toList.drop 94 = dktX3_goesAway_4 := dk_seg dksX3_goesAway_3 24 rfl rfl
theorem dksX3_goesAway_5 : cX3_goesAway.data.toList.drop 118 = dktX3_goesAway_5 := dk_seg dksX3_goesAway_4 24 rfl rfl
theorem dksX3_goesAway_6 : cX3_goesAway.data.toList.drop 142 = dktX3_goesAway_6 := dk_seg dksX3_goesAway_5 24 rfl rfl
theorem dksX3_goesAway_7 : cX3_goesAway.data.toList.drop 165 = dktX3_goesAway_7 := dk_seg dksX3_goesAway_6 23 rfl rfl
theorem dksX3_goesAway_8 : cX3_goesAway.data.toList.drop 189 = dktX3_goesAway_8 := dk_seg dksX3_goesAway_7 24 rfl rfl
theorem dX3_goesAway_0 : decode cX3_goesAway 0 = .ok (.iload_n 1, 1) := dk_27 (dk_at dksX3_goesAway_0 0 rfl rfl)
theorem dX3_goesAway_1 : decode cX3_goesAway 1 = .ok (.istore_n 2, 1) := dk_61 (dk_at dksX3_goesAway_0 1 rfl rfl)
theorem dX3_goesAway_2 : decode cX3_goesAway 2 = .ok (.iload_n 2, 1) := dk_28 (dk_at dksX3_goesAway_0 2 rfl rfl)
theorem dX3_goesAway_3 : decode cX3_goesAway 3 = .ok (.iconst 1, 1) := dk_4 (dk_at dksX3_goesAway_0 3 rfl rfl)
theorem dX3_goesAway_4 : decode cX3_goesAway 4 = .ok (.iadd, 1) := dk_96 (dk_at dksX3_goesAway_0 4 rfl rfl)
theorem dX3_goesAway_5 : decode cX3_goesAway 5 = .ok (.aload_n 0, 1) := dk_42 (dk_at dksX3_goesAway_0 5 rfl rfl)
theorem dX3_goesAway_6 : decode cX3_goesAway 6 = .ok (.getfield 20, 3) := dk_180 0 20 (dk_at dksX3_goesAway_0 6 rfl rfl)
theorem dX3_goesAway_9 : decode cX3_goesAway 9 = .ok (.iconst 0, 1) := dk_3 (dk_at dksX3_goesAway_0 9 rfl rfl)
theorem dX3_goesAway_10 : decode cX3_goesAway 10 = .ok (.iaload, 1) := dk_46 (dk_at dksX3_goesAway_0 10 rfl rfl)
theorem dX3_goesAway_11 : decode cX3_goesAway 11 = .ok (.if_icmp .ge 110, 3) := dk_162 0 110 (dk_at dksX3_goesAway_0 11 rfl rfl)
theorem dX3_goesAway_14 : decode cX3_goesAway 14 = .ok (.aload_n 0, 1) := dk_42 (dk_at dksX3_goesAway_0 14 rfl rfl)
theorem dX3_goesAway_15 : decode cX3_goesAway 15 = .ok (.getfield 20, 3) := dk_180 0 20 (dk_at dksX3_goesAway_0 15 rfl rfl)
theorem dX3_goesAway_18 : decode cX3_goesAway 18 = .ok (.iconst 1, 1) := dk_4 (dk_at dksX3_goesAway_0 18 rfl rfl)
theorem dX3_goesAway_19 : decode cX3_goesAway 19 = .ok (.iload_n 2, 1) := dk_28 (dk_at dksX3_goesAway_0 19 rfl rfl)
theorem dX3_goesAway_20 : decode cX3_goesAway 20 = .ok (.iadd, 1) := dk_96 (dk_at dksX3_goesAway_0 20 rfl rfl)
theorem dX3_goesAway_21 : decode cX3_goesAway 21 = .ok (.aload_n 0, 1) := dk_42 (dk_at dksX3_goesAway_0 21 rfl rfl)
theorem dX3_goesAway_22 : decode cX3_goesAway 22 = .ok (.getfield 20, 3) := dk_180 0 20 (dk_at dksX3_goesAway_1 0 rfl rfl)
theorem dX3_goesAway_25 : decode cX3_goesAway 25 = .ok (.iconst 1, 1) := dk_4 (dk_at dksX3_goesAway_1 3 rfl rfl)
theorem dX3_goesAway_26 : decode cX3_goesAway 26 = .ok (.iload_n 2, 1) := dk_28 (dk_at dksX3_goesAway_1 4 rfl rfl)
theorem dX3_goesAway_27 : decode cX3_goesAway 27 = .ok (.iadd, 1) := dk_96 (dk_at dksX3_goesAway_1 5 rfl rfl)
theorem dX3_goesAway_28 : decode cX3_goesAway 28 = .ok (.iconst 1, 1) := dk_4 (dk_at dksX3_goesAway_1 6 rfl rfl)
theorem dX3_goesAway_29 : decode cX3_goesAway 29 = .ok (.iadd, 1) := dk_96 (dk_at dksX3_goesAway_1 7 rfl rfl)
theorem dX3_goesAway_30 : decode cX3_goesAway 30 = .ok (.iaload, 1) := dk_46 (dk_at dksX3_goesAway_1 8 rfl rfl)
theorem dX3_goesAway_31 : decode cX3_goesAway 31 = .ok (.iastore, 1) := dk_79 (dk_at dksX3_goesAway_1 9 rfl rfl)
theorem dX3_goesAway_32 : decode cX3_goesAway 32 = .ok (.aload_n 0, 1) := dk_42 (dk_at dksX3_goesAway_1 10 rfl rfl)
theorem dX3_goesAway_33 : decode cX3_goesAway 33 = .ok (.getfield 20, 3) := dk_180 0 20 (dk_at dksX3_goesAway_1 11 rfl rfl)
theorem dX3_goesAway_36 : decode cX3_goesAway 36 = .ok (.bipush 9, 2) := dk_16 9 (dk_at dksX3_goesAway_1 14 rfl rfl)
theorem dX3_goesAway_38 : decode cX3_goesAway 38 = .ok (.iload_n 2, 1) := dk_28 (dk_at dksX3_goesAway_1 16 rfl rfl)
theorem dX3_goesAway_39 : decode cX3_goesAway 39 = .ok (.iadd, 1) := dk_96 (dk_at dksX3_goesAway_1 17 rfl rfl)
theorem dX3_goesAway_40 : decode cX3_goesAway 40 = .ok (.aload_n 0, 1) := dk_42 (dk_at dksX3_goesAway_1 18 rfl rfl)
theorem dX3_goesAway_41 : decode cX3_goesAway 41 = .ok (.getfield 20, 3) := dk_180 0 20 (dk_at dksX3_goesAway_1 19 rfl rfl)
theorem dX3_goesAway_44 : decode cX3_goesAway 44 = .ok (.bipush 9, 2) := dk_16 9 (dk_at dksX3_goesAway_1 22 rfl rfl)
theorem dX3_goesAway_46 : decode cX3_goesAway 46 = .ok (.iload_n 2, 1) := dk_28 (dk_at dksX3_goesAway_2 0 rfl rfl)
theorem dX3_goesAway_47 : decode cX3_goesAway 47 = .ok (.iadd, 1) := dk_96 (dk_at dksX3_goesAway_2 1 rfl rfl)
theorem dX3_goesAway_48 : decode cX3_goesAway 48 = .ok (.iconst 1, 1) := dk_4 (dk_at dksX3_goesAway_2 2 rfl rfl)
theorem dX3_goesAway_49 : decode cX3_goesAway 49 = .ok (.iadd, 1) := dk_96 (dk_at dksX3_goesAway_2 3 rfl rfl)
theorem dX3_goesAway_50 : decode cX3_goesAway 50 = .ok (.iaload, 1) := dk_46 (dk_at dksX3_goesAway_2 4 rfl rfl)
theorem dX3_goesAway_51 : decode cX3_goesAway 51 = .ok (.iastore, 1) := dk_79 (dk_at dksX3_goesAway_2 5 rfl rfl)
theorem dX3_goesAway_52 : decode cX3_goesAway 52 = .ok (.iconst 0, 1) := dk_3 (dk_at dksX3_goesAway_2 6 rfl rfl)
theorem dX3_goesAway_53 : decode cX3_goesAway 53 = .ok (.istore_n 3, 1) := dk_62 (dk_at dksX3_goesAway_2 7 rfl rfl)
theorem dX3_goesAway_54 : decode cX3_goesAway 54 = .ok (.iload_n 3, 1) := dk_29 (dk_at dksX3_goesAway_2 8 rfl rfl)
theorem dX3_goesAway_55 : decode cX3_goesAway 55 = .ok (.iconst 4, 1) := dk_7 (dk_at dksX3_goesAway_2 9 rfl rfl)
theorem dX3_goesAway_56 : decode cX3_goesAway 56 = .ok (.if_icmp .ge 59, 3) := dk_162 0 59 (dk_at dksX3_goesAway_2 10 rfl rfl)
theorem dX3_goesAway_59 : decode cX3_goesAway 59 = .ok (.aload_n 0, 1) := dk_42 (dk_at dksX3_goesAway_2 13 rfl rfl)
theorem dX3_goesAway_60 : decode cX3_goesAway 60 = .ok (.getfield 20, 3) := dk_180 0 20 (dk_at dksX3_goesAway_2 14 rfl rfl)
theorem dX3_goesAway_63 : decode cX3_goesAway 63 = .ok (.bipush 17, 2) := dk_16 17 (dk_at dksX3_goesAway_2 17 rfl rfl)
theorem dX3_goesAway_65 : decode cX3_goesAway 65 = .ok (.iconst 4, 1) := dk_7 (dk_at dksX3_goesAway_2 19 rfl rfl)
theorem dX3_goesAway_66 : decode cX3_goesAway 66 = .ok (.iload_n 2, 1) := dk_28 (dk_at dksX3_goesAway_2 20 rfl rfl)
theorem dX3_goesAway_67 : decode cX3_goesAway 67 = .ok (.imul, 1) := dk_104 (dk_at dksX3_goesAway_2 21 rfl rfl)
theorem dX3_goesAway_68 : decode cX3_goesAway 68 = .ok (.iadd, 1) := dk_96 (dk_at dksX3_goesAway_2 22 rfl rfl)
theorem dX3_goesAway_69 : decode cX3_goesAway 69 = .ok (.iload_n 3, 1) := dk_29 (dk_at dksX3_goesAway_2 23 rfl rfl)
theorem dX3_goesAway_70 : decode cX3_goesAway 70 = .ok (.iadd, 1) := dk_96 (dk_at dksX3_goesAway_3 0 rfl rfl)
theorem dX3_goesAway_71 : decode cX3_goesAway 71 = .ok (.aload_n 0, 1) := dk_42 (dk_at dksX3_goesAway_3 1 rfl rfl)
theorem dX3_goesAway_72 : decode cX3_goesAway 72 = .ok (.getfield 20, 3) := dk_180 0 20 (dk_at dksX3_goesAway_3 2 rfl rfl)
theorem dX3_goesAway_75 : decode cX3_goesAway 75 = .ok (.bipush 17, 2) := dk_16 17 (dk_at dksX3_goesAway_3 5 rfl rfl)
theorem dX3_goesAway_77 : decode cX3_goesAway 77 = .ok (.iconst 4, 1) := dk_7 (dk_at dksX3_goesAway_3 7 rfl rfl)
theorem dX3_goesAway_78 : decode cX3_goesAway 78 = .ok (.iload_n 2, 1) := dk_28 (dk_at dksX3_goesAway_3 8 rfl rfl)
theorem dX3_goesAway_79 : decode cX3_goesAway 79 = .ok (.imul, 1) := dk_104 (dk_at dksX3_goesAway_3 9 rfl rfl)
theorem dX3_goesAway_80 : decode cX3_goesAway 80 = .ok (.iadd, 1) := dk_96 (dk_at dksX3_goesAway_3 10 rfl rfl)
theorem dX3_goesAway_81 : decode cX3_goesAway 81 = .ok (.iconst 4, 1) := dk_7 (dk_at dksX3_goesAway_3 11 rfl rfl)
theorem dX3_goesAway_82 : decode cX3_goesAway 82 = .ok (.iadd, 1) := dk_96 (dk_at dksX3_goesAway_3 12 rfl rfl)
theorem dX3_goesAway_83 : decode cX3_goesAway 83 = .ok (.iload_n 3, 1) := dk_29 (dk_at dksX3_goesAway_3 13 rfl rfl)
theorem dX3_goesAway_84 : decode cX3_goesAway 84 = .ok (.iadd, 1) := dk_96 (dk_at dksX3_goesAway_3 14 rfl rfl)
theorem dX3_goesAway_85 : decode cX3_goesAway 85 = .ok (.iaload, 1) := dk_46 (dk_at dksX3_goesAway_3 15 rfl rfl)
theorem dX3_goesAway_86 : decode cX3_goesAway 86 = .ok (.iastore, 1) := dk_79 (dk_at dksX3_goesAway_3 16 rfl rfl)
theorem dX3_goesAway_87 : decode cX3_goesAway 87 = .ok (.aload_n 0, 1) := dk_42 (dk_at dksX3_goesAway_3 17 rfl rfl)
theorem dX3_goesAway_88 : decode cX3_goesAway 88 = .ok (.getfield 26, 3) := dk_180 0 26 (dk_at dksX3_goesAway_3 18 rfl rfl)
theorem dX3_goesAway_91 : decode cX3_goesAway 91 = .ok (.iconst 4, 1) := dk_7 (dk_at dksX3_goesAway_3 21 rfl rfl)
theorem dX3_goesAway_92 : decode cX3_goesAway 92 = .ok (.iload_n 2, 1) := dk_28 (dk_at dksX3_goesAway_3 22 rfl rfl)
theorem dX3_goesAway_93 : decode cX3_goesAway 93 = .ok (.imul, 1) := dk_104 (dk_at dksX3_goesAway_3 23 rfl rfl)
theorem dX3_goesAway_94 : decode cX3_goesAway 94 = .ok (.iload_n 3, 1) := dk_29 (dk_at dksX3_goesAway_4 0 rfl rfl)
theorem dX3_goesAway_95 : decode cX3_goesAway 95 = .ok (.iadd, 1) := dk_96 (dk_at dksX3_goesAway_4 1 rfl rfl)
theorem dX3_goesAway_96 : decode cX3_goesAway 96 = .ok (.aload_n 0, 1) := dk_42 (dk_at dksX3_goesAway_4 2 rfl rfl)
theorem dX3_goesAway_97 : decode cX3_goesAway 97 = .ok (.getfield 26, 3) := dk_180 0 26 (dk_at dksX3_goesAway_4 3 rfl rfl)
theorem dX3_goesAway_100 : decode cX3_goesAway 100 = .ok (.iconst 4, 1) := dk_7 (dk_at dksX3_goesAway_4 6 rfl rfl)
theorem dX3_goesAway_101 : decode cX3_goesAway 101 = .ok (.iload_n 2, 1) := dk_28 (dk_at dksX3_goesAway_4 7 rfl rfl)
theorem dX3_goesAway_102 : decode cX3_goesAway 102 = .ok (.imul, 1) := dk_104 (dk_at dksX3_goesAway_4 8 rfl rfl)
theorem dX3_goesAway_103 : decode cX3_goesAway 103 = .ok (.iconst 4, 1) := dk_7 (dk_at dksX3_goesAway_4 9 rfl rfl)
theorem dX3_goesAway_104 : decode cX3_goesAway 104 = .ok (.iadd, 1) := dk_96 (dk_at dksX3_goesAway_4 10 rfl rfl)
theorem dX3_goesAway_105 : decode cX3_goesAway 105 = .ok (.iload_n 3, 1) := dk_29 (dk_at dksX3_goesAway_4 11 rfl rfl)
theorem dX3_goesAway_106 : decode cX3_goesAway 106 = .ok (.iadd, 1) := dk_96 (dk_at dksX3_goesAway_4 12 rfl rfl)
theorem dX3_goesAway_107 : decode cX3_goesAway 107 = .ok (.iaload, 1) := dk_46 (dk_at dksX3_goesAway_4 13 rfl rfl)
theorem dX3_goesAway_108 : decode cX3_goesAway 108 = .ok (.iastore, 1) := dk_79 (dk_at dksX3_goesAway_4 14 rfl rfl)
theorem dX3_goesAway_109 : decode cX3_goesAway 109 = .ok (.iinc 3 1, 3) := dk_132 3 1 (dk_at dksX3_goesAway_4 15 rfl rfl)
theorem dX3_goesAway_112 : decode cX3_goesAway 112 = .ok (.goto (-58), 3) := dk_167 255 198 (dk_at dksX3_goesAway_4 18 rfl rfl)
theorem dX3_goesAway_115 : decode cX3_goesAway 115 = .ok (.iinc 2 1, 3) := dk_132 2 1 (dk_at dksX3_goesAway_4 21 rfl rfl)
theorem dX3_goesAway_118 : decode cX3_goesAway 118 = .ok (.goto (-116), 3) := dk_167 255 140 (dk_at dksX3_goesAway_5 0 rfl rfl)
theorem dX3_goesAway_121 : decode cX3_goesAway 121 = .ok (.aload_n 0, 1) := dk_42 (dk_at dksX3_goesAway_5 3 rfl rfl)
theorem dX3_goesAway_122 : decode cX3_goesAway 122 = .ok (.getfield 20, 3) := dk_180 0 20 (dk_at dksX3_goesAway_5 4 rfl rfl)
theorem dX3_goesAway_125 : decode cX3_goesAway 125 = .ok (.iconst 0, 1) := dk_3 (dk_at dksX3_goesAway_5 7 rfl rfl)
theorem dX3_goesAway_126 : decode cX3_goesAway 126 = .ok (.dup2, 1) := dk_92 (dk_at dksX3_goesAway_5 8 rfl rfl)
theorem dX3_goesAway_127 : decode cX3_goesAway 127 = .ok (.iaload, 1) := dk_46 (dk_at dksX3_goesAway_5 9 rfl rfl)
theorem dX3_goesAway_128 : decode cX3_goesAway 128 = .ok (.iconst 1, 1) := dk_4 (dk_at dksX3_goesAway_5 10 rfl rfl)
theorem dX3_goesAway_129 : decode cX3_goesAway 129 = .ok (.isub, 1) := dk_100 (dk_at dksX3_goesAway_5 11 rfl rfl)
theorem dX3_goesAway_130 : decode cX3_goesAway 130 = .ok (.iastore, 1) := dk_79 (dk_at dksX3_goesAway_5 12 rfl rfl)
theorem dX3_goesAway_131 : decode cX3_goesAway 131 = .ok (.aload_n 0, 1) := dk_42 (dk_at dksX3_goesAway_5 13 rfl rfl)
theorem dX3_goesAway_132 : decode cX3_goesAway 132 = .ok (.getfield 20, 3) := dk_180 0 20 (dk_at dksX3_goesAway_5 14 rfl rfl)
theorem dX3_goesAway_135 : decode cX3_goesAway 135 = .ok (.iconst 0, 1) := dk_3 (dk_at dksX3_goesAway_5 17 rfl rfl)
theorem dX3_goesAway_136 : decode cX3_goesAway 136 = .ok (.iaload, 1) := dk_46 (dk_at dksX3_goesAway_5 18 rfl rfl)
theorem dX3_goesAway_137 : decode cX3_goesAway 137 = .ok (.istore_n 2, 1) := dk_61 (dk_at dksX3_goesAway_5 19 rfl rfl)
theorem dX3_goesAway_138 : decode cX3_goesAway 138 = .ok (.aload_n 0, 1) := dk_42 (dk_at dksX3_goesAway_5 20 rfl rfl)
theorem dX3_goesAway_139 : decode cX3_goesAway 139 = .ok (.getfield 20, 3) := dk_180 0 20 (dk_at dksX3_goesAway_5 21 rfl rfl)
theorem dX3_goesAway_142 : decode cX3_goesAway 142 = .ok (.iconst 1, 1) := dk_4 (dk_at dksX3_goesAway_6 0 rfl rfl)
theorem dX3_goesAway_143 : decode cX3_goesAway 143 = .ok (.iload_n 2, 1) := dk_28 (dk_at dksX3_goesAway_6 1 rfl rfl)
theorem dX3_goesAway_144 : decode cX3_goesAway 144 = .ok (.iadd, 1) := dk_96 (dk_at dksX3_goesAway_6 2 rfl rfl)
theorem dX3_goesAway_145 : decode cX3_goesAway 145 = .ok (.iconst 0, 1) := dk_3 (dk_at dksX3_goesAway_6 3 rfl rfl)
theorem dX3_goesAway_146 : decode cX3_goesAway 146 = .ok (.iastore, 1) := dk_79 (dk_at dksX3_goesAway_6 4 rfl rfl)
theorem dX3_goesAway_147 : decode cX3_goesAway 147 = .ok (.aload_n 0, 1) := dk_42 (dk_at dksX3_goesAway_6 5 rfl rfl)
theorem dX3_goesAway_148 : decode cX3_goesAway 148 = .ok (.getfield 20, 3) := dk_180 0 20 (dk_at dksX3_goesAway_6 6 rfl rfl)
theorem dX3_goesAway_151 : decode cX3_goesAway 151 = .ok (.bipush 9, 2) := dk_16 9 (dk_at dksX3_goesAway_6 9 rfl rfl)
theorem dX3_goesAway_153 : decode cX3_goesAway 153 = .ok (.iload_n 2, 1) := dk_28 (dk_at dksX3_goesAway_6 11 rfl rfl)
theorem dX3_goesAway_154 : decode cX3_goesAway 154 = .ok (.iadd, 1) := dk_96 (dk_at dksX3_goesAway_6 12 rfl rfl)
theorem dX3_goesAway_155 : decode cX3_goesAway 155 = .ok (.iconst 0, 1) := dk_3 (dk_at dksX3_goesAway_6 13 rfl rfl)
theorem dX3_goesAway_156 : decode cX3_goesAway 156 = .ok (.iastore, 1) := dk_79 (dk_at dksX3_goesAway_6 14 rfl rfl)
theorem dX3_goesAway_157 : decode cX3_goesAway 157 = .ok (.iconst 0, 1) := dk_3 (dk_at dksX3_goesAway_6 15 rfl rfl)
theorem dX3_goesAway_158 : decode cX3_goesAway 158 = .ok (.istore_n 3, 1) := dk_62 (dk_at dksX3_goesAway_6 16 rfl rfl)
theorem dX3_goesAway_159 : decode cX3_goesAway 159 = .ok (.iload_n 3, 1) := dk_29 (dk_at dksX3_goesAway_6 17 rfl rfl)
theorem dX3_goesAway_160 : decode cX3_goesAway 160 = .ok (.iconst 4, 1) := dk_7 (dk_at dksX3_goesAway_6 18 rfl rfl)
theorem dX3_goesAway_161 : decode cX3_goesAway 161 = .ok (.if_icmp .ge 34, 3) := dk_162 0 34 (dk_at dksX3_goesAway_6 19 rfl rfl)
theorem dX3_goesAway_164 : decode cX3_goesAway 164 = .ok (.aload_n 0, 1) := dk_42 (dk_at dksX3_goesAway_6 22 rfl rfl)
theorem dX3_goesAway_165 : decode cX3_goesAway 165 = .ok (.getfield 20, 3) := dk_180 0 20 (dk_at dksX3_goesAway_7 0 rfl rfl)
theorem dX3_goesAway_168 : decode cX3_goesAway 168 = .ok (.bipush 17, 2) := dk_16 17 (dk_at dksX3_goesAway_7 3 rfl rfl)
theorem dX3_goesAway_170 : decode cX3_goesAway 170 = .ok (.iconst 4, 1) := dk_7 (dk_at dksX3_goesAway_7 5 rfl rfl)
theorem dX3_goesAway_171 : decode cX3_goesAway 171 = .ok (.iload_n 2, 1) := dk_28 (dk_at dksX3_goesAway_7 6 rfl rfl)
theorem dX3_goesAway_172 : decode cX3_goesAway 172 = .ok (.imul, 1) := dk_104 (dk_at dksX3_goesAway_7 7 rfl rfl)
theorem dX3_goesAway_173 : decode cX3_goesAway 173 = .ok (.iadd, 1) := dk_96 (dk_at dksX3_goesAway_7 8 rfl rfl)
theorem dX3_goesAway_174 : decode cX3_goesAway 174 = .ok (.iload_n 3, 1) := dk_29 (dk_at dksX3_goesAway_7 9 rfl rfl)
theorem dX3_goesAway_175 : decode cX3_goesAway 175 = .ok (.iadd, 1) := dk_96 (dk_at dksX3_goesAway_7 10 rfl rfl)
theorem dX3_goesAway_176 : decode cX3_goesAway 176 = .ok (.iconst 0, 1) := dk_3 (dk_at dksX3_goesAway_7 11 rfl rfl)
theorem dX3_goesAway_177 : decode cX3_goesAway 177 = .ok (.iastore, 1) := dk_79 (dk_at dksX3_goesAway_7 12 rfl rfl)
theorem dX3_goesAway_178 : decode cX3_goesAway 178 = .ok (.aload_n 0, 1) := dk_42 (dk_at dksX3_goesAway_7 13 rfl rfl)
theorem dX3_goesAway_179 : decode cX3_goesAway 179 = .ok (.getfield 26, 3) := dk_180 0 26 (dk_at dksX3_goesAway_7 14 rfl rfl)
theorem dX3_goesAway_182 : decode cX3_goesAway 182 = .ok (.iconst 4, 1) := dk_7 (dk_at dksX3_goesAway_7 17 rfl rfl)
theorem dX3_goesAway_183 : decode cX3_goesAway 183 = .ok (.iload_n 2, 1) := dk_28 (dk_at dksX3_goesAway_7 18 rfl rfl)
theorem dX3_goesAway_184 : decode cX3_goesAway 184 = .ok (.imul, 1) := dk_104 (dk_at dksX3_goesAway_7 19 rfl rfl)
theorem dX3_goesAway_185 : decode cX3_goesAway 185 = .ok (.iload_n 3, 1) := dk_29 (dk_at dksX3_goesAway_7 20 rfl rfl)
theorem dX3_goesAway_186 : decode cX3_goesAway 186 = .ok (.iadd, 1) := dk_96 (dk_at dksX3_goesAway_7 21 rfl rfl)
theorem dX3_goesAway_187 : decode cX3_goesAway 187 = .ok (.iconst 0, 1) := dk_3 (dk_at dksX3_goesAway_7 22 rfl rfl)
theorem dX3_goesAway_188 : decode cX3_goesAway 188 = .ok (.iastore, 1) := dk_79 (dk_at dksX3_goesAway_7 23 rfl rfl)
theorem dX3_goesAway_189 : decode cX3_goesAway 189 = .ok (.iinc 3 1, 3) := dk_132 3 1 (dk_at dksX3_goesAway_8 0 rfl rfl)
theorem dX3_goesAway_192 : decode cX3_goesAway 192 = .ok (.goto (-33), 3) := dk_167 255 223 (dk_at dksX3_goesAway_8 3 rfl rfl)
theorem dX3_goesAway_195 : decode cX3_goesAway 195 = .ok (.return_, 1) := dk_177 (dk_at dksX3_goesAway_8 6 rfl rfl)
abbrev cX3_forget : ByteArray := prog_18_method_113_code
def yX3_forget : MethodName := ⟨RX3, "forget", "(I)Z"⟩
def dkwX3_forget_17 : List UInt8 := [172]
abbrev dktX3_forget_17 : List UInt8 := dkwX3_forget_17 ++ []
def dkwX3_forget_16 : List UInt8 := [132, 8, 1, 167, 255, 235, 132, 3, 255, 167, 254, 232, 42, 5, 27, 16, 254, 16, 254, 16, 254, 182, 1, 147]
abbrev dktX3_forget_16 : List UInt8 := dkwX3_forget_16 ++ dktX3_forget_17
def dkwX3_forget_15 : List UInt8 := [96, 3, 79, 3, 54, 8, 21, 8, 7, 162, 0, 21, 42, 180, 0, 26, 7, 29, 104, 21, 8, 96, 3, 79]
abbrev dktX3_forget_15 : List UInt8 := dkwX3_forget_15 ++ dktX3_forget_16
def dkwX3_forget_14 : List UInt8 := [21, 5, 4, 96, 21, 7, 79, 42, 180, 0, 20, 21, 5, 5, 96, 3, 79, 42, 180, 0, 20, 21, 5, 6]
abbrev dktX3_forget_14 : List UInt8 := dkwX3_forget_14 ++ dktX3_forget_15
def dkwX3_forget_13 : List UInt8 := [42, 180, 0, 20, 16, 9, 29, 96, 16, 254, 79, 42, 180, 0, 20, 21, 5, 21, 6, 79, 42, 180, 0, 20]
abbrev dktX3_forget_13 : List UInt8 := dkwX3_forget_13 ++ dktX3_forget_14
def dkwX3_forget_12 : List UInt8 := [153, 0, 15, 42, 180, 0, 20, 16, 9, 29, 96, 46, 167, 0, 11, 42, 180, 0, 20, 4, 29, 96, 46, 79]
abbrev dktX3_forget_12 : List UInt8 := dkwX3_forget_12 ++ dktX3_forget_13
def dkwX3_forget_11 : List UInt8 := [5, 96, 46, 42, 180, 0, 20, 21, 5, 6, 96, 46, 96, 54, 7, 42, 180, 0, 20, 4, 29, 96, 21, 4]
abbrev dktX3_forget_11 : List UInt8 := dkwX3_forget_11 ++ dktX3_forget_12
def dkwX3_forget_10 : List UInt8 := [21, 5, 4, 96, 46, 42, 180, 0, 20, 21, 5, 6, 96, 46, 96, 167, 0, 22, 42, 180, 0, 20, 21, 5]
abbrev dktX3_forget_10 : List UInt8 := dkwX3_forget_10 ++ dktX3_forget_11
def dkwX3_forget_9 : List UInt8 := [21, 5, 46, 42, 180, 0, 20, 21, 5, 4, 96, 46, 96, 54, 6, 21, 4, 153, 0, 25, 42, 180, 0, 20]
abbrev dktX3_forget_9 : List UInt8 := dkwX3_forget_9 ++ dktX3_forget_10
def dkwX3_forget_8 : List UInt8 := [180, 0, 20, 21, 5, 46, 42, 180, 0, 20, 21, 5, 5, 96, 46, 96, 167, 0, 20, 42, 180, 0, 20]
abbrev dktX3_forget_8 : List UInt8 := dkwX3_forget_8 ++ dktX3_forget_9
def dkwX3_forget_7 : List UInt8 := [42, 29, 182, 1, 151, 167, 0, 214, 16, 17, 7, 29, 104, 96, 54, 5, 21, 4, 153, 0, 23, 42]
abbrev dktX3_forget_7 : List UInt8 := dkwX3_forget_7 ++ dktX3_forget_8
def dkwX3_forget_6 : List UInt8 := [29, 96, 46, 27, 159, 0, 6, 167, 0, 236, 42, 180, 0, 20, 16, 9, 29, 96, 46, 16, 254, 160, 0, 11]
abbrev dktX3_forget_6 : List UInt8 := dkwX3_forget_6 ++ dktX3_forget_7
def dkwX3_forget_5 : List UInt8 := [96, 46, 27, 160, 0, 7, 4, 167, 0, 4, 3, 54, 4, 21, 4, 154, 0, 19, 42, 180, 0, 20, 16, 9]
abbrev dktX3_forget_5 : List UInt8 := dkwX3_forget_5 ++ dktX3_forget_6
def dkwX3_forget_4 : List UInt8 := [16, 49, 184, 1, 143, 42, 180, 0, 20, 3, 46, 4, 100, 62, 29, 155, 1, 26, 42, 180, 0, 20, 4, 29]
abbrev dktX3_forget_4 : List UInt8 := dkwX3_forget_4 ++ dktX3_forget_5
def dkwX3_forget_3 : List UInt8 := [167, 255, 208, 28, 154, 0, 9, 42, 8, 182, 1, 80, 172, 42, 180, 0, 20, 3, 42, 180, 0, 29, 3]
abbrev dktX3_forget_3 : List UInt8 := dkwX3_forget_3 ++ dktX3_forget_4
def dkwX3_forget_2 : List UInt8 := [42, 180, 0, 20, 16, 9, 29, 96, 46, 27, 160, 0, 7, 4, 167, 0, 4, 3, 61, 132, 3, 1]
abbrev dktX3_forget_2 : List UInt8 := dkwX3_forget_2 ++ dktX3_forget_3
def dkwX3_forget_1 : List UInt8 := [180, 0, 20, 3, 46, 162, 0, 44, 28, 154, 0, 28, 42, 180, 0, 20, 4, 29, 96, 46, 27, 159, 0, 16]
abbrev dktX3_forget_1 : List UInt8 := dkwX3_forget_1 ++ dktX3_forget_2
def dkwX3_forget_0 : List UInt8 := [42, 182, 0, 174, 42, 27, 182, 1, 40, 154, 0, 9, 42, 4, 182, 1, 80, 172, 3, 61, 3, 62, 29, 42]
abbrev dktX3_forget_0 : List UInt8 := dkwX3_forget_0 ++ dktX3_forget_1
theorem dksX3_forget_0 : cX3_forget.data.toList.drop 0 = dktX3_forget_0 := by decide +kernel
theorem dksX3_forget_1 : cX3_forget.data.toList.drop 24 = dktX3_forget_1 := dk_seg dksX3_forget_0 24 rfl rfl
theorem dksX3_forget_2 : cX3_forget.data.toList.drop 48 = dktX3_forget_2 := dk_seg dksX3_forget_1 24 rfl rfl
theorem dksX3_forget_3 : cX3_forget.data.toList.drop 70 = dktX3_forget_3 := dk_seg dksX3_forget_2 22 rfl rfl
theorem dksX3_forget_4 : cX3_forget.data.toList.drop 93 = dktX3_forget_4 := dk_seg dksX3_forget_3 23 rfl rfl
theorem dksX3_forget_5 : cX3_forget.data.toList.drop 117 = dktX3_forget_5 := dk_seg dksX3_forget_4 24 rfl rfl
theorem dksX3_forget_6 : cX3_forget.data.toList.drop 141 = dktX3_forget_6 := dk_seg dksX3_forget_5 24 rfl rfl
theorem dksX3_forget_7 : cX3_forget.data.toList.drop 165 = dktX3_forget_7 := dk_seg dksX3_forget_6 24 rfl rfl
theorem dksX3_forget_8 : cX3_forget.data.toList.drop 187 = dktX3_forget_8 := dk_seg dksX3_forget_7 22 rfl rfl
theorem dksX3_forget_9 : cX3_forget.data.toList.drop 210 = dktX3_forget_9 := dk_seg dksX3_forget_8 23 rfl rfl
theorem dksX3_forget_10 : cX3_forget.data.toList.drop 234 = dktX3_forget_10 := dk_seg dksX3_forget_9 24 rfl rfl
theorem dksX3_forget_11 : cX3_forget.data.toList.drop 258 = dktX3_forget_11 := dk_seg dksX3_forget_10 24 rfl rfl
theorem dksX3_forget_12 : cX3_forget.data.toList.drop 282 = dktX3_forget_12 := dk_seg dksX3_forget_11 24 rfl rfl
theorem dksX3_forget_13 : cX3_forget.data.toList.drop 306 = dktX3_forget_13 := dk_seg dksX3_forget_12 24 rfl rfl
theorem dksX3_forget_14 : cX3_forget.data.toList.drop 330 = dktX3_forget_14 := dk_seg dksX3_forget_13 24 rfl rfl
theorem dksX3_forget_15 : cX3_forget.data.toList.drop 354 = dktX3_forget_15 := dk_seg dksX3_forget_14 24 rfl rfl
theorem dksX3_forget_16 : cX3_forget.data.toList.drop 378 = dktX3_forget_16 := dk_seg dksX3_forget_15 24 rfl rfl
theorem dksX3_forget_17 : cX3_forget.data.toList.drop 402 = dktX3_forget_17 := dk_seg dksX3_forget_16 24 rfl rfl
theorem dX3_forget_0 : decode cX3_forget 0 = .ok (.aload_n 0, 1) := dk_42 (dk_at dksX3_forget_0 0 rfl rfl)
theorem dX3_forget_1 : decode cX3_forget 1 = .ok (.invokevirtual 174, 3) := dk_182 0 174 (dk_at dksX3_forget_0 1 rfl rfl)
theorem dX3_forget_4 : decode cX3_forget 4 = .ok (.aload_n 0, 1) := dk_42 (dk_at dksX3_forget_0 4 rfl rfl)
theorem dX3_forget_5 : decode cX3_forget 5 = .ok (.iload_n 1, 1) := dk_27 (dk_at dksX3_forget_0 5 rfl rfl)
theorem dX3_forget_6 : decode cX3_forget 6 = .ok (.invokevirtual 296, 3) := dk_182 1 40 (dk_at dksX3_forget_0 6 rfl rfl)
theorem dX3_forget_9 : decode cX3_forget 9 = .ok (.ifCond .ne 9, 3) := dk_154 0 9 (dk_at dksX3_forget_0 9 rfl rfl)
theorem dX3_forget_12 : decode cX3_forget 12 = .ok (.aload_n 0, 1) := dk_42 (dk_at dksX3_forget_0 12 rfl rfl)
theorem dX3_forget_13 : decode cX3_forget 13 = .ok (.iconst 1, 1) := dk_4 (dk_at dksX3_forget_0 13 rfl rfl)
theorem dX3_forget_14 : decode cX3_forget 14 = .ok (.invokevirtual 336, 3) := dk_182 1 80 (dk_at dksX3_forget_0 14 rfl rfl)
theorem dX3_forget_17 : decode cX3_forget 17 = .ok (.ireturn, 1) := dk_172 (dk_at dksX3_forget_0 17 rfl rfl)
theorem dX3_forget_18 : decode cX3_forget 18 = .ok (.iconst 0, 1) := dk_3 (dk_at dksX3_forget_0 18 rfl rfl)
theorem dX3_forget_19 : decode cX3_forget 19 = .ok (.istore_n 2, 1) := dk_61 (dk_at dksX3_forget_0 19 rfl rfl)
theorem dX3_forget_20 : decode cX3_forget 20 = .ok (.iconst 0, 1) := dk_3 (dk_at dksX3_forget_0 20 rfl rfl)
theorem dX3_forget_21 : decode cX3_forget 21 = .ok (.istore_n 3, 1) := dk_62 (dk_at dksX3_forget_0 21 rfl rfl)
theorem dX3_forget_22 : decode cX3_forget 22 = .ok (.iload_n 3, 1) := dk_29 (dk_at dksX3_forget_0 22 rfl rfl)
theorem dX3_forget_23 : decode cX3_forget 23 = .ok (.aload_n 0, 1) := dk_42 (dk_at dksX3_forget_0 23 rfl rfl)
theorem dX3_forget_24 : decode cX3_forget 24 = .ok (.getfield 20, 3) := dk_180 0 20 (dk_at dksX3_forget_1 0 rfl rfl)
theorem dX3_forget_27 : decode cX3_forget 27 = .ok (.iconst 0, 1) := dk_3 (dk_at dksX3_forget_1 3 rfl rfl)
theorem dX3_forget_28 : decode cX3_forget 28 = .ok (.iaload, 1) := dk_46 (dk_at dksX3_forget_1 4 rfl rfl)
theorem dX3_forget_29 : decode cX3_forget 29 = .ok (.if_icmp .ge 44, 3) := dk_162 0 44 (dk_at dksX3_forget_1 5 rfl rfl)
theorem dX3_forget_32 : decode cX3_forget 32 = .ok (.iload_n 2, 1) := dk_28 (dk_at dksX3_forget_1 8 rfl rfl)
theorem dX3_forget_33 : decode cX3_forget 33 = .ok (.ifCond .ne 28, 3) := dk_154 0 28 (dk_at dksX3_forget_1 9 rfl rfl)
theorem dX3_forget_36 : decode cX3_forget 36 = .ok (.aload_n 0, 1) := dk_42 (dk_at dksX3_forget_1 12 rfl rfl)
theorem dX3_forget_37 : decode cX3_forget 37 = .ok (.getfield 20, 3) := dk_180 0 20 (dk_at dksX3_forget_1 13 rfl rfl)
theorem dX3_forget_40 : decode cX3_forget 40 = .ok (.iconst 1, 1) := dk_4 (dk_at dksX3_forget_1 16 rfl rfl)
theorem dX3_forget_41 : decode cX3_forget 41 = .ok (.iload_n 3, 1) := dk_29 (dk_at dksX3_forget_1 17 rfl rfl)
theorem dX3_forget_42 : decode cX3_forget 42 = .ok (.iadd, 1) := dk_96 (dk_at dksX3_forget_1 18 rfl rfl)
theorem dX3_forget_43 : decode cX3_forget 43 = .ok (.iaload, 1) := dk_46 (dk_at dksX3_forget_1 19 rfl rfl)
theorem dX3_forget_44 : decode cX3_forget 44 = .ok (.iload_n 1, 1) := dk_27 (dk_at dksX3_forget_1 20 rfl rfl)
theorem dX3_forget_45 : decode cX3_forget 45 = .ok (.if_icmp .eq 16, 3) := dk_159 0 16 (dk_at dksX3_forget_1 21 rfl rfl)
theorem dX3_forget_48 : decode cX3_forget 48 = .ok (.aload_n 0, 1) := dk_42 (dk_at dksX3_forget_2 0 rfl rfl)
theorem dX3_forget_49 : decode cX3_forget 49 = .ok (.getfield 20, 3) := dk_180 0 20 (dk_at dksX3_forget_2 1 rfl rfl)
theorem dX3_forget_52 : decode cX3_forget 52 = .ok (.bipush 9, 2) := dk_16 9 (dk_at dksX3_forget_2 4 rfl rfl)
theorem dX3_forget_54 : decode cX3_forget 54 = .ok (.iload_n 3, 1) := dk_29 (dk_at dksX3_forget_2 6 rfl rfl)
theorem dX3_forget_55 : decode cX3_forget 55 = .ok (.iadd, 1) := dk_96 (dk_at dksX3_forget_2 7 rfl rfl)
theorem dX3_forget_56 : decode cX3_forget 56 = .ok (.iaload, 1) := dk_46 (dk_at dksX3_forget_2 8 rfl rfl)
theorem dX3_forget_57 : decode cX3_forget 57 = .ok (.iload_n 1, 1) := dk_27 (dk_at dksX3_forget_2 9 rfl rfl)
theorem dX3_forget_58 : decode cX3_forget 58 = .ok (.if_icmp .ne 7, 3) := dk_160 0 7 (dk_at dksX3_forget_2 10 rfl rfl)
theorem dX3_forget_61 : decode cX3_forget 61 = .ok (.iconst 1, 1) := dk_4 (dk_at dksX3_forget_2 13 rfl rfl)
theorem dX3_forget_62 : decode cX3_forget 62 = .ok (.goto 4, 3) := dk_167 0 4 (dk_at dksX3_forget_2 14 rfl rfl)
theorem dX3_forget_65 : decode cX3_forget 65 = .ok (.iconst 0, 1) := dk_3 (dk_at dksX3_forget_2 17 rfl rfl)
theorem dX3_forget_66 : decode cX3_forget 66 = .ok (.istore_n 2, 1) := dk_61 (dk_at dksX3_forget_2 18 rfl rfl)
theorem dX3_forget_67 : decode cX3_forget 67 = .ok (.iinc 3 1, 3) := dk_132 3 1 (dk_at dksX3_forget_2 19 rfl rfl)
theorem dX3_forget_70 : decode cX3_forget 70 = .ok (.goto (-48), 3) := dk_167 255 208 (dk_at dksX3_forget_3 0 rfl rfl)
theorem dX3_forget_73 : decode cX3_forget 73 = .ok (.iload_n 2, 1) := dk_28 (dk_at dksX3_forget_3 3 rfl rfl)
theorem dX3_forget_74 : decode cX3_forget 74 = .ok (.ifCond .ne 9, 3) := dk_154 0 9 (dk_at dksX3_forget_3 4 rfl rfl)
theorem dX3_forget_77 : decode cX3_forget 77 = .ok (.aload_n 0, 1) := dk_42 (dk_at dksX3_forget_3 7 rfl rfl)
theorem dX3_forget_78 : decode cX3_forget 78 = .ok (.iconst 5, 1) := dk_8 (dk_at dksX3_forget_3 8 rfl rfl)
theorem dX3_forget_79 : decode cX3_forget 79 = .ok (.invokevirtual 336, 3) := dk_182 1 80 (dk_at dksX3_forget_3 9 rfl rfl)
theorem dX3_forget_82 : decode cX3_forget 82 = .ok (.ireturn, 1) := dk_172 (dk_at dksX3_forget_3 12 rfl rfl)
theorem dX3_forget_83 : decode cX3_forget 83 = .ok (.aload_n 0, 1) := dk_42 (dk_at dksX3_forget_3 13 rfl rfl)
theorem dX3_forget_84 : decode cX3_forget 84 = .ok (.getfield 20, 3) := dk_180 0 20 (dk_at dksX3_forget_3 14 rfl rfl)
theorem dX3_forget_87 : decode cX3_forget 87 = .ok (.iconst 0, 1) := dk_3 (dk_at dksX3_forget_3 17 rfl rfl)
theorem dX3_forget_88 : decode cX3_forget 88 = .ok (.aload_n 0, 1) := dk_42 (dk_at dksX3_forget_3 18 rfl rfl)
theorem dX3_forget_89 : decode cX3_forget 89 = .ok (.getfield 29, 3) := dk_180 0 29 (dk_at dksX3_forget_3 19 rfl rfl)
theorem dX3_forget_92 : decode cX3_forget 92 = .ok (.iconst 0, 1) := dk_3 (dk_at dksX3_forget_3 22 rfl rfl)
theorem dX3_forget_93 : decode cX3_forget 93 = .ok (.bipush 49, 2) := dk_16 49 (dk_at dksX3_forget_4 0 rfl rfl)
theorem dX3_forget_95 : decode cX3_forget 95 = .ok (.invokestatic 399, 3) := dk_184 1 143 (dk_at dksX3_forget_4 2 rfl rfl)
theorem dX3_forget_98 : decode cX3_forget 98 = .ok (.aload_n 0, 1) := dk_42 (dk_at dksX3_forget_4 5 rfl rfl)
theorem dX3_forget_99 : decode cX3_forget 99 = .ok (.getfield 20, 3) := dk_180 0 20 (dk_at dksX3_forget_4 6 rfl rfl)
theorem dX3_forget_102 : decode cX3_forget 102 = .ok (.iconst 0, 1) := dk_3 (dk_at dksX3_forget_4 9 rfl rfl)
theorem dX3_forget_103 : decode cX3_forget 103 = .ok (.iaload, 1) := dk_46 (dk_at dksX3_forget_4 10 rfl rfl)
theorem dX3_forget_104 : decode cX3_forget 104 = .ok (.iconst 1, 1) := dk_4 (dk_at dksX3_forget_4 11 rfl rfl)
theorem dX3_forget_105 : decode cX3_forget 105 = .ok (.isub, 1) := dk_100 (dk_at dksX3_forget_4 12 rfl rfl)
theorem dX3_forget_106 : decode cX3_forget 106 = .ok (.istore_n 3, 1) := dk_62 (dk_at dksX3_forget_4 13 rfl rfl)
theorem dX3_forget_107 : decode cX3_forget 107 = .ok (.iload_n 3, 1) := dk_29 (dk_at dksX3_forget_4 14 rfl rfl)
theorem dX3_forget_108 : decode cX3_forget 108 = .ok (.ifCond .lt 282, 3) := dk_155 1 26 (dk_at dksX3_forget_4 15 rfl rfl)
theorem dX3_forget_111 : decode cX3_forget 111 = .ok (.aload_n 0, 1) := dk_42 (dk_at dksX3_forget_4 18 rfl rfl)
theorem dX3_forget_112 : decode cX3_forget 112 = .ok (.getfield 20, 3) := dk_180 0 20 (dk_at dksX3_forget_4 19 rfl rfl)
theorem dX3_forget_115 : decode cX3_forget 115 = .ok (.iconst 1, 1) := dk_4 (dk_at dksX3_forget_4 22 rfl rfl)
theorem dX3_forget_116 : decode cX3_forget 116 = .ok (.iload_n 3, 1) := dk_29 (dk_at dksX3_forget_4 23 rfl rfl)
theorem dX3_forget_117 : decode cX3_forget 117 = .ok (.iadd, 1) := dk_96 (dk_at dksX3_forget_5 0 rfl rfl)
theorem dX3_forget_118 : decode cX3_forget 118 = .ok (.iaload, 1) := dk_46 (dk_at dksX3_forget_5 1 rfl rfl)
theorem dX3_forget_119 : decode cX3_forget 119 = .ok (.iload_n 1, 1) := dk_27 (dk_at dksX3_forget_5 2 rfl rfl)
theorem dX3_forget_120 : decode cX3_forget 120 = .ok (.if_icmp .ne 7, 3) := dk_160 0 7 (dk_at dksX3_forget_5 3 rfl rfl)
theorem dX3_forget_123 : decode cX3_forget 123 = .ok (.iconst 1, 1) := dk_4 (dk_at dksX3_forget_5 6 rfl rfl)
theorem dX3_forget_124 : decode cX3_forget 124 = .ok (.goto 4, 3) := dk_167 0 4 (dk_at dksX3_forget_5 7 rfl rfl)
theorem dX3_forget_127 : decode cX3_forget 127 = .ok (.iconst 0, 1) := dk_3 (dk_at dksX3_forget_5 10 rfl rfl)
theorem dX3_forget_128 : decode cX3_forget 128 = .ok (.istore 4, 2) := dk_54 4 (dk_at dksX3_forget_5 11 rfl rfl)
theorem dX3_forget_130 : decode cX3_forget 130 = .ok (.iload 4, 2) := dk_21 4 (dk_at dksX3_forget_5 13 rfl rfl)
theorem dX3_forget_132 : decode cX3_forget 132 = .ok (.ifCond .ne 19, 3) := dk_154 0 19 (dk_at dksX3_forget_5 15 rfl rfl)
theorem dX3_forget_135 : decode cX3_forget 135 = .ok (.aload_n 0, 1) := dk_42 (dk_at dksX3_forget_5 18 rfl rfl)
theorem dX3_forget_136 : decode cX3_forget 136 = .ok (.getfield 20, 3) := dk_180 0 20 (dk_at dksX3_forget_5 19 rfl rfl)
theorem dX3_forget_139 : decode cX3_forget 139 = .ok (.bipush 9, 2) := dk_16 9 (dk_at dksX3_forget_5 22 rfl rfl)
theorem dX3_forget_141 : decode cX3_forget 141 = .ok (.iload_n 3, 1) := dk_29 (dk_at dksX3_forget_6 0 rfl rfl)
theorem dX3_forget_142 : decode cX3_forget 142 = .ok (.iadd, 1) := dk_96 (dk_at dksX3_forget_6 1 rfl rfl)
theorem dX3_forget_143 : decode cX3_forget 143 = .ok (.iaload, 1) := dk_46 (dk_at dksX3_forget_6 2 rfl rfl)
theorem dX3_forget_144 : decode cX3_forget 144 = .ok (.iload_n 1, 1) := dk_27 (dk_at dksX3_forget_6 3 rfl rfl)
theorem dX3_forget_145 : decode cX3_forget 145 = .ok (.if_icmp .eq 6, 3) := dk_159 0 6 (dk_at dksX3_forget_6 4 rfl rfl)
theorem dX3_forget_148 : decode cX3_forget 148 = .ok (.goto 236, 3) := dk_167 0 236 (dk_at dksX3_forget_6 7 rfl rfl)
theorem dX3_forget_151 : decode cX3_forget 151 = .ok (.aload_n 0, 1) := dk_42 (dk_at dksX3_forget_6 10 rfl rfl)
theorem dX3_forget_152 : decode cX3_forget 152 = .ok (.getfield 20, 3) := dk_180 0 20 (dk_at dksX3_forget_6 11 rfl rfl)
theorem dX3_forget_155 : decode cX3_forget 155 = .ok (.bipush 9, 2) := dk_16 9 (dk_at dksX3_forget_6 14 rfl rfl)
theorem dX3_forget_157 : decode cX3_forget 157 = .ok (.iload_n 3, 1) := dk_29 (dk_at dksX3_forget_6 16 rfl rfl)
theorem dX3_forget_158 : decode cX3_forget 158 = .ok (.iadd, 1) := dk_96 (dk_at dksX3_forget_6 17 rfl rfl)
theorem dX3_forget_159 : decode cX3_forget 159 = .ok (.iaload, 1) := dk_46 (dk_at dksX3_forget_6 18 rfl rfl)
theorem dX3_forget_160 : decode cX3_forget 160 = .ok (.bipush (-2), 2) := dk_16 254 (dk_at dksX3_forget_6 19 rfl rfl)
theorem dX3_forget_162 : decode cX3_forget 162 = .ok (.if_icmp .ne 11, 3) := dk_160 0 11 (dk_at dksX3_forget_6 21 rfl rfl)
theorem dX3_forget_165 : decode cX3_forget 165 = .ok (.aload_n 0, 1) := dk_42 (dk_at dksX3_forget_7 0 rfl rfl)
theorem dX3_forget_166 : decode cX3_forget 166 = .ok (.iload_n 3, 1) := dk_29 (dk_at dksX3_forget_7 1 rfl rfl)
theorem dX3_forget_167 : decode cX3_forget 167 = .ok (.invokevirtual 407, 3) := dk_182 1 151 (dk_at dksX3_forget_7 2 rfl rfl)
theorem dX3_forget_170 : decode cX3_forget 170 = .ok (.goto 214, 3) := dk_167 0 214 (dk_at dksX3_forget_7 5 rfl rfl)
theorem dX3_forget_173 : decode cX3_forget 173 = .ok (.bipush 17, 2) := dk_16 17 (dk_at dksX3_forget_7 8 rfl rfl)
theorem dX3_forget_175 : decode cX3_forget 175 = .ok (.iconst 4, 1) := dk_7 (dk_at dksX3_forget_7 10 rfl rfl)
theorem dX3_forget_176 : decode cX3_forget 176 = .ok (.iload_n 3, 1) := dk_29 (dk_at dksX3_forget_7 11 rfl rfl)
theorem dX3_forget_177 : decode cX3_forget 177 = .ok (.imul, 1) := dk_104 (dk_at dksX3_forget_7 12 rfl rfl)
theorem dX3_forget_178 : decode cX3_forget 178 = .ok (.iadd, 1) := dk_96 (dk_at dksX3_forget_7 13 rfl rfl)
theorem dX3_forget_179 : decode cX3_forget 179 = .ok (.istore 5, 2) := dk_54 5 (dk_at dksX3_forget_7 14 rfl rfl)
theorem dX3_forget_181 : decode cX3_forget 181 = .ok (.iload 4, 2) := dk_21 4 (dk_at dksX3_forget_7 16 rfl rfl)
theorem dX3_forget_183 : decode cX3_forget 183 = .ok (.ifCond .eq 23, 3) := dk_153 0 23 (dk_at dksX3_forget_7 18 rfl rfl)
theorem dX3_forget_186 : decode cX3_forget 186 = .ok (.aload_n 0, 1) := dk_42 (dk_at dksX3_forget_7 21 rfl rfl)
theorem dX3_forget_187 : decode cX3_forget 187 = .ok (.getfield 20, 3) := dk_180 0 20 (dk_at dksX3_forget_8 0 rfl rfl)
theorem dX3_forget_190 : decode cX3_forget 190 = .ok (.iload 5, 2) := dk_21 5 (dk_at dksX3_forget_8 3 rfl rfl)
theorem dX3_forget_192 : decode cX3_forget 192 = .ok (.iaload, 1) := dk_46 (dk_at dksX3_forget_8 5 rfl rfl)
theorem dX3_forget_193 : decode cX3_forget 193 = .ok (.aload_n 0, 1) := dk_42 (dk_at dksX3_forget_8 6 rfl rfl)
theorem dX3_forget_194 : decode cX3_forget 194 = .ok (.getfield 20, 3) := dk_180 0 20 (dk_at dksX3_forget_8 7 rfl rfl)
theorem dX3_forget_197 : decode cX3_forget 197 = .ok (.iload 5, 2) := dk_21 5 (dk_at dksX3_forget_8 10 rfl rfl)
theorem dX3_forget_199 : decode cX3_forget 199 = .ok (.iconst 2, 1) := dk_5 (dk_at dksX3_forget_8 12 rfl rfl)
theorem dX3_forget_200 : decode cX3_forget 200 = .ok (.iadd, 1) := dk_96 (dk_at dksX3_forget_8 13 rfl rfl)
theorem dX3_forget_201 : decode cX3_forget 201 = .ok (.iaload, 1) := dk_46 (dk_at dksX3_forget_8 14 rfl rfl)
theorem dX3_forget_202 : decode cX3_forget 202 = .ok (.iadd, 1) := dk_96 (dk_at dksX3_forget_8 15 rfl rfl)
theorem dX3_forget_203 : decode cX3_forget 203 = .ok (.goto 20, 3) := dk_167 0 20 (dk_at dksX3_forget_8 16 rfl rfl)
theorem dX3_forget_206 : decode cX3_forget 206 = .ok (.aload_n 0, 1) := dk_42 (dk_at dksX3_forget_8 19 rfl rfl)
theorem dX3_forget_207 : decode cX3_forget 207 = .ok (.getfield 20, 3) := dk_180 0 20 (dk_at dksX3_forget_8 20 rfl rfl)
theorem dX3_forget_210 : decode cX3_forget 210 = .ok (.iload 5, 2) := dk_21 5 (dk_at dksX3_forget_9 0 rfl rfl)
theorem dX3_forget_212 : decode cX3_forget 212 = .ok (.iaload, 1) := dk_46 (dk_at dksX3_forget_9 2 rfl rfl)
theorem dX3_forget_213 : decode cX3_forget 213 = .ok (.aload_n 0, 1) := dk_42 (dk_at dksX3_forget_9 3 rfl rfl)
theorem dX3_forget_214 : decode cX3_forget 214 = .ok (.getfield 20, 3) := dk_180 0 20 (dk_at dksX3_forget_9 4 rfl rfl)
theorem dX3_forget_217 : decode cX3_forget 217 = .ok (.iload 5, 2) := dk_21 5 (dk_at dksX3_forget_9 7 rfl rfl)
theorem dX3_forget_219 : decode cX3_forget 219 = .ok (.iconst 1, 1) := dk_4 (dk_at dksX3_forget_9 9 rfl rfl)
theorem dX3_forget_220 : decode cX3_forget 220 = .ok (.iadd, 1) := dk_96 (dk_at dksX3_forget_9 10 rfl rfl)
theorem dX3_forget_221 : decode cX3_forget 221 = .ok (.iaload, 1) := dk_46 (dk_at dksX3_forget_9 11 rfl rfl)
theorem dX3_forget_222 : decode cX3_forget 222 = .ok (.iadd, 1) := dk_96 (dk_at dksX3_forget_9 12 rfl rfl)
theorem dX3_forget_223 : decode cX3_forget 223 = .ok (.istore 6, 2) := dk_54 6 (dk_at dksX3_forget_9 13 rfl rfl)
theorem dX3_forget_225 : decode cX3_forget 225 = .ok (.iload 4, 2) := dk_21 4 (dk_at dksX3_forget_9 15 rfl rfl)
theorem dX3_forget_227 : decode cX3_forget 227 = .ok (.ifCond .eq 25, 3) := dk_153 0 25 (dk_at dksX3_forget_9 17 rfl rfl)
theorem dX3_forget_230 : decode cX3_forget 230 = .ok (.aload_n 0, 1) := dk_42 (dk_at dksX3_forget_9 20 rfl rfl)
theorem dX3_forget_231 : decode cX3_forget 231 = .ok (.getfield 20, 3) := dk_180 0 20 (dk_at dksX3_forget_9 21 rfl rfl)
theorem dX3_forget_234 : decode cX3_forget 234 = .ok (.iload 5, 2) := dk_21 5 (dk_at dksX3_forget_10 0 rfl rfl)
theorem dX3_forget_236 : decode cX3_forget 236 = .ok (.iconst 1, 1) := dk_4 (dk_at dksX3_forget_10 2 rfl rfl)
theorem dX3_forget_237 : decode cX3_forget 237 = .ok (.iadd, 1) := dk_96 (dk_at dksX3_forget_10 3 rfl rfl)
theorem dX3_forget_238 : decode cX3_forget 238 = .ok (.iaload, 1) := dk_46 (dk_at dksX3_forget_10 4 rfl rfl)
theorem dX3_forget_239 : decode cX3_forget 239 = .ok (.aload_n 0, 1) := dk_42 (dk_at dksX3_forget_10 5 rfl rfl)
theorem dX3_forget_240 : decode cX3_forget 240 = .ok (.getfield 20, 3) := dk_180 0 20 (dk_at dksX3_forget_10 6 rfl rfl)
theorem dX3_forget_243 : decode cX3_forget 243 = .ok (.iload 5, 2) := dk_21 5 (dk_at dksX3_forget_10 9 rfl rfl)
theorem dX3_forget_245 : decode cX3_forget 245 = .ok (.iconst 3, 1) := dk_6 (dk_at dksX3_forget_10 11 rfl rfl)
theorem dX3_forget_246 : decode cX3_forget 246 = .ok (.iadd, 1) := dk_96 (dk_at dksX3_forget_10 12 rfl rfl)
theorem dX3_forget_247 : decode cX3_forget 247 = .ok (.iaload, 1) := dk_46 (dk_at dksX3_forget_10 13 rfl rfl)
theorem dX3_forget_248 : decode cX3_forget 248 = .ok (.iadd, 1) := dk_96 (dk_at dksX3_forget_10 14 rfl rfl)
theorem dX3_forget_249 : decode cX3_forget 249 = .ok (.goto 22, 3) := dk_167 0 22 (dk_at dksX3_forget_10 15 rfl rfl)
theorem dX3_forget_252 : decode cX3_forget 252 = .ok (.aload_n 0, 1) := dk_42 (dk_at dksX3_forget_10 18 rfl rfl)
theorem dX3_forget_253 : decode cX3_forget 253 = .ok (.getfield 20, 3) := dk_180 0 20 (dk_at dksX3_forget_10 19 rfl rfl)
theorem dX3_forget_256 : decode cX3_forget 256 = .ok (.iload 5, 2) := dk_21 5 (dk_at dksX3_forget_10 22 rfl rfl)
theorem dX3_forget_258 : decode cX3_forget 258 = .ok (.iconst 2, 1) := dk_5 (dk_at dksX3_forget_11 0 rfl rfl)
theorem dX3_forget_259 : decode cX3_forget 259 = .ok (.iadd, 1) := dk_96 (dk_at dksX3_forget_11 1 rfl rfl)
theorem dX3_forget_260 : decode cX3_forget 260 = .ok (.iaload, 1) := dk_46 (dk_at dksX3_forget_11 2 rfl rfl)
theorem dX3_forget_261 : decode cX3_forget 261 = .ok (.aload_n 0, 1) := dk_42 (dk_at dksX3_forget_11 3 rfl rfl)
theorem dX3_forget_262 : decode cX3_forget 262 = .ok (.getfield 20, 3) := dk_180 0 20 (dk_at dksX3_forget_11 4 rfl rfl)
theorem dX3_forget_265 : decode cX3_forget 265 = .ok (.iload 5, 2) := dk_21 5 (dk_at dksX3_forget_11 7 rfl rfl)
theorem dX3_forget_267 : decode cX3_forget 267 = .ok (.iconst 3, 1) := dk_6 (dk_at dksX3_forget_11 9 rfl rfl)
theorem dX3_forget_268 : decode cX3_forget 268 = .ok (.iadd, 1) := dk_96 (dk_at dksX3_forget_11 10 rfl rfl)
theorem dX3_forget_269 : decode cX3_forget 269 = .ok (.iaload, 1) := dk_46 (dk_at dksX3_forget_11 11 rfl rfl)
theorem dX3_forget_270 : decode cX3_forget 270 = .ok (.iadd, 1) := dk_96 (dk_at dksX3_forget_11 12 rfl rfl)
theorem dX3_forget_271 : decode cX3_forget 271 = .ok (.istore 7, 2) := dk_54 7 (dk_at dksX3_forget_11 13 rfl rfl)
theorem dX3_forget_273 : decode cX3_forget 273 = .ok (.aload_n 0, 1) := dk_42 (dk_at dksX3_forget_11 15 rfl rfl)
theorem dX3_forget_274 : decode cX3_forget 274 = .ok (.getfield 20, 3) := dk_180 0 20 (dk_at dksX3_forget_11 16 rfl rfl)
theorem dX3_forget_277 : decode cX3_forget 277 = .ok (.iconst 1, 1) := dk_4 (dk_at dksX3_forget_11 19 rfl rfl)
theorem dX3_forget_278 : decode cX3_forget 278 = .ok (.iload_n 3, 1) := dk_29 (dk_at dksX3_forget_11 20 rfl rfl)
theorem dX3_forget_279 : decode cX3_forget 279 = .ok (.iadd, 1) := dk_96 (dk_at dksX3_forget_11 21 rfl rfl)
theorem dX3_forget_280 : decode cX3_forget 280 = .ok (.iload 4, 2) := dk_21 4 (dk_at dksX3_forget_11 22 rfl rfl)
theorem dX3_forget_282 : decode cX3_forget 282 = .ok (.ifCond .eq 15, 3) := dk_153 0 15 (dk_at dksX3_forget_12 0 rfl rfl)
theorem dX3_forget_285 : decode cX3_forget 285 = .ok (.aload_n 0, 1) := dk_42 (dk_at dksX3_forget_12 3 rfl rfl)
theorem dX3_forget_286 : decode cX3_forget 286 = .ok (.getfield 20, 3) := dk_180 0 20 (dk_at dksX3_forget_12 4 rfl rfl)
theorem dX3_forget_289 : decode cX3_forget 289 = .ok (.bipush 9, 2) := dk_16 9 (dk_at dksX3_forget_12 7 rfl rfl)
theorem dX3_forget_291 : decode cX3_forget 291 = .ok (.iload_n 3, 1) := dk_29 (dk_at dksX3_forget_12 9 rfl rfl)
theorem dX3_forget_292 : decode cX3_forget 292 = .ok (.iadd, 1) := dk_96 (dk_at dksX3_forget_12 10 rfl rfl)
theorem dX3_forget_293 : decode cX3_forget 293 = .ok (.iaload, 1) := dk_46 (dk_at dksX3_forget_12 11 rfl rfl)
theorem dX3_forget_294 : decode cX3_forget 294 = .ok (.goto 11, 3) := dk_167 0 11 (dk_at dksX3_forget_12 12 rfl rfl)
theorem dX3_forget_297 : decode cX3_forget 297 = .ok (.aload_n 0, 1) := dk_42 (dk_at dksX3_forget_12 15 rfl rfl)
theorem dX3_forget_298 : decode cX3_forget 298 = .ok (.getfield 20, 3) := dk_180 0 20 (dk_at dksX3_forget_12 16 rfl rfl)
theorem dX3_forget_301 : decode cX3_forget 301 = .ok (.iconst 1, 1) := dk_4 (dk_at dksX3_forget_12 19 rfl rfl)
theorem dX3_forget_302 : decode cX3_forget 302 = .ok (.iload_n 3, 1) := dk_29 (dk_at dksX3_forget_12 20 rfl rfl)
theorem dX3_forget_303 : decode cX3_forget 303 = .ok (.iadd, 1) := dk_96 (dk_at dksX3_forget_12 21 rfl rfl)
theorem dX3_forget_304 : decode cX3_forget 304 = .ok (.iaload, 1) := dk_46 (dk_at dksX3_forget_12 22 rfl rfl)
theorem dX3_forget_305 : decode cX3_forget 305 = .ok (.iastore, 1) := dk_79 (dk_at dksX3_forget_12 23 rfl rfl)
theorem dX3_forget_306 : decode cX3_forget 306 = .ok (.aload_n 0, 1) := dk_42 (dk_at dksX3_forget_13 0 rfl rfl)
theorem dX3_forget_307 : decode cX3_forget 307 = .ok (.getfield 20, 3) := dk_180 0 20 (dk_at dksX3_forget_13 1 rfl rfl)
theorem dX3_forget_310 : decode cX3_forget 310 = .ok (.bipush 9, 2) := dk_16 9 (dk_at dksX3_forget_13 4 rfl rfl)
theorem dX3_forget_312 : decode cX3_forget 312 = .ok (.iload_n 3, 1) := dk_29 (dk_at dksX3_forget_13 6 rfl rfl)
theorem dX3_forget_313 : decode cX3_forget 313 = .ok (.iadd, 1) := dk_96 (dk_at dksX3_forget_13 7 rfl rfl)
theorem dX3_forget_314 : decode cX3_forget 314 = .ok (.bipush (-2), 2) := dk_16 254 (dk_at dksX3_forget_13 8 rfl rfl)
theorem dX3_forget_316 : decode cX3_forget 316 = .ok (.iastore, 1) := dk_79 (dk_at dksX3_forget_13 10 rfl rfl)
theorem dX3_forget_317 : decode cX3_forget 317 = .ok (.aload_n 0, 1) := dk_42 (dk_at dksX3_forget_13 11 rfl rfl)
theorem dX3_forget_318 : decode cX3_forget 318 = .ok (.getfield 20, 3) := dk_180 0 20 (dk_at dksX3_forget_13 12 rfl rfl)
theorem dX3_forget_321 : decode cX3_forget 321 = .ok (.iload 5, 2) := dk_21 5 (dk_at dksX3_forget_13 15 rfl rfl)
theorem dX3_forget_323 : decode cX3_forget 323 = .ok (.iload 6, 2) := dk_21 6 (dk_at dksX3_forget_13 17 rfl rfl)
theorem dX3_forget_325 : decode cX3_forget 325 = .ok (.iastore, 1) := dk_79 (dk_at dksX3_forget_13 19 rfl rfl)
theorem dX3_forget_326 : decode cX3_forget 326 = .ok (.aload_n 0, 1) := dk_42 (dk_at dksX3_forget_13 20 rfl rfl)
theorem dX3_forget_327 : decode cX3_forget 327 = .ok (.getfield 20, 3) := dk_180 0 20 (dk_at dksX3_forget_13 21 rfl rfl)
theorem dX3_forget_330 : decode cX3_forget 330 = .ok (.iload 5, 2) := dk_21 5 (dk_at dksX3_forget_14 0 rfl rfl)
theorem dX3_forget_332 : decode cX3_forget 332 = .ok (.iconst 1, 1) := dk_4 (dk_at dksX3_forget_14 2 rfl rfl)
theorem dX3_forget_333 : decode cX3_forget 333 = .ok (.iadd, 1) := dk_96 (dk_at dksX3_forget_14 3 rfl rfl)
theorem dX3_forget_334 : decode cX3_forget 334 = .ok (.iload 7, 2) := dk_21 7 (dk_at dksX3_forget_14 4 rfl rfl)
theorem dX3_forget_336 : decode cX3_forget 336 = .ok (.iastore, 1) := dk_79 (dk_at dksX3_forget_14 6 rfl rfl)
theorem dX3_forget_337 : decode cX3_forget 337 = .ok (.aload_n 0, 1) := dk_42 (dk_at dksX3_forget_14 7 rfl rfl)
theorem dX3_forget_338 : decode cX3_forget 338 = .ok (.getfield 20, 3) := dk_180 0 20 (dk_at dksX3_forget_14 8 rfl rfl)
theorem dX3_forget_341 : decode cX3_forget 341 = .ok (.iload 5, 2) := dk_21 5 (dk_at dksX3_forget_14 11 rfl rfl)
theorem dX3_forget_343 : decode cX3_forget 343 = .ok (.iconst 2, 1) := dk_5 (dk_at dksX3_forget_14 13 rfl rfl)
theorem dX3_forget_344 : decode cX3_forget 344 = .ok (.iadd, 1) := dk_96 (dk_at dksX3_forget_14 14 rfl rfl)
theorem dX3_forget_345 : decode cX3_forget 345 = .ok (.iconst 0, 1) := dk_3 (dk_at dksX3_forget_14 15 rfl rfl)
theorem dX3_forget_346 : decode cX3_forget 346 = .ok (.iastore, 1) := dk_79 (dk_at dksX3_forget_14 16 rfl rfl)
theorem dX3_forget_347 : decode cX3_forget 347 = .ok (.aload_n 0, 1) := dk_42 (dk_at dksX3_forget_14 17 rfl rfl)
theorem dX3_forget_348 : decode cX3_forget 348 = .ok (.getfield 20, 3) := dk_180 0 20 (dk_at dksX3_forget_14 18 rfl rfl)
theorem dX3_forget_351 : decode cX3_forget 351 = .ok (.iload 5, 2) := dk_21 5 (dk_at dksX3_forget_14 21 rfl rfl)
theorem dX3_forget_353 : decode cX3_forget 353 = .ok (.iconst 3, 1) := dk_6 (dk_at dksX3_forget_14 23 rfl rfl)
theorem dX3_forget_354 : decode cX3_forget 354 = .ok (.iadd, 1) := dk_96 (dk_at dksX3_forget_15 0 rfl rfl)
theorem dX3_forget_355 : decode cX3_forget 355 = .ok (.iconst 0, 1) := dk_3 (dk_at dksX3_forget_15 1 rfl rfl)
theorem dX3_forget_356 : decode cX3_forget 356 = .ok (.iastore, 1) := dk_79 (dk_at dksX3_forget_15 2 rfl rfl)
theorem dX3_forget_357 : decode cX3_forget 357 = .ok (.iconst 0, 1) := dk_3 (dk_at dksX3_forget_15 3 rfl rfl)
theorem dX3_forget_358 : decode cX3_forget 358 = .ok (.istore 8, 2) := dk_54 8 (dk_at dksX3_forget_15 4 rfl rfl)
theorem dX3_forget_360 : decode cX3_forget 360 = .ok (.iload 8, 2) := dk_21 8 (dk_at dksX3_forget_15 6 rfl rfl)
theorem dX3_forget_362 : decode cX3_forget 362 = .ok (.iconst 4, 1) := dk_7 (dk_at dksX3_forget_15 8 rfl rfl)
theorem dX3_forget_363 : decode cX3_forget 363 = .ok (.if_icmp .ge 21, 3) := dk_162 0 21 (dk_at dksX3_forget_15 9 rfl rfl)
theorem dX3_forget_366 : decode cX3_forget 366 = .ok (.aload_n 0, 1) := dk_42 (dk_at dksX3_forget_15 12 rfl rfl)
theorem dX3_forget_367 : decode cX3_forget 367 = .ok (.getfield 26, 3) := dk_180 0 26 (dk_at dksX3_forget_15 13 rfl rfl)
theorem dX3_forget_370 : decode cX3_forget 370 = .ok (.iconst 4, 1) := dk_7 (dk_at dksX3_forget_15 16 rfl rfl)
theorem dX3_forget_371 : decode cX3_forget 371 = .ok (.iload_n 3, 1) := dk_29 (dk_at dksX3_forget_15 17 rfl rfl)
theorem dX3_forget_372 : decode cX3_forget 372 = .ok (.imul, 1) := dk_104 (dk_at dksX3_forget_15 18 rfl rfl)
theorem dX3_forget_373 : decode cX3_forget 373 = .ok (.iload 8, 2) := dk_21 8 (dk_at dksX3_forget_15 19 rfl rfl)
theorem dX3_forget_375 : decode cX3_forget 375 = .ok (.iadd, 1) := dk_96 (dk_at dksX3_forget_15 21 rfl rfl)
theorem dX3_forget_376 : decode cX3_forget 376 = .ok (.iconst 0, 1) := dk_3 (dk_at dksX3_forget_15 22 rfl rfl)
theorem dX3_forget_377 : decode cX3_forget 377 = .ok (.iastore, 1) := dk_79 (dk_at dksX3_forget_15 23 rfl rfl)
theorem dX3_forget_378 : decode cX3_forget 378 = .ok (.iinc 8 1, 3) := dk_132 8 1 (dk_at dksX3_forget_16 0 rfl rfl)
theorem dX3_forget_381 : decode cX3_forget 381 = .ok (.goto (-21), 3) := dk_167 255 235 (dk_at dksX3_forget_16 3 rfl rfl)
theorem dX3_forget_384 : decode cX3_forget 384 = .ok (.iinc 3 (-1), 3) := dk_132 3 255 (dk_at dksX3_forget_16 6 rfl rfl)
theorem dX3_forget_387 : decode cX3_forget 387 = .ok (.goto (-280), 3) := dk_167 254 232 (dk_at dksX3_forget_16 9 rfl rfl)
theorem dX3_forget_390 : decode cX3_forget 390 = .ok (.aload_n 0, 1) := dk_42 (dk_at dksX3_forget_16 12 rfl rfl)
theorem dX3_forget_391 : decode cX3_forget 391 = .ok (.iconst 2, 1) := dk_5 (dk_at dksX3_forget_16 13 rfl rfl)
theorem dX3_forget_392 : decode cX3_forget 392 = .ok (.iload_n 1, 1) := dk_27 (dk_at dksX3_forget_16 14 rfl rfl)
theorem dX3_forget_393 : decode cX3_forget 393 = .ok (.bipush (-2), 2) := dk_16 254 (dk_at dksX3_forget_16 15 rfl rfl)
theorem dX3_forget_395 : decode cX3_forget 395 = .ok (.bipush (-2), 2) := dk_16 254 (dk_at dksX3_forget_16 17 rfl rfl)
theorem dX3_forget_397 : decode cX3_forget 397 = .ok (.bipush (-2), 2) := dk_16 254 (dk_at dksX3_forget_16 19 rfl rfl)
theorem dX3_forget_399 : decode cX3_forget 399 = .ok (.invokevirtual 403, 3) := dk_182 1 147 (dk_at dksX3_forget_16 21 rfl rfl)
theorem dX3_forget_402 : decode cX3_forget 402 = .ok (.ireturn, 1) := dk_172 (dk_at dksX3_forget_17 0 rfl rfl)
abbrev cX3_shift : ByteArray := prog_18_method_114_code
def yX3_shift : MethodName := ⟨RX3, "shift", "(IIII)Z"⟩
def dkwX3_shift_5 : List UInt8 := [29, 96, 92, 46, 21, 4, 96, 79, 42, 6, 27, 28, 29, 21, 4, 182, 1, 147, 172]
abbrev dktX3_shift_5 : List UInt8 := dkwX3_shift_5 ++ []
def dkwX3_shift_4 : List UInt8 := [16, 17, 7, 27, 104, 96, 28, 96, 92, 46, 21, 4, 100, 79, 42, 180, 0, 20, 16, 17, 7, 27, 104, 96]
abbrev dktX3_shift_4 : List UInt8 := dkwX3_shift_4 ++ dktX3_shift_5
def dkwX3_shift_3 : List UInt8 := [182, 1, 80, 172, 42, 180, 0, 20, 3, 42, 180, 0, 29, 3, 16, 49, 184, 1, 143, 42, 180, 0, 20]
abbrev dktX3_shift_3 : List UInt8 := dkwX3_shift_3 ++ dktX3_shift_4
def dkwX3_shift_2 : List UInt8 := [182, 1, 80, 172, 42, 180, 0, 20, 16, 17, 7, 27, 104, 96, 28, 96, 46, 21, 4, 162, 0, 9, 42, 8]
abbrev dktX3_shift_2 : List UInt8 := dkwX3_shift_2 ++ dktX3_shift_3
def dkwX3_shift_1 : List UInt8 := [160, 0, 9, 42, 4, 182, 1, 80, 172, 21, 4, 4, 16, 60, 184, 0, 170, 154, 0, 9, 42, 5]
abbrev dktX3_shift_1 : List UInt8 := dkwX3_shift_1 ++ dktX3_shift_2
def dkwX3_shift_0 : List UInt8 := [42, 182, 0, 174, 42, 27, 28, 182, 1, 49, 153, 0, 17, 42, 27, 29, 182, 1, 49, 153, 0, 8, 28, 29]
abbrev dktX3_shift_0 : List UInt8 := dkwX3_shift_0 ++ dktX3_shift_1
theorem dksX3_shift_0 : cX3_shift.data.toList.drop 0 = dktX3_shift_0 := by decide +kernel
theorem dksX3_shift_1 : cX3_shift.data.toList.drop 24 = dktX3_shift_1 := dk_seg dksX3_shift_0 24 rfl rfl
theorem dksX3_shift_2 : cX3_shift.data.toList.drop 46 = dktX3_shift_2 := dk_seg dksX3_shift_1 22 rfl rfl
theorem dksX3_shift_3 : cX3_shift.data.toList.drop 70 = dktX3_shift_3 := dk_seg dksX3_shift_2 24 rfl rfl
theorem dksX3_shift_4 : cX3_shift.data.toList.drop 93 = dktX3_shift_4 := dk_seg dksX3_shift_3 23 rfl rfl
theorem dksX3_shift_5 : cX3_shift.data.toList.drop 117 = dktX3_shift_5 := dk_seg dksX3_shift_4 24 rfl rfl
theorem dX3_shift_0 : decode cX3_shift 0 = .ok (.aload_n 0, 1) := dk_42 (dk_at dksX3_shift_0 0 rfl rfl)
theorem dX3_shift_1 : decode cX3_shift 1 = .ok (.invokevirtual 174, 3) := dk_182 0 174 (dk_at dksX3_shift_0 1 rfl rfl)
theorem dX3_shift_4 : decode cX3_shift 4 = .ok (.aload_n 0, 1) := dk_42 (dk_at dksX3_shift_0 4 rfl rfl)
theorem dX3_shift_5 : decode cX3_shift 5 = .ok (.iload_n 1, 1) := dk_27 (dk_at dksX3_shift_0 5 rfl rfl)
theorem dX3_shift_6 : decode cX3_shift 6 = .ok (.iload_n 2, 1) := dk_28 (dk_at dksX3_shift_0 6 rfl rfl)
theorem dX3_shift_7 : decode cX3_shift 7 = .ok (.invokevirtual 305, 3) := dk_182 1 49 (dk_at dksX3_shift_0 7 rfl rfl)
theorem dX3_shift_10 : decode cX3_shift 10 = .ok (.ifCond .eq 17, 3) := dk_153 0 17 (dk_at dksX3_shift_0 10 rfl rfl)
theorem dX3_shift_13 : decode cX3_shift 13 = .ok (.aload_n 0, 1) := dk_42 (dk_at dksX3_shift_0 13 rfl rfl)
theorem dX3_shift_14 : decode cX3_shift 14 = .ok (.iload_n 1, 1) := dk_27 (dk_at dksX3_shift_0 14 rfl rfl)
theorem dX3_shift_15 : decode cX3_shift 15 = .ok (.iload_n 3, 1) := dk_29 (dk_at dksX3_shift_0 15 rfl rfl)
theorem dX3_shift_16 : decode cX3_shift 16 = .ok (.invokevirtual 305, 3) := dk_182 1 49 (dk_at dksX3_shift_0 16 rfl rfl)
theorem dX3_shift_19 : decode cX3_shift 19 = .ok (.ifCond .eq 8, 3) := dk_153 0 8 (dk_at dksX3_shift_0 19 rfl rfl)
theorem dX3_shift_22 : decode cX3_shift 22 = .ok (.iload_n 2, 1) := dk_28 (dk_at dksX3_shift_0 22 rfl rfl)
theorem dX3_shift_23 : decode cX3_shift 23 = .ok (.iload_n 3, 1) := dk_29 (dk_at dksX3_shift_0 23 rfl rfl)
theorem dX3_shift_24 : decode cX3_shift 24 = .ok (.if_icmp .ne 9, 3) := dk_160 0 9 (dk_at dksX3_shift_1 0 rfl rfl)
theorem dX3_shift_27 : decode cX3_shift 27 = .ok (.aload_n 0, 1) := dk_42 (dk_at dksX3_shift_1 3 rfl rfl)
theorem dX3_shift_28 : decode cX3_shift 28 = .ok (.iconst 1, 1) := dk_4 (dk_at dksX3_shift_1 4 rfl rfl)
theorem dX3_shift_29 : decode cX3_shift 29 = .ok (.invokevirtual 336, 3) := dk_182 1 80 (dk_at dksX3_shift_1 5 rfl rfl)
theorem dX3_shift_32 : decode cX3_shift 32 = .ok (.ireturn, 1) := dk_172 (dk_at dksX3_shift_1 8 rfl rfl)
theorem dX3_shift_33 : decode cX3_shift 33 = .ok (.iload 4, 2) := dk_21 4 (dk_at dksX3_shift_1 9 rfl rfl)
theorem dX3_shift_35 : decode cX3_shift 35 = .ok (.iconst 1, 1) := dk_4 (dk_at dksX3_shift_1 11 rfl rfl)
theorem dX3_shift_36 : decode cX3_shift 36 = .ok (.bipush 60, 2) := dk_16 60 (dk_at dksX3_shift_1 12 rfl rfl)
theorem dX3_shift_38 : decode cX3_shift 38 = .ok (.invokestatic 170, 3) := dk_184 0 170 (dk_at dksX3_shift_1 14 rfl rfl)
theorem dX3_shift_41 : decode cX3_shift 41 = .ok (.ifCond .ne 9, 3) := dk_154 0 9 (dk_at dksX3_shift_1 17 rfl rfl)
theorem dX3_shift_44 : decode cX3_shift 44 = .ok (.aload_n 0, 1) := dk_42 (dk_at dksX3_shift_1 20 rfl rfl)
theorem dX3_shift_45 : decode cX3_shift 45 = .ok (.iconst 2, 1) := dk_5 (dk_at dksX3_shift_1 21 rfl rfl)
theorem dX3_shift_46 : decode cX3_shift 46 = .ok (.invokevirtual 336, 3) := dk_182 1 80 (dk_at dksX3_shift_2 0 rfl rfl)
theorem dX3_shift_49 : decode cX3_shift 49 = .ok (.ireturn, 1) := dk_172 (dk_at dksX3_shift_2 3 rfl rfl)
theorem dX3_shift_50 : decode cX3_shift 50 = .ok (.aload_n 0, 1) := dk_42 (dk_at dksX3_shift_2 4 rfl rfl)
theorem dX3_shift_51 : decode cX3_shift 51 = .ok (.getfield 20, 3) := dk_180 0 20 (dk_at dksX3_shift_2 5 rfl rfl)
theorem dX3_shift_54 : decode cX3_shift 54 = .ok (.bipush 17, 2) := dk_16 17 (dk_at dksX3_shift_2 8 rfl rfl)
theorem dX3_shift_56 : decode cX3_shift 56 = .ok (.iconst 4, 1) := dk_7 (dk_at dksX3_shift_2 10 rfl rfl)
theorem dX3_shift_57 : decode cX3_shift 57 = .ok (.iload_n 1, 1) := dk_27 (dk_at dksX3_shift_2 11 rfl rfl)
theorem dX3_shift_58 : decode cX3_shift 58 = .ok (.imul, 1) := dk_104 (dk_at dksX3_shift_2 12 rfl rfl)
theorem dX3_shift_59 : decode cX3_shift 59 = .ok (.iadd, 1) := dk_96 (dk_at dksX3_shift_2 13 rfl rfl)
theorem dX3_shift_60 : decode cX3_shift 60 = .ok (.iload_n 2, 1) := dk_28 (dk_at dksX3_shift_2 14 rfl rfl)
theorem dX3_shift_61 : decode cX3_shift 61 = .ok (.iadd, 1) := dk_96 (dk_at dksX3_shift_2 15 rfl rfl)
theorem dX3_shift_62 : decode cX3_shift 62 = .ok (.iaload, 1) := dk_46 (dk_at dksX3_shift_2 16 rfl rfl)
theorem dX3_shift_63 : decode cX3_shift 63 = .ok (.iload 4, 2) := dk_21 4 (dk_at dksX3_shift_2 17 rfl rfl)
theorem dX3_shift_65 : decode cX3_shift 65 = .ok (.if_icmp .ge 9, 3) := dk_162 0 9 (dk_at dksX3_shift_2 19 rfl rfl)
theorem dX3_shift_68 : decode cX3_shift 68 = .ok (.aload_n 0, 1) := dk_42 (dk_at dksX3_shift_2 22 rfl rfl)
theorem dX3_shift_69 : decode cX3_shift 69 = .ok (.iconst 5, 1) := dk_8 (dk_at dksX3_shift_2 23 rfl rfl)
theorem dX3_shift_70 : decode cX3_shift 70 = .ok (.invokevirtual 336, 3) := dk_182 1 80 (dk_at dksX3_shift_3 0 rfl rfl)
theorem dX3_shift_73 : decode cX3_shift 73 = .ok (.ireturn, 1) := dk_172 (dk_at dksX3_shift_3 3 rfl rfl)
theorem dX3_shift_74 : decode cX3_shift 74 = .ok (.aload_n 0, 1) := dk_42 (dk_at dksX3_shift_3 4 rfl rfl)
theorem dX3_shift_75 : decode cX3_shift 75 = .ok (.getfield 20, 3) := dk_180 0 20 (dk_at dksX3_shift_3 5 rfl rfl)
theorem dX3_shift_78 : decode cX3_shift 78 = .ok (.iconst 0, 1) := dk_3 (dk_at dksX3_shift_3 8 rfl rfl)
theorem dX3_shift_79 : decode cX3_shift 79 = .ok (.aload_n 0, 1) := dk_42 (dk_at dksX3_shift_3 9 rfl rfl)
theorem dX3_shift_80 : decode cX3_shift 80 = .ok (.getfield 29, 3) := dk_180 0 29 (dk_at dksX3_shift_3 10 rfl rfl)
theorem dX3_shift_83 : decode cX3_shift 83 = .ok (.iconst 0, 1) := dk_3 (dk_at dksX3_shift_3 13 rfl rfl)
theorem dX3_shift_84 : decode cX3_shift 84 = .ok (.bipush 49, 2) := dk_16 49 (dk_at dksX3_shift_3 14 rfl rfl)
theorem dX3_shift_86 : decode cX3_shift 86 = .ok (.invokestatic 399, 3) := dk_184 1 143 (dk_at dksX3_shift_3 16 rfl rfl)
theorem dX3_shift_89 : decode cX3_shift 89 = .ok (.aload_n 0, 1) := dk_42 (dk_at dksX3_shift_3 19 rfl rfl)
theorem dX3_shift_90 : decode cX3_shift 90 = .ok (.getfield 20, 3) := dk_180 0 20 (dk_at dksX3_shift_3 20 rfl rfl)
theorem dX3_shift_93 : decode cX3_shift 93 = .ok (.bipush 17, 2) := dk_16 17 (dk_at dksX3_shift_4 0 rfl rfl)
theorem dX3_shift_95 : decode cX3_shift 95 = .ok (.iconst 4, 1) := dk_7 (dk_at dksX3_shift_4 2 rfl rfl)
theorem dX3_shift_96 : decode cX3_shift 96 = .ok (.iload_n 1, 1) := dk_27 (dk_at dksX3_shift_4 3 rfl rfl)
theorem dX3_shift_97 : decode cX3_shift 97 = .ok (.imul, 1) := dk_104 (dk_at dksX3_shift_4 4 rfl rfl)
theorem dX3_shift_98 : decode cX3_shift 98 = .ok (.iadd, 1) := dk_96 (dk_at dksX3_shift_4 5 rfl rfl)
theorem dX3_shift_99 : decode cX3_shift 99 = .ok (.iload_n 2, 1) := dk_28 (dk_at dksX3_shift_4 6 rfl rfl)
theorem dX3_shift_100 : decode cX3_shift 100 = .ok (.iadd, 1) := dk_96 (dk_at dksX3_shift_4 7 rfl rfl)
theorem dX3_shift_101 : decode cX3_shift 101 = .ok (.dup2, 1) := dk_92 (dk_at dksX3_shift_4 8 rfl rfl)
theorem dX3_shift_102 : decode cX3_shift 102 = .ok (.iaload, 1) := dk_46 (dk_at dksX3_shift_4 9 rfl rfl)
theorem dX3_shift_103 : decode cX3_shift 103 = .ok (.iload 4, 2) := dk_21 4 (dk_at dksX3_shift_4 10 rfl rfl)
theorem dX3_shift_105 : decode cX3_shift 105 = .ok (.isub, 1) := dk_100 (dk_at dksX3_shift_4 12 rfl rfl)
theorem dX3_shift_106 : decode cX3_shift 106 = .ok (.iastore, 1) := dk_79 (dk_at dksX3_shift_4 13 rfl rfl)
theorem dX3_shift_107 : decode cX3_shift 107 = .ok (.aload_n 0, 1) := dk_42 (dk_at dksX3_shift_4 14 rfl rfl)
theorem dX3_shift_108 : decode cX3_shift 108 = .ok (.getfield 20, 3) := dk_180 0 20 (dk_at dksX3_shift_4 15 rfl rfl)
theorem dX3_shift_111 : decode cX3_shift 111 = .ok (.bipush 17, 2) := dk_16 17 (dk_at dksX3_shift_4 18 rfl rfl)
theorem dX3_shift_113 : decode cX3_shift 113 = .ok (.iconst 4, 1) := dk_7 (dk_at dksX3_shift_4 20 rfl rfl)
theorem dX3_shift_114 : decode cX3_shift 114 = .ok (.iload_n 1, 1) := dk_27 (dk_at dksX3_shift_4 21 rfl rfl)
theorem dX3_shift_115 : decode cX3_shift 115 = .ok (.imul, 1) := dk_104 (dk_at dksX3_shift_4 22 rfl rfl)
theorem dX3_shift_116 : decode cX3_shift 116 = .ok (.iadd, 1) := dk_96 (dk_at dksX3_shift_4 23 rfl rfl)
theorem dX3_shift_117 : decode cX3_shift 117 = .ok (.iload_n 3, 1) := dk_29 (dk_at dksX3_shift_5 0 rfl rfl)
theorem dX3_shift_118 : decode cX3_shift 118 = .ok (.iadd, 1) := dk_96 (dk_at dksX3_shift_5 1 rfl rfl)
theorem dX3_shift_119 : decode cX3_shift 119 = .ok (.dup2, 1) := dk_92 (dk_at dksX3_shift_5 2 rfl rfl)
theorem dX3_shift_120 : decode cX3_shift 120 = .ok (.iaload, 1) := dk_46 (dk_at dksX3_shift_5 3 rfl rfl)
theorem dX3_shift_121 : decode cX3_shift 121 = .ok (.iload 4, 2) := dk_21 4 (dk_at dksX3_shift_5 4 rfl rfl)
theorem dX3_shift_123 : decode cX3_shift 123 = .ok (.iadd, 1) := dk_96 (dk_at dksX3_shift_5 6 rfl rfl)
theorem dX3_shift_124 : decode cX3_shift 124 = .ok (.iastore, 1) := dk_79 (dk_at dksX3_shift_5 7 rfl rfl)
theorem dX3_shift_125 : decode cX3_shift 125 = .ok (.aload_n 0, 1) := dk_42 (dk_at dksX3_shift_5 8 rfl rfl)
theorem dX3_shift_126 : decode cX3_shift 126 = .ok (.iconst 3, 1) := dk_6 (dk_at dksX3_shift_5 9 rfl rfl)
theorem dX3_shift_127 : decode cX3_shift 127 = .ok (.iload_n 1, 1) := dk_27 (dk_at dksX3_shift_5 10 rfl rfl)
theorem dX3_shift_128 : decode cX3_shift 128 = .ok (.iload_n 2, 1) := dk_28 (dk_at dksX3_shift_5 11 rfl rfl)
theorem dX3_shift_129 : decode cX3_shift 129 = .ok (.iload_n 3, 1) := dk_29 (dk_at dksX3_shift_5 12 rfl rfl)
theorem dX3_shift_130 : decode cX3_shift 130 = .ok (.iload 4, 2) := dk_21 4 (dk_at dksX3_shift_5 13 rfl rfl)
theorem dX3_shift_132 : decode cX3_shift 132 = .ok (.invokevirtual 403, 3) := dk_182 1 147 (dk_at dksX3_shift_5 15 rfl rfl)
theorem dX3_shift_135 : decode cX3_shift 135 = .ok (.ireturn, 1) := dk_172 (dk_at dksX3_shift_5 18 rfl rfl)
abbrev cX3_undo : ByteArray := prog_18_method_115_code
def yX3_undo : MethodName := ⟨RX3, "undo", "()Z"⟩
def dkwX3_undo_6 : List UInt8 := [180, 0, 20, 3, 16, 49, 184, 1, 143, 42, 182, 0, 186, 4, 172]
abbrev dktX3_undo_6 : List UInt8 := dkwX3_undo_6 ++ []
def dkwX3_undo_5 : List UInt8 := [167, 0, 9, 42, 180, 0, 192, 4, 96, 181, 0, 192, 42, 180, 0, 32, 16, 49, 42, 180, 0, 189, 104, 42]
abbrev dktX3_undo_5 : List UInt8 := dkwX3_undo_5 ++ dktX3_undo_6
def dkwX3_undo_4 : List UInt8 := [42, 180, 0, 41, 27, 7, 96, 46, 184, 1, 139, 42, 42, 180, 0, 192, 16, 20, 160, 0, 8, 16, 20]
abbrev dktX3_undo_4 : List UInt8 := dkwX3_undo_4 ++ dktX3_undo_5
def dkwX3_undo_3 : List UInt8 := [42, 180, 0, 41, 27, 4, 96, 46, 42, 180, 0, 41, 27, 5, 96, 46, 42, 180, 0, 41, 27, 6, 96, 46]
abbrev dktX3_undo_3 : List UInt8 := dkwX3_undo_3 ++ dktX3_undo_4
def dkwX3_undo_2 : List UInt8 := [104, 60, 42, 180, 0, 35, 42, 180, 0, 44, 42, 180, 0, 192, 42, 180, 0, 29, 42, 180, 0, 41, 27, 46]
abbrev dktX3_undo_2 : List UInt8 := dkwX3_undo_2 ++ dktX3_undo_3
def dkwX3_undo_1 : List UInt8 := [100, 181, 0, 189, 42, 180, 0, 20, 3, 42, 180, 0, 29, 3, 16, 49, 184, 1, 143, 8, 42, 180, 0, 189]
abbrev dktX3_undo_1 : List UInt8 := dkwX3_undo_1 ++ dktX3_undo_2
def dkwX3_undo_0 : List UInt8 := [42, 182, 0, 174, 42, 180, 0, 189, 154, 0, 10, 42, 16, 6, 182, 1, 80, 172, 42, 89, 180, 0, 189, 4]
abbrev dktX3_undo_0 : List UInt8 := dkwX3_undo_0 ++ dktX3_undo_1
theorem dksX3_undo_0 : cX3_undo.data.toList.drop 0 = dktX3_undo_0 := by decide +kernel
theorem dksX3_undo_1 : cX3_undo.data.toList.drop 24 = dktX3_undo_1 := dk_seg dksX3_undo_0 24 rfl rfl
theorem dksX3_undo_2 : cX3_undo.data.toList.drop 48 = dktX3_undo_2 := dk_seg dksX3_undo_1 24 rfl rfl
theorem dksX3_undo_3 : cX3_undo.data.toList.drop 72 = dktX3_undo_3 := dk_seg dksX3_undo_2 24 rfl rfl
theorem dksX3_undo_4 : cX3_undo.data.toList.drop 96 = dktX3_undo_4 := dk_seg dksX3_undo_3 24 rfl rfl
theorem dksX3_undo_5 : cX3_undo.data.toList.drop 119 = dktX3_undo_5 := dk_seg dksX3_undo_4 23 rfl rfl
theorem dksX3_undo_6 : cX3_undo.data.toList.drop 143 = dktX3_undo_6 := dk_seg dksX3_undo_5 24 rfl rfl
theorem dX3_undo_0 : decode cX3_undo 0 = .ok (.aload_n 0, 1) := dk_42 (dk_at dksX3_undo_0 0 rfl rfl)
theorem dX3_undo_1 : decode cX3_undo 1 = .ok (.invokevirtual 174, 3) := dk_182 0 174 (dk_at dksX3_undo_0 1 rfl rfl)
theorem dX3_undo_4 : decode cX3_undo 4 = .ok (.aload_n 0, 1) := dk_42 (dk_at dksX3_undo_0 4 rfl rfl)
theorem dX3_undo_5 : decode cX3_undo 5 = .ok (.getfield 189, 3) := dk_180 0 189 (dk_at dksX3_undo_0 5 rfl rfl)
theorem dX3_undo_8 : decode cX3_undo 8 = .ok (.ifCond .ne 10, 3) := dk_154 0 10 (dk_at dksX3_undo_0 8 rfl rfl)
theorem dX3_undo_11 : decode cX3_undo 11 = .ok (.aload_n 0, 1) := dk_42 (dk_at dksX3_undo_0 11 rfl rfl)
theorem dX3_undo_12 : decode cX3_undo 12 = .ok (.bipush 6, 2) := dk_16 6 (dk_at dksX3_undo_0 12 rfl rfl)
theorem dX3_undo_14 : decode cX3_undo 14 = .ok (.invokevirtual 336, 3) := dk_182 1 80 (dk_at dksX3_undo_0 14 rfl rfl)
theorem dX3_undo_17 : decode cX3_undo 17 = .ok (.ireturn, 1) := dk_172 (dk_at dksX3_undo_0 17 rfl rfl)
theorem dX3_undo_18 : decode cX3_undo 18 = .ok (.aload_n 0, 1) := dk_42 (dk_at dksX3_undo_0 18 rfl rfl)
theorem dX3_undo_19 : decode cX3_undo 19 = .ok (.dup, 1) := dk_89 (dk_at dksX3_undo_0 19 rfl rfl)
theorem dX3_undo_20 : decode cX3_undo 20 = .ok (.getfield 189, 3) := dk_180 0 189 (dk_at dksX3_undo_0 20 rfl rfl)
theorem dX3_undo_23 : decode cX3_undo 23 = .ok (.iconst 1, 1) := dk_4 (dk_at dksX3_undo_0 23 rfl rfl)
theorem dX3_undo_24 : decode cX3_undo 24 = .ok (.isub, 1) := dk_100 (dk_at dksX3_undo_1 0 rfl rfl)
theorem dX3_undo_25 : decode cX3_undo 25 = .ok (.putfield 189, 3) := dk_181 0 189 (dk_at dksX3_undo_1 1 rfl rfl)
theorem dX3_undo_28 : decode cX3_undo 28 = .ok (.aload_n 0, 1) := dk_42 (dk_at dksX3_undo_1 4 rfl rfl)
theorem dX3_undo_29 : decode cX3_undo 29 = .ok (.getfield 20, 3) := dk_180 0 20 (dk_at dksX3_undo_1 5 rfl rfl)
theorem dX3_undo_32 : decode cX3_undo 32 = .ok (.iconst 0, 1) := dk_3 (dk_at dksX3_undo_1 8 rfl rfl)
theorem dX3_undo_33 : decode cX3_undo 33 = .ok (.aload_n 0, 1) := dk_42 (dk_at dksX3_undo_1 9 rfl rfl)
theorem dX3_undo_34 : decode cX3_undo 34 = .ok (.getfield 29, 3) := dk_180 0 29 (dk_at dksX3_undo_1 10 rfl rfl)
theorem dX3_undo_37 : decode cX3_undo 37 = .ok (.iconst 0, 1) := dk_3 (dk_at dksX3_undo_1 13 rfl rfl)
theorem dX3_undo_38 : decode cX3_undo 38 = .ok (.bipush 49, 2) := dk_16 49 (dk_at dksX3_undo_1 14 rfl rfl)
theorem dX3_undo_40 : decode cX3_undo 40 = .ok (.invokestatic 399, 3) := dk_184 1 143 (dk_at dksX3_undo_1 16 rfl rfl)
theorem dX3_undo_43 : decode cX3_undo 43 = .ok (.iconst 5, 1) := dk_8 (dk_at dksX3_undo_1 19 rfl rfl)
theorem dX3_undo_44 : decode cX3_undo 44 = .ok (.aload_n 0, 1) := dk_42 (dk_at dksX3_undo_1 20 rfl rfl)
theorem dX3_undo_45 : decode cX3_undo 45 = .ok (.getfield 189, 3) := dk_180 0 189 (dk_at dksX3_undo_1 21 rfl rfl)
theorem dX3_undo_48 : decode cX3_undo 48 = .ok (.imul, 1) := dk_104 (dk_at dksX3_undo_2 0 rfl rfl)
theorem dX3_undo_49 : decode cX3_undo 49 = .ok (.istore_n 1, 1) := dk_60 (dk_at dksX3_undo_2 1 rfl rfl)
theorem dX3_undo_50 : decode cX3_undo 50 = .ok (.aload_n 0, 1) := dk_42 (dk_at dksX3_undo_2 2 rfl rfl)
theorem dX3_undo_51 : decode cX3_undo 51 = .ok (.getfield 35, 3) := dk_180 0 35 (dk_at dksX3_undo_2 3 rfl rfl)
theorem dX3_undo_54 : decode cX3_undo 54 = .ok (.aload_n 0, 1) := dk_42 (dk_at dksX3_undo_2 6 rfl rfl)
theorem dX3_undo_55 : decode cX3_undo 55 = .ok (.getfield 44, 3) := dk_180 0 44 (dk_at dksX3_undo_2 7 rfl rfl)
theorem dX3_undo_58 : decode cX3_undo 58 = .ok (.aload_n 0, 1) := dk_42 (dk_at dksX3_undo_2 10 rfl rfl)
theorem dX3_undo_59 : decode cX3_undo 59 = .ok (.getfield 192, 3) := dk_180 0 192 (dk_at dksX3_undo_2 11 rfl rfl)
theorem dX3_undo_62 : decode cX3_undo 62 = .ok (.aload_n 0, 1) := dk_42 (dk_at dksX3_undo_2 14 rfl rfl)
theorem dX3_undo_63 : decode cX3_undo 63 = .ok (.getfield 29, 3) := dk_180 0 29 (dk_at dksX3_undo_2 15 rfl rfl)
theorem dX3_undo_66 : decode cX3_undo 66 = .ok (.aload_n 0, 1) := dk_42 (dk_at dksX3_undo_2 18 rfl rfl)
theorem dX3_undo_67 : decode cX3_undo 67 = .ok (.getfield 41, 3) := dk_180 0 41 (dk_at dksX3_undo_2 19 rfl rfl)
theorem dX3_undo_70 : decode cX3_undo 70 = .ok (.iload_n 1, 1) := dk_27 (dk_at dksX3_undo_2 22 rfl rfl)
theorem dX3_undo_71 : decode cX3_undo 71 = .ok (.iaload, 1) := dk_46 (dk_at dksX3_undo_2 23 rfl rfl)
theorem dX3_undo_72 : decode cX3_undo 72 = .ok (.aload_n 0, 1) := dk_42 (dk_at dksX3_undo_3 0 rfl rfl)
theorem dX3_undo_73 : decode cX3_undo 73 = .ok (.getfield 41, 3) := dk_180 0 41 (dk_at dksX3_undo_3 1 rfl rfl)
theorem dX3_undo_76 : decode cX3_undo 76 = .ok (.iload_n 1, 1) := dk_27 (dk_at dksX3_undo_3 4 rfl rfl)
theorem dX3_undo_77 : decode cX3_undo 77 = .ok (.iconst 1, 1) := dk_4 (dk_at dksX3_undo_3 5 rfl rfl)
theorem dX3_undo_78 : decode cX3_undo 78 = .ok (.iadd, 1) := dk_96 (dk_at dksX3_undo_3 6 rfl rfl)
theorem dX3_undo_79 : decode cX3_undo 79 = .ok (.iaload, 1) := dk_46 (dk_at dksX3_undo_3 7 rfl rfl)
theorem dX3_undo_80 : decode cX3_undo 80 = .ok (.aload_n 0, 1) := dk_42 (dk_at dksX3_undo_3 8 rfl rfl)
theorem dX3_undo_81 : decode cX3_undo 81 = .ok (.getfield 41, 3) := dk_180 0 41 (dk_at dksX3_undo_3 9 rfl rfl)
theorem dX3_undo_84 : decode cX3_undo 84 = .ok (.iload_n 1, 1) := dk_27 (dk_at dksX3_undo_3 12 rfl rfl)
theorem dX3_undo_85 : decode cX3_undo 85 = .ok (.iconst 2, 1) := dk_5 (dk_at dksX3_undo_3 13 rfl rfl)
theorem dX3_undo_86 : decode cX3_undo 86 = .ok (.iadd, 1) := dk_96 (dk_at dksX3_undo_3 14 rfl rfl)
theorem dX3_undo_87 : decode cX3_undo 87 = .ok (.iaload, 1) := dk_46 (dk_at dksX3_undo_3 15 rfl rfl)
theorem dX3_undo_88 : decode cX3_undo 88 = .ok (.aload_n 0, 1) := dk_42 (dk_at dksX3_undo_3 16 rfl rfl)
theorem dX3_undo_89 : decode cX3_undo 89 = .ok (.getfield 41, 3) := dk_180 0 41 (dk_at dksX3_undo_3 17 rfl rfl)
theorem dX3_undo_92 : decode cX3_undo 92 = .ok (.iload_n 1, 1) := dk_27 (dk_at dksX3_undo_3 20 rfl rfl)
theorem dX3_undo_93 : decode cX3_undo 93 = .ok (.iconst 3, 1) := dk_6 (dk_at dksX3_undo_3 21 rfl rfl)
theorem dX3_undo_94 : decode cX3_undo 94 = .ok (.iadd, 1) := dk_96 (dk_at dksX3_undo_3 22 rfl rfl)
theorem dX3_undo_95 : decode cX3_undo 95 = .ok (.iaload, 1) := dk_46 (dk_at dksX3_undo_3 23 rfl rfl)
theorem dX3_undo_96 : decode cX3_undo 96 = .ok (.aload_n 0, 1) := dk_42 (dk_at dksX3_undo_4 0 rfl rfl)
theorem dX3_undo_97 : decode cX3_undo 97 = .ok (.getfield 41, 3) := dk_180 0 41 (dk_at dksX3_undo_4 1 rfl rfl)
theorem dX3_undo_100 : decode cX3_undo 100 = .ok (.iload_n 1, 1) := dk_27 (dk_at dksX3_undo_4 4 rfl rfl)
theorem dX3_undo_101 : decode cX3_undo 101 = .ok (.iconst 4, 1) := dk_7 (dk_at dksX3_undo_4 5 rfl rfl)
theorem dX3_undo_102 : decode cX3_undo 102 = .ok (.iadd, 1) := dk_96 (dk_at dksX3_undo_4 6 rfl rfl)
theorem dX3_undo_103 : decode cX3_undo 103 = .ok (.iaload, 1) := dk_46 (dk_at dksX3_undo_4 7 rfl rfl)
theorem dX3_undo_104 : decode cX3_undo 104 = .ok (.invokestatic 395, 3) := dk_184 1 139 (dk_at dksX3_undo_4 8 rfl rfl)
theorem dX3_undo_107 : decode cX3_undo 107 = .ok (.aload_n 0, 1) := dk_42 (dk_at dksX3_undo_4 11 rfl rfl)
theorem dX3_undo_108 : decode cX3_undo 108 = .ok (.aload_n 0, 1) := dk_42 (dk_at dksX3_undo_4 12 rfl rfl)
theorem dX3_undo_109 : decode cX3_undo 109 = .ok (.getfield 192, 3) := dk_180 0 192 (dk_at dksX3_undo_4 13 rfl rfl)
theorem dX3_undo_112 : decode cX3_undo 112 = .ok (.bipush 20, 2) := dk_16 20 (dk_at dksX3_undo_4 16 rfl rfl)
theorem dX3_undo_114 : decode cX3_undo 114 = .ok (.if_icmp .ne 8, 3) := dk_160 0 8 (dk_at dksX3_undo_4 18 rfl rfl)
theorem dX3_undo_117 : decode cX3_undo 117 = .ok (.bipush 20, 2) := dk_16 20 (dk_at dksX3_undo_4 21 rfl rfl)
theorem dX3_undo_119 : decode cX3_undo 119 = .ok (.goto 9, 3) := dk_167 0 9 (dk_at dksX3_undo_5 0 rfl rfl)
theorem dX3_undo_122 : decode cX3_undo 122 = .ok (.aload_n 0, 1) := dk_42 (dk_at dksX3_undo_5 3 rfl rfl)
theorem dX3_undo_123 : decode cX3_undo 123 = .ok (.getfield 192, 3) := dk_180 0 192 (dk_at dksX3_undo_5 4 rfl rfl)
theorem dX3_undo_126 : decode cX3_undo 126 = .ok (.iconst 1, 1) := dk_4 (dk_at dksX3_undo_5 7 rfl rfl)
theorem dX3_undo_127 : decode cX3_undo 127 = .ok (.iadd, 1) := dk_96 (dk_at dksX3_undo_5 8 rfl rfl)
theorem dX3_undo_128 : decode cX3_undo 128 = .ok (.putfield 192, 3) := dk_181 0 192 (dk_at dksX3_undo_5 9 rfl rfl)
theorem dX3_undo_131 : decode cX3_undo 131 = .ok (.aload_n 0, 1) := dk_42 (dk_at dksX3_undo_5 12 rfl rfl)
theorem dX3_undo_132 : decode cX3_undo 132 = .ok (.getfield 32, 3) := dk_180 0 32 (dk_at dksX3_undo_5 13 rfl rfl)
theorem dX3_undo_135 : decode cX3_undo 135 = .ok (.bipush 49, 2) := dk_16 49 (dk_at dksX3_undo_5 16 rfl rfl)
theorem dX3_undo_137 : decode cX3_undo 137 = .ok (.aload_n 0, 1) := dk_42 (dk_at dksX3_undo_5 18 rfl rfl)
theorem dX3_undo_138 : decode cX3_undo 138 = .ok (.getfield 189, 3) := dk_180 0 189 (dk_at dksX3_undo_5 19 rfl rfl)
theorem dX3_undo_141 : decode cX3_undo 141 = .ok (.imul, 1) := dk_104 (dk_at dksX3_undo_5 22 rfl rfl)
theorem dX3_undo_142 : decode cX3_undo 142 = .ok (.aload_n 0, 1) := dk_42 (dk_at dksX3_undo_5 23 rfl rfl)
theorem dX3_undo_143 : decode cX3_undo 143 = .ok (.getfield 20, 3) := dk_180 0 20 (dk_at dksX3_undo_6 0 rfl rfl)
theorem dX3_undo_146 : decode cX3_undo 146 = .ok (.iconst 0, 1) := dk_3 (dk_at dksX3_undo_6 3 rfl rfl)
theorem dX3_undo_147 : decode cX3_undo 147 = .ok (.bipush 49, 2) := dk_16 49 (dk_at dksX3_undo_6 4 rfl rfl)
theorem dX3_undo_149 : decode cX3_undo 149 = .ok (.invokestatic 399, 3) := dk_184 1 143 (dk_at dksX3_undo_6 6 rfl rfl)
theorem dX3_undo_152 : decode cX3_undo 152 = .ok (.aload_n 0, 1) := dk_42 (dk_at dksX3_undo_6 9 rfl rfl)
theorem dX3_undo_153 : decode cX3_undo 153 = .ok (.invokevirtual 186, 3) := dk_182 0 186 (dk_at dksX3_undo_6 10 rfl rfl)
theorem dX3_undo_156 : decode cX3_undo 156 = .ok (.iconst 1, 1) := dk_4 (dk_at dksX3_undo_6 13 rfl rfl)
theorem dX3_undo_157 : decode cX3_undo 157 = .ok (.ireturn, 1) := dk_172 (dk_at dksX3_undo_6 14 rfl rfl)
abbrev cX3_redo : ByteArray := prog_18_method_116_code
def yX3_redo : MethodName := ⟨RX3, "redo", "()Z"⟩
def dkwX3_redo_6 : List UInt8 := [180, 0, 20, 3, 16, 49, 184, 1, 143, 42, 182, 0, 186, 4, 172]
abbrev dktX3_redo_6 : List UInt8 := dkwX3_redo_6 ++ []
def dkwX3_redo_5 : List UInt8 := [167, 0, 9, 42, 180, 0, 189, 4, 96, 181, 0, 189, 42, 180, 0, 35, 16, 49, 42, 180, 0, 192, 104, 42]
abbrev dktX3_redo_5 : List UInt8 := dkwX3_redo_5 ++ dktX3_redo_6
def dkwX3_redo_4 : List UInt8 := [42, 180, 0, 44, 27, 7, 96, 46, 184, 1, 139, 42, 42, 180, 0, 189, 16, 20, 160, 0, 8, 16, 20]
abbrev dktX3_redo_4 : List UInt8 := dkwX3_redo_4 ++ dktX3_redo_5
def dkwX3_redo_3 : List UInt8 := [42, 180, 0, 44, 27, 4, 96, 46, 42, 180, 0, 44, 27, 5, 96, 46, 42, 180, 0, 44, 27, 6, 96, 46]
abbrev dktX3_redo_3 : List UInt8 := dkwX3_redo_3 ++ dktX3_redo_4
def dkwX3_redo_2 : List UInt8 := [104, 60, 42, 180, 0, 32, 42, 180, 0, 41, 42, 180, 0, 189, 42, 180, 0, 29, 42, 180, 0, 44, 27, 46]
abbrev dktX3_redo_2 : List UInt8 := dkwX3_redo_2 ++ dktX3_redo_3
def dkwX3_redo_1 : List UInt8 := [100, 181, 0, 192, 42, 180, 0, 20, 3, 42, 180, 0, 29, 3, 16, 49, 184, 1, 143, 8, 42, 180, 0, 192]
abbrev dktX3_redo_1 : List UInt8 := dkwX3_redo_1 ++ dktX3_redo_2
def dkwX3_redo_0 : List UInt8 := [42, 182, 0, 174, 42, 180, 0, 192, 154, 0, 10, 42, 16, 6, 182, 1, 80, 172, 42, 89, 180, 0, 192, 4]
abbrev dktX3_redo_0 : List UInt8 := dkwX3_redo_0 ++ dktX3_redo_1
theorem dksX3_redo_0 : cX3_redo.data.toList.drop 0 = dktX3_redo_0 := by decide +kernel
theorem dksX3_redo_1 : cX3_redo.data.toList.drop 24 = dktX3_redo_1 := dk_seg dksX3_redo_0 24 rfl rfl
theorem dksX3_redo_2 : cX3_redo.data.toList.drop 48 = dktX3_redo_2 := dk_seg dksX3_redo_1 24 rfl rfl
theorem dksX3_redo_3 : cX3_redo.data.toList.drop 72 = dktX3_redo_3 := dk_seg dksX3_redo_2 24 rfl rfl
theorem dksX3_redo_4 : cX3_redo.data.toList.drop 96 = dktX3_redo_4 := dk_seg dksX3_redo_3 24 rfl rfl
theorem dksX3_redo_5 : cX3_redo.data.toList.drop 119 = dktX3_redo_5 := dk_seg dksX3_redo_4 23 rfl rfl
theorem dksX3_redo_6 : cX3_redo.data.toList.drop 143 = dktX3_redo_6 := dk_seg dksX3_redo_5 24 rfl rfl
theorem dX3_redo_0 : decode cX3_redo 0 = .ok (.aload_n 0, 1) := dk_42 (dk_at dksX3_redo_0 0 rfl rfl)
theorem dX3_redo_1 : decode cX3_redo 1 = .ok (.invokevirtual 174, 3) := dk_182 0 174 (dk_at dksX3_redo_0 1 rfl rfl)
theorem dX3_redo_4 : decode cX3_redo 4 = .ok (.aload_n 0, 1) := dk_42 (dk_at dksX3_redo_0 4 rfl rfl)
theorem dX3_redo_5 : decode cX3_redo 5 = .ok (.getfield 192, 3) := dk_180 0 192 (dk_at dksX3_redo_0 5 rfl rfl)
theorem dX3_redo_8 : decode cX3_redo 8 = .ok (.ifCond .ne 10, 3) := dk_154 0 10 (dk_at dksX3_redo_0 8 rfl rfl)
theorem dX3_redo_11 : decode cX3_redo 11 = .ok (.aload_n 0, 1) := dk_42 (dk_at dksX3_redo_0 11 rfl rfl)
theorem dX3_redo_12 : decode cX3_redo 12 = .ok (.bipush 6, 2) := dk_16 6 (dk_at dksX3_redo_0 12 rfl rfl)
theorem dX3_redo_14 : decode cX3_redo 14 = .ok (.invokevirtual 336, 3) := dk_182 1 80 (dk_at dksX3_redo_0 14 rfl rfl)
theorem dX3_redo_17 : decode cX3_redo 17 = .ok (.ireturn, 1) := dk_172 (dk_at dksX3_redo_0 17 rfl rfl)
theorem dX3_redo_18 : decode cX3_redo 18 = .ok (.aload_n 0, 1) := dk_42 (dk_at dksX3_redo_0 18 rfl rfl)
theorem dX3_redo_19 : decode cX3_redo 19 = .ok (.dup, 1) := dk_89 (dk_at dksX3_redo_0 19 rfl rfl)
theorem dX3_redo_20 : decode cX3_redo 20 = .ok (.getfield 192, 3) := dk_180 0 192 (dk_at dksX3_redo_0 20 rfl rfl)
theorem dX3_redo_23 : decode cX3_redo 23 = .ok (.iconst 1, 1) := dk_4 (dk_at dksX3_redo_0 23 rfl rfl)
theorem dX3_redo_24 : decode cX3_redo 24 = .ok (.isub, 1) := dk_100 (dk_at dksX3_redo_1 0 rfl rfl)
theorem dX3_redo_25 : decode cX3_redo 25 = .ok (.putfield 192, 3) := dk_181 0 192 (dk_at dksX3_redo_1 1 rfl rfl)
theorem dX3_redo_28 : decode cX3_redo 28 = .ok (.aload_n 0, 1) := dk_42 (dk_at dksX3_redo_1 4 rfl rfl)
theorem dX3_redo_29 : decode cX3_redo 29 = .ok (.getfield 20, 3) := dk_180 0 20 (dk_at dksX3_redo_1 5 rfl rfl)
theorem dX3_redo_32 : decode cX3_redo 32 = .ok (.iconst 0, 1) := dk_3 (dk_at dksX3_redo_1 8 rfl rfl)
theorem dX3_redo_33 : decode cX3_redo 33 = .ok (.aload_n 0, 1) := dk_42 (dk_at dksX3_redo_1 9 rfl rfl)
theorem dX3_redo_34 : decode cX3_redo 34 = .ok (.getfield 29, 3) := dk_180 0 29 (dk_at dksX3_redo_1 10 rfl rfl)
theorem dX3_redo_37 : decode cX3_redo 37 = .ok (.iconst 0, 1) := dk_3 (dk_at dksX3_redo_1 13 rfl rfl)
theorem dX3_redo_38 : decode cX3_redo 38 = .ok (.bipush 49, 2) := dk_16 49 (dk_at dksX3_redo_1 14 rfl rfl)
theorem dX3_redo_40 : decode cX3_redo 40 = .ok (.invokestatic 399, 3) := dk_184 1 143 (dk_at dksX3_redo_1 16 rfl rfl)
theorem dX3_redo_43 : decode cX3_redo 43 = .ok (.iconst 5, 1) := dk_8 (dk_at dksX3_redo_1 19 rfl rfl)
theorem dX3_redo_44 : decode cX3_redo 44 = .ok (.aload_n 0, 1) := dk_42 (dk_at dksX3_redo_1 20 rfl rfl)
theorem dX3_redo_45 : decode cX3_redo 45 = .ok (.getfield 192, 3) := dk_180 0 192 (dk_at dksX3_redo_1 21 rfl rfl)
theorem dX3_redo_48 : decode cX3_redo 48 = .ok (.imul, 1) := dk_104 (dk_at dksX3_redo_2 0 rfl rfl)
theorem dX3_redo_49 : decode cX3_redo 49 = .ok (.istore_n 1, 1) := dk_60 (dk_at dksX3_redo_2 1 rfl rfl)
theorem dX3_redo_50 : decode cX3_redo 50 = .ok (.aload_n 0, 1) := dk_42 (dk_at dksX3_redo_2 2 rfl rfl)
theorem dX3_redo_51 : decode cX3_redo 51 = .ok (.getfield 32, 3) := dk_180 0 32 (dk_at dksX3_redo_2 3 rfl rfl)
theorem dX3_redo_54 : decode cX3_redo 54 = .ok (.aload_n 0, 1) := dk_42 (dk_at dksX3_redo_2 6 rfl rfl)
theorem dX3_redo_55 : decode cX3_redo 55 = .ok (.getfield 41, 3) := dk_180 0 41 (dk_at dksX3_redo_2 7 rfl rfl)
theorem dX3_redo_58 : decode cX3_redo 58 = .ok (.aload_n 0, 1) := dk_42 (dk_at dksX3_redo_2 10 rfl rfl)
theorem dX3_redo_59 : decode cX3_redo 59 = .ok (.getfield 189, 3) := dk_180 0 189 (dk_at dksX3_redo_2 11 rfl rfl)
theorem dX3_redo_62 : decode cX3_redo 62 = .ok (.aload_n 0, 1) := dk_42 (dk_at dksX3_redo_2 14 rfl rfl)
theorem dX3_redo_63 : decode cX3_redo 63 = .ok (.getfield 29, 3) := dk_180 0 29 (dk_at dksX3_redo_2 15 rfl rfl)
theorem dX3_redo_66 : decode cX3_redo 66 = .ok (.aload_n 0, 1) := dk_42 (dk_at dksX3_redo_2 18 rfl rfl)
theorem dX3_redo_67 : decode cX3_redo 67 = .ok (.getfield 44, 3) := dk_180 0 44 (dk_at dksX3_redo_2 19 rfl rfl)
theorem dX3_redo_70 : decode cX3_redo 70 = .ok (.iload_n 1, 1) := dk_27 (dk_at dksX3_redo_2 22 rfl rfl)
theorem dX3_redo_71 : decode cX3_redo 71 = .ok (.iaload, 1) := dk_46 (dk_at dksX3_redo_2 23 rfl rfl)
theorem dX3_redo_72 : decode cX3_redo 72 = .ok (.aload_n 0, 1) := dk_42 (dk_at dksX3_redo_3 0 rfl rfl)
theorem dX3_redo_73 : decode cX3_redo 73 = .ok (.getfield 44, 3) := dk_180 0 44 (dk_at dksX3_redo_3 1 rfl rfl)
theorem dX3_redo_76 : decode cX3_redo 76 = .ok (.iload_n 1, 1) := dk_27 (dk_at dksX3_redo_3 4 rfl rfl)
theorem dX3_redo_77 : decode cX3_redo 77 = .ok (.iconst 1, 1) := dk_4 (dk_at dksX3_redo_3 5 rfl rfl)
theorem dX3_redo_78 : decode cX3_redo 78 = .ok (.iadd, 1) := dk_96 (dk_at dksX3_redo_3 6 rfl rfl)
theorem dX3_redo_79 : decode cX3_redo 79 = .ok (.iaload, 1) := dk_46 (dk_at dksX3_redo_3 7 rfl rfl)
theorem dX3_redo_80 : decode cX3_redo 80 = .ok (.aload_n 0, 1) := dk_42 (dk_at dksX3_redo_3 8 rfl rfl)
theorem dX3_redo_81 : decode cX3_redo 81 = .ok (.getfield 44, 3) := dk_180 0 44 (dk_at dksX3_redo_3 9 rfl rfl)
theorem dX3_redo_84 : decode cX3_redo 84 = .ok (.iload_n 1, 1) := dk_27 (dk_at dksX3_redo_3 12 rfl rfl)
theorem dX3_redo_85 : decode cX3_redo 85 = .ok (.iconst 2, 1) := dk_5 (dk_at dksX3_redo_3 13 rfl rfl)
theorem dX3_redo_86 : decode cX3_redo 86 = .ok (.iadd, 1) := dk_96 (dk_at dksX3_redo_3 14 rfl rfl)
theorem dX3_redo_87 : decode cX3_redo 87 = .ok (.iaload, 1) := dk_46 (dk_at dksX3_redo_3 15 rfl rfl)
theorem dX3_redo_88 : decode cX3_redo 88 = .ok (.aload_n 0, 1) := dk_42 (dk_at dksX3_redo_3 16 rfl rfl)
theorem dX3_redo_89 : decode cX3_redo 89 = .ok (.getfield 44, 3) := dk_180 0 44 (dk_at dksX3_redo_3 17 rfl rfl)
theorem dX3_redo_92 : decode cX3_redo 92 = .ok (.iload_n 1, 1) := dk_27 (dk_at dksX3_redo_3 20 rfl rfl)
theorem dX3_redo_93 : decode cX3_redo 93 = .ok (.iconst 3, 1) := dk_6 (dk_at dksX3_redo_3 21 rfl rfl)
theorem dX3_redo_94 : decode cX3_redo 94 = .ok (.iadd, 1) := dk_96 (dk_at dksX3_redo_3 22 rfl rfl)
theorem dX3_redo_95 : decode cX3_redo 95 = .ok (.iaload, 1) := dk_46 (dk_at dksX3_redo_3 23 rfl rfl)
theorem dX3_redo_96 : decode cX3_redo 96 = .ok (.aload_n 0, 1) := dk_42 (dk_at dksX3_redo_4 0 rfl rfl)
theorem dX3_redo_97 : decode cX3_redo 97 = .ok (.getfield 44, 3) := dk_180 0 44 (dk_at dksX3_redo_4 1 rfl rfl)
theorem dX3_redo_100 : decode cX3_redo 100 = .ok (.iload_n 1, 1) := dk_27 (dk_at dksX3_redo_4 4 rfl rfl)
theorem dX3_redo_101 : decode cX3_redo 101 = .ok (.iconst 4, 1) := dk_7 (dk_at dksX3_redo_4 5 rfl rfl)
theorem dX3_redo_102 : decode cX3_redo 102 = .ok (.iadd, 1) := dk_96 (dk_at dksX3_redo_4 6 rfl rfl)
theorem dX3_redo_103 : decode cX3_redo 103 = .ok (.iaload, 1) := dk_46 (dk_at dksX3_redo_4 7 rfl rfl)
theorem dX3_redo_104 : decode cX3_redo 104 = .ok (.invokestatic 395, 3) := dk_184 1 139 (dk_at dksX3_redo_4 8 rfl rfl)
theorem dX3_redo_107 : decode cX3_redo 107 = .ok (.aload_n 0, 1) := dk_42 (dk_at dksX3_redo_4 11 rfl rfl)
theorem dX3_redo_108 : decode cX3_redo 108 = .ok (.aload_n 0, 1) := dk_42 (dk_at dksX3_redo_4 12 rfl rfl)
theorem dX3_redo_109 : decode cX3_redo 109 = .ok (.getfield 189, 3) := dk_180 0 189 (dk_at dksX3_redo_4 13 rfl rfl)
theorem dX3_redo_112 : decode cX3_redo 112 = .ok (.bipush 20, 2) := dk_16 20 (dk_at dksX3_redo_4 16 rfl rfl)
theorem dX3_redo_114 : decode cX3_redo 114 = .ok (.if_icmp .ne 8, 3) := dk_160 0 8 (dk_at dksX3_redo_4 18 rfl rfl)
theorem dX3_redo_117 : decode cX3_redo 117 = .ok (.bipush 20, 2) := dk_16 20 (dk_at dksX3_redo_4 21 rfl rfl)
theorem dX3_redo_119 : decode cX3_redo 119 = .ok (.goto 9, 3) := dk_167 0 9 (dk_at dksX3_redo_5 0 rfl rfl)
theorem dX3_redo_122 : decode cX3_redo 122 = .ok (.aload_n 0, 1) := dk_42 (dk_at dksX3_redo_5 3 rfl rfl)
theorem dX3_redo_123 : decode cX3_redo 123 = .ok (.getfield 189, 3) := dk_180 0 189 (dk_at dksX3_redo_5 4 rfl rfl)
theorem dX3_redo_126 : decode cX3_redo 126 = .ok (.iconst 1, 1) := dk_4 (dk_at dksX3_redo_5 7 rfl rfl)
theorem dX3_redo_127 : decode cX3_redo 127 = .ok (.iadd, 1) := dk_96 (dk_at dksX3_redo_5 8 rfl rfl)
theorem dX3_redo_128 : decode cX3_redo 128 = .ok (.putfield 189, 3) := dk_181 0 189 (dk_at dksX3_redo_5 9 rfl rfl)
theorem dX3_redo_131 : decode cX3_redo 131 = .ok (.aload_n 0, 1) := dk_42 (dk_at dksX3_redo_5 12 rfl rfl)
theorem dX3_redo_132 : decode cX3_redo 132 = .ok (.getfield 35, 3) := dk_180 0 35 (dk_at dksX3_redo_5 13 rfl rfl)
theorem dX3_redo_135 : decode cX3_redo 135 = .ok (.bipush 49, 2) := dk_16 49 (dk_at dksX3_redo_5 16 rfl rfl)
theorem dX3_redo_137 : decode cX3_redo 137 = .ok (.aload_n 0, 1) := dk_42 (dk_at dksX3_redo_5 18 rfl rfl)
theorem dX3_redo_138 : decode cX3_redo 138 = .ok (.getfield 192, 3) := dk_180 0 192 (dk_at dksX3_redo_5 19 rfl rfl)
theorem dX3_redo_141 : decode cX3_redo 141 = .ok (.imul, 1) := dk_104 (dk_at dksX3_redo_5 22 rfl rfl)
theorem dX3_redo_142 : decode cX3_redo 142 = .ok (.aload_n 0, 1) := dk_42 (dk_at dksX3_redo_5 23 rfl rfl)
theorem dX3_redo_143 : decode cX3_redo 143 = .ok (.getfield 20, 3) := dk_180 0 20 (dk_at dksX3_redo_6 0 rfl rfl)
theorem dX3_redo_146 : decode cX3_redo 146 = .ok (.iconst 0, 1) := dk_3 (dk_at dksX3_redo_6 3 rfl rfl)
theorem dX3_redo_147 : decode cX3_redo 147 = .ok (.bipush 49, 2) := dk_16 49 (dk_at dksX3_redo_6 4 rfl rfl)
theorem dX3_redo_149 : decode cX3_redo 149 = .ok (.invokestatic 399, 3) := dk_184 1 143 (dk_at dksX3_redo_6 6 rfl rfl)
theorem dX3_redo_152 : decode cX3_redo 152 = .ok (.aload_n 0, 1) := dk_42 (dk_at dksX3_redo_6 9 rfl rfl)
theorem dX3_redo_153 : decode cX3_redo 153 = .ok (.invokevirtual 186, 3) := dk_182 0 186 (dk_at dksX3_redo_6 10 rfl rfl)
theorem dX3_redo_156 : decode cX3_redo 156 = .ok (.iconst 1, 1) := dk_4 (dk_at dksX3_redo_6 13 rfl rfl)
theorem dX3_redo_157 : decode cX3_redo 157 = .ok (.ireturn, 1) := dk_172 (dk_at dksX3_redo_6 14 rfl rfl)
abbrev cX3_mark : ByteArray := prog_18_method_117_code
def yX3_mark : MethodName := ⟨RX3, "mark", "()I"⟩
def dkwX3_mark_2 : List UInt8 := [104, 16, 49, 184, 1, 143, 42, 89, 180, 0, 195, 4, 96, 181, 0, 195, 42, 180, 0, 195, 4, 100, 172]
abbrev dktX3_mark_2 : List UInt8 := dkwX3_mark_2 ++ []
def dkwX3_mark_1 : List UInt8 := [160, 0, 9, 42, 6, 182, 0, 177, 172, 42, 180, 0, 20, 3, 42, 180, 0, 38, 16, 49, 42, 180, 0, 195]
abbrev dktX3_mark_1 : List UInt8 := dkwX3_mark_1 ++ dktX3_mark_2
def dkwX3_mark_0 : List UInt8 := [42, 182, 0, 174, 42, 180, 0, 183, 154, 0, 9, 42, 4, 182, 0, 177, 172, 42, 180, 0, 195, 7]
abbrev dktX3_mark_0 : List UInt8 := dkwX3_mark_0 ++ dktX3_mark_1
theorem dksX3_mark_0 : cX3_mark.data.toList.drop 0 = dktX3_mark_0 := by decide +kernel
theorem dksX3_mark_1 : cX3_mark.data.toList.drop 22 = dktX3_mark_1 := dk_seg dksX3_mark_0 22 rfl rfl
theorem dksX3_mark_2 : cX3_mark.data.toList.drop 46 = dktX3_mark_2 := dk_seg dksX3_mark_1 24 rfl rfl
theorem dX3_mark_0 : decode cX3_mark 0 = .ok (.aload_n 0, 1) := dk_42 (dk_at dksX3_mark_0 0 rfl rfl)
theorem dX3_mark_1 : decode cX3_mark 1 = .ok (.invokevirtual 174, 3) := dk_182 0 174 (dk_at dksX3_mark_0 1 rfl rfl)
theorem dX3_mark_4 : decode cX3_mark 4 = .ok (.aload_n 0, 1) := dk_42 (dk_at dksX3_mark_0 4 rfl rfl)
theorem dX3_mark_5 : decode cX3_mark 5 = .ok (.getfield 183, 3) := dk_180 0 183 (dk_at dksX3_mark_0 5 rfl rfl)
theorem dX3_mark_8 : decode cX3_mark 8 = .ok (.ifCond .ne 9, 3) := dk_154 0 9 (dk_at dksX3_mark_0 8 rfl rfl)
theorem dX3_mark_11 : decode cX3_mark 11 = .ok (.aload_n 0, 1) := dk_42 (dk_at dksX3_mark_0 11 rfl rfl)
theorem dX3_mark_12 : decode cX3_mark 12 = .ok (.iconst 1, 1) := dk_4 (dk_at dksX3_mark_0 12 rfl rfl)
theorem dX3_mark_13 : decode cX3_mark 13 = .ok (.invokevirtual 177, 3) := dk_182 0 177 (dk_at dksX3_mark_0 13 rfl rfl)
theorem dX3_mark_16 : decode cX3_mark 16 = .ok (.ireturn, 1) := dk_172 (dk_at dksX3_mark_0 16 rfl rfl)
theorem dX3_mark_17 : decode cX3_mark 17 = .ok (.aload_n 0, 1) := dk_42 (dk_at dksX3_mark_0 17 rfl rfl)
theorem dX3_mark_18 : decode cX3_mark 18 = .ok (.getfield 195, 3) := dk_180 0 195 (dk_at dksX3_mark_0 18 rfl rfl)
theorem dX3_mark_21 : decode cX3_mark 21 = .ok (.iconst 4, 1) := dk_7 (dk_at dksX3_mark_0 21 rfl rfl)
theorem dX3_mark_22 : decode cX3_mark 22 = .ok (.if_icmp .ne 9, 3) := dk_160 0 9 (dk_at dksX3_mark_1 0 rfl rfl)
theorem dX3_mark_25 : decode cX3_mark 25 = .ok (.aload_n 0, 1) := dk_42 (dk_at dksX3_mark_1 3 rfl rfl)
theorem dX3_mark_26 : decode cX3_mark 26 = .ok (.iconst 3, 1) := dk_6 (dk_at dksX3_mark_1 4 rfl rfl)
theorem dX3_mark_27 : decode cX3_mark 27 = .ok (.invokevirtual 177, 3) := dk_182 0 177 (dk_at dksX3_mark_1 5 rfl rfl)
theorem dX3_mark_30 : decode cX3_mark 30 = .ok (.ireturn, 1) := dk_172 (dk_at dksX3_mark_1 8 rfl rfl)
theorem dX3_mark_31 : decode cX3_mark 31 = .ok (.aload_n 0, 1) := dk_42 (dk_at dksX3_mark_1 9 rfl rfl)
theorem dX3_mark_32 : decode cX3_mark 32 = .ok (.getfield 20, 3) := dk_180 0 20 (dk_at dksX3_mark_1 10 rfl rfl)
theorem dX3_mark_35 : decode cX3_mark 35 = .ok (.iconst 0, 1) := dk_3 (dk_at dksX3_mark_1 13 rfl rfl)
theorem dX3_mark_36 : decode cX3_mark 36 = .ok (.aload_n 0, 1) := dk_42 (dk_at dksX3_mark_1 14 rfl rfl)
theorem dX3_mark_37 : decode cX3_mark 37 = .ok (.getfield 38, 3) := dk_180 0 38 (dk_at dksX3_mark_1 15 rfl rfl)
theorem dX3_mark_40 : decode cX3_mark 40 = .ok (.bipush 49, 2) := dk_16 49 (dk_at dksX3_mark_1 18 rfl rfl)
theorem dX3_mark_42 : decode cX3_mark 42 = .ok (.aload_n 0, 1) := dk_42 (dk_at dksX3_mark_1 20 rfl rfl)
theorem dX3_mark_43 : decode cX3_mark 43 = .ok (.getfield 195, 3) := dk_180 0 195 (dk_at dksX3_mark_1 21 rfl rfl)
theorem dX3_mark_46 : decode cX3_mark 46 = .ok (.imul, 1) := dk_104 (dk_at dksX3_mark_2 0 rfl rfl)
theorem dX3_mark_47 : decode cX3_mark 47 = .ok (.bipush 49, 2) := dk_16 49 (dk_at dksX3_mark_2 1 rfl rfl)
theorem dX3_mark_49 : decode cX3_mark 49 = .ok (.invokestatic 399, 3) := dk_184 1 143 (dk_at dksX3_mark_2 3 rfl rfl)
theorem dX3_mark_52 : decode cX3_mark 52 = .ok (.aload_n 0, 1) := dk_42 (dk_at dksX3_mark_2 6 rfl rfl)
theorem dX3_mark_53 : decode cX3_mark 53 = .ok (.dup, 1) := dk_89 (dk_at dksX3_mark_2 7 rfl rfl)
theorem dX3_mark_54 : decode cX3_mark 54 = .ok (.getfield 195, 3) := dk_180 0 195 (dk_at dksX3_mark_2 8 rfl rfl)
theorem dX3_mark_57 : decode cX3_mark 57 = .ok (.iconst 1, 1) := dk_4 (dk_at dksX3_mark_2 11 rfl rfl)
theorem dX3_mark_58 : decode cX3_mark 58 = .ok (.iadd, 1) := dk_96 (dk_at dksX3_mark_2 12 rfl rfl)
theorem dX3_mark_59 : decode cX3_mark 59 = .ok (.putfield 195, 3) := dk_181 0 195 (dk_at dksX3_mark_2 13 rfl rfl)
theorem dX3_mark_62 : decode cX3_mark 62 = .ok (.aload_n 0, 1) := dk_42 (dk_at dksX3_mark_2 16 rfl rfl)
theorem dX3_mark_63 : decode cX3_mark 63 = .ok (.getfield 195, 3) := dk_180 0 195 (dk_at dksX3_mark_2 17 rfl rfl)
theorem dX3_mark_66 : decode cX3_mark 66 = .ok (.iconst 1, 1) := dk_4 (dk_at dksX3_mark_2 20 rfl rfl)
theorem dX3_mark_67 : decode cX3_mark 67 = .ok (.isub, 1) := dk_100 (dk_at dksX3_mark_2 21 rfl rfl)
theorem dX3_mark_68 : decode cX3_mark 68 = .ok (.ireturn, 1) := dk_172 (dk_at dksX3_mark_2 22 rfl rfl)
abbrev cX3_back : ByteArray := prog_18_method_118_code
def yX3_back : MethodName := ⟨RX3, "back", "(I)Z"⟩
def dkwX3_back_2 : List UInt8 := [3, 181, 0, 192, 42, 182, 0, 186, 4, 172]
abbrev dktX3_back_2 : List UInt8 := dkwX3_back_2 ++ []
def dkwX3_back_1 : List UInt8 := [42, 180, 0, 38, 16, 49, 27, 104, 42, 180, 0, 20, 3, 16, 49, 184, 1, 143, 42, 3, 181, 0, 189, 42]
abbrev dktX3_back_1 : List UInt8 := dkwX3_back_1 ++ dktX3_back_2
def dkwX3_back_0 : List UInt8 := [42, 182, 0, 174, 27, 3, 42, 180, 0, 195, 4, 100, 184, 0, 170, 154, 0, 9, 42, 4, 182, 1, 80, 172]
abbrev dktX3_back_0 : List UInt8 := dkwX3_back_0 ++ dktX3_back_1
theorem dksX3_back_0 : cX3_back.data.toList.drop 0 = dktX3_back_0 := by decide +kernel
theorem dksX3_back_1 : cX3_back.data.toList.drop 24 = dktX3_back_1 := dk_seg dksX3_back_0 24 rfl rfl
theorem dksX3_back_2 : cX3_back.data.toList.drop 48 = dktX3_back_2 := dk_seg dksX3_back_1 24 rfl rfl
theorem dX3_back_0 : decode cX3_back 0 = .ok (.aload_n 0, 1) := dk_42 (dk_at dksX3_back_0 0 rfl rfl)
theorem dX3_back_1 : decode cX3_back 1 = .ok (.invokevirtual 174, 3) := dk_182 0 174 (dk_at dksX3_back_0 1 rfl rfl)
theorem dX3_back_4 : decode cX3_back 4 = .ok (.iload_n 1, 1) := dk_27 (dk_at dksX3_back_0 4 rfl rfl)
theorem dX3_back_5 : decode cX3_back 5 = .ok (.iconst 0, 1) := dk_3 (dk_at dksX3_back_0 5 rfl rfl)
theorem dX3_back_6 : decode cX3_back 6 = .ok (.aload_n 0, 1) := dk_42 (dk_at dksX3_back_0 6 rfl rfl)
theorem dX3_back_7 : decode cX3_back 7 = .ok (.getfield 195, 3) := dk_180 0 195 (dk_at dksX3_back_0 7 rfl rfl)
theorem dX3_back_10 : decode cX3_back 10 = .ok (.iconst 1, 1) := dk_4 (dk_at dksX3_back_0 10 rfl rfl)
theorem dX3_back_11 : decode cX3_back 11 = .ok (.isub, 1) := dk_100 (dk_at dksX3_back_0 11 rfl rfl)
theorem dX3_back_12 : decode cX3_back 12 = .ok (.invokestatic 170, 3) := dk_184 0 170 (dk_at dksX3_back_0 12 rfl rfl)
theorem dX3_back_15 : decode cX3_back 15 = .ok (.ifCond .ne 9, 3) := dk_154 0 9 (dk_at dksX3_back_0 15 rfl rfl)
theorem dX3_back_18 : decode cX3_back 18 = .ok (.aload_n 0, 1) := dk_42 (dk_at dksX3_back_0 18 rfl rfl)
theorem dX3_back_19 : decode cX3_back 19 = .ok (.iconst 1, 1) := dk_4 (dk_at dksX3_back_0 19 rfl rfl)
theorem dX3_back_20 : decode cX3_back 20 = .ok (.invokevirtual 336, 3) := dk_182 1 80 (dk_at dksX3_back_0 20 rfl rfl)
theorem dX3_back_23 : decode cX3_back 23 = .ok (.ireturn, 1) := dk_172 (dk_at dksX3_back_0 23 rfl rfl)
theorem dX3_back_24 : decode cX3_back 24 = .ok (.aload_n 0, 1) := dk_42 (dk_at dksX3_back_1 0 rfl rfl)
theorem dX3_back_25 : decode cX3_back 25 = .ok (.getfield 38, 3) := dk_180 0 38 (dk_at dksX3_back_1 1 rfl rfl)
theorem dX3_back_28 : decode cX3_back 28 = .ok (.bipush 49, 2) := dk_16 49 (dk_at dksX3_back_1 4 rfl rfl)
theorem dX3_back_30 : decode cX3_back 30 = .ok (.iload_n 1, 1) := dk_27 (dk_at dksX3_back_1 6 rfl rfl)
theorem dX3_back_31 : decode cX3_back 31 = .ok (.imul, 1) := dk_104 (dk_at dksX3_back_1 7 rfl rfl)
theorem dX3_back_32 : decode cX3_back 32 = .ok (.aload_n 0, 1) := dk_42 (dk_at dksX3_back_1 8 rfl rfl)
theorem dX3_back_33 : decode cX3_back 33 = .ok (.getfield 20, 3) := dk_180 0 20 (dk_at dksX3_back_1 9 rfl rfl)
theorem dX3_back_36 : decode cX3_back 36 = .ok (.iconst 0, 1) := dk_3 (dk_at dksX3_back_1 12 rfl rfl)
theorem dX3_back_37 : decode cX3_back 37 = .ok (.bipush 49, 2) := dk_16 49 (dk_at dksX3_back_1 13 rfl rfl)
theorem dX3_back_39 : decode cX3_back 39 = .ok (.invokestatic 399, 3) := dk_184 1 143 (dk_at dksX3_back_1 15 rfl rfl)
theorem dX3_back_42 : decode cX3_back 42 = .ok (.aload_n 0, 1) := dk_42 (dk_at dksX3_back_1 18 rfl rfl)
theorem dX3_back_43 : decode cX3_back 43 = .ok (.iconst 0, 1) := dk_3 (dk_at dksX3_back_1 19 rfl rfl)
theorem dX3_back_44 : decode cX3_back 44 = .ok (.putfield 189, 3) := dk_181 0 189 (dk_at dksX3_back_1 20 rfl rfl)
theorem dX3_back_47 : decode cX3_back 47 = .ok (.aload_n 0, 1) := dk_42 (dk_at dksX3_back_1 23 rfl rfl)
theorem dX3_back_48 : decode cX3_back 48 = .ok (.iconst 0, 1) := dk_3 (dk_at dksX3_back_2 0 rfl rfl)
theorem dX3_back_49 : decode cX3_back 49 = .ok (.putfield 192, 3) := dk_181 0 192 (dk_at dksX3_back_2 1 rfl rfl)
theorem dX3_back_52 : decode cX3_back 52 = .ok (.aload_n 0, 1) := dk_42 (dk_at dksX3_back_2 4 rfl rfl)
theorem dX3_back_53 : decode cX3_back 53 = .ok (.invokevirtual 186, 3) := dk_182 0 186 (dk_at dksX3_back_2 5 rfl rfl)
theorem dX3_back_56 : decode cX3_back 56 = .ok (.iconst 1, 1) := dk_4 (dk_at dksX3_back_2 8 rfl rfl)
theorem dX3_back_57 : decode cX3_back 57 = .ok (.ireturn, 1) := dk_172 (dk_at dksX3_back_2 9 rfl rfl)
abbrev cX3_act : ByteArray := prog_18_method_119_code
def yX3_act : MethodName := ⟨RX3, "act", "(II)I"⟩
def dkwX3_act_2 : List UInt8 := [167, 0, 8, 42, 4, 182, 0, 177, 172]
abbrev dktX3_act_2 : List UInt8 := dkwX3_act_2 ++ []
def dkwX3_act_1 : List UInt8 := [153, 0, 25, 28, 3, 7, 184, 0, 170, 153, 0, 16, 42, 180, 0, 41, 8, 27, 104, 28, 96, 46]
abbrev dktX3_act_1 : List UInt8 := dkwX3_act_1 ++ dktX3_act_2
def dkwX3_act_0 : List UInt8 := [42, 182, 0, 174, 42, 180, 0, 183, 153, 0, 39, 27, 3, 42, 180, 0, 189, 4, 100, 184, 0, 170]
abbrev dktX3_act_0 : List UInt8 := dkwX3_act_0 ++ dktX3_act_1
theorem dksX3_act_0 : cX3_act.data.toList.drop 0 = dktX3_act_0 := by decide +kernel
theorem dksX3_act_1 : cX3_act.data.toList.drop 22 = dktX3_act_1 := dk_seg dksX3_act_0 22 rfl rfl
theorem dksX3_act_2 : cX3_act.data.toList.drop 44 = dktX3_act_2 := dk_seg dksX3_act_1 22 rfl rfl
theorem dX3_act_0 : decode cX3_act 0 = .ok (.aload_n 0, 1) := dk_42 (dk_at dksX3_act_0 0 rfl rfl)
theorem dX3_act_1 : decode cX3_act 1 = .ok (.invokevirtual 174, 3) := dk_182 0 174 (dk_at dksX3_act_0 1 rfl rfl)
theorem dX3_act_4 : decode cX3_act 4 = .ok (.aload_n 0, 1) := dk_42 (dk_at dksX3_act_0 4 rfl rfl)
theorem dX3_act_5 : decode cX3_act 5 = .ok (.getfield 183, 3) := dk_180 0 183 (dk_at dksX3_act_0 5 rfl rfl)
theorem dX3_act_8 : decode cX3_act 8 = .ok (.ifCond .eq 39, 3) := dk_153 0 39 (dk_at dksX3_act_0 8 rfl rfl)
theorem dX3_act_11 : decode cX3_act 11 = .ok (.iload_n 1, 1) := dk_27 (dk_at dksX3_act_0 11 rfl rfl)
theorem dX3_act_12 : decode cX3_act 12 = .ok (.iconst 0, 1) := dk_3 (dk_at dksX3_act_0 12 rfl rfl)
theorem dX3_act_13 : decode cX3_act 13 = .ok (.aload_n 0, 1) := dk_42 (dk_at dksX3_act_0 13 rfl rfl)
theorem dX3_act_14 : decode cX3_act 14 = .ok (.getfield 189, 3) := dk_180 0 189 (dk_at dksX3_act_0 14 rfl rfl)
theorem dX3_act_17 : decode cX3_act 17 = .ok (.iconst 1, 1) := dk_4 (dk_at dksX3_act_0 17 rfl rfl)
theorem dX3_act_18 : decode cX3_act 18 = .ok (.isub, 1) := dk_100 (dk_at dksX3_act_0 18 rfl rfl)
theorem dX3_act_19 : decode cX3_act 19 = .ok (.invokestatic 170, 3) := dk_184 0 170 (dk_at dksX3_act_0 19 rfl rfl)
theorem dX3_act_22 : decode cX3_act 22 = .ok (.ifCond .eq 25, 3) := dk_153 0 25 (dk_at dksX3_act_1 0 rfl rfl)
theorem dX3_act_25 : decode cX3_act 25 = .ok (.iload_n 2, 1) := dk_28 (dk_at dksX3_act_1 3 rfl rfl)
theorem dX3_act_26 : decode cX3_act 26 = .ok (.iconst 0, 1) := dk_3 (dk_at dksX3_act_1 4 rfl rfl)
theorem dX3_act_27 : decode cX3_act 27 = .ok (.iconst 4, 1) := dk_7 (dk_at dksX3_act_1 5 rfl rfl)
theorem dX3_act_28 : decode cX3_act 28 = .ok (.invokestatic 170, 3) := dk_184 0 170 (dk_at dksX3_act_1 6 rfl rfl)
theorem dX3_act_31 : decode cX3_act 31 = .ok (.ifCond .eq 16, 3) := dk_153 0 16 (dk_at dksX3_act_1 9 rfl rfl)
theorem dX3_act_34 : decode cX3_act 34 = .ok (.aload_n 0, 1) := dk_42 (dk_at dksX3_act_1 12 rfl rfl)
theorem dX3_act_35 : decode cX3_act 35 = .ok (.getfield 41, 3) := dk_180 0 41 (dk_at dksX3_act_1 13 rfl rfl)
theorem dX3_act_38 : decode cX3_act 38 = .ok (.iconst 5, 1) := dk_8 (dk_at dksX3_act_1 16 rfl rfl)
theorem dX3_act_39 : decode cX3_act 39 = .ok (.iload_n 1, 1) := dk_27 (dk_at dksX3_act_1 17 rfl rfl)
theorem dX3_act_40 : decode cX3_act 40 = .ok (.imul, 1) := dk_104 (dk_at dksX3_act_1 18 rfl rfl)
theorem dX3_act_41 : decode cX3_act 41 = .ok (.iload_n 2, 1) := dk_28 (dk_at dksX3_act_1 19 rfl rfl)
theorem dX3_act_42 : decode cX3_act 42 = .ok (.iadd, 1) := dk_96 (dk_at dksX3_act_1 20 rfl rfl)
theorem dX3_act_43 : decode cX3_act 43 = .ok (.iaload, 1) := dk_46 (dk_at dksX3_act_1 21 rfl rfl)
theorem dX3_act_44 : decode cX3_act 44 = .ok (.goto 8, 3) := dk_167 0 8 (dk_at dksX3_act_2 0 rfl rfl)
theorem dX3_act_47 : decode cX3_act 47 = .ok (.aload_n 0, 1) := dk_42 (dk_at dksX3_act_2 3 rfl rfl)
theorem dX3_act_48 : decode cX3_act 48 = .ok (.iconst 1, 1) := dk_4 (dk_at dksX3_act_2 4 rfl rfl)
theorem dX3_act_49 : decode cX3_act 49 = .ok (.invokevirtual 177, 3) := dk_182 0 177 (dk_at dksX3_act_2 5 rfl rfl)
theorem dX3_act_52 : decode cX3_act 52 = .ok (.ireturn, 1) := dk_172 (dk_at dksX3_act_2 8 rfl rfl)
abbrev cX3_times : ByteArray := prog_18_method_120_code
def yX3_times : MethodName := ⟨RX3, "times", "(II)I"⟩
def dkwX3_times_1 : List UInt8 := [96, 46, 167, 0, 8, 42, 4, 182, 0, 177, 172]
abbrev dktX3_times_1 : List UInt8 := dkwX3_times_1 ++ []
def dkwX3_times_0 : List UInt8 := [42, 182, 0, 174, 42, 27, 28, 182, 1, 49, 153, 0, 19, 42, 180, 0, 20, 16, 17, 7, 27, 104, 96, 28]
abbrev dktX3_times_0 : List UInt8 := dkwX3_times_0 ++ dktX3_times_1
theorem dksX3_times_0 : cX3_times.data.toList.drop 0 = dktX3_times_0 := by decide +kernel
theorem dksX3_times_1 : cX3_times.data.toList.drop 24 = dktX3_times_1 := dk_seg dksX3_times_0 24 rfl rfl
theorem dX3_times_0 : decode cX3_times 0 = .ok (.aload_n 0, 1) := dk_42 (dk_at dksX3_times_0 0 rfl rfl)
theorem dX3_times_1 : decode cX3_times 1 = .ok (.invokevirtual 174, 3) := dk_182 0 174 (dk_at dksX3_times_0 1 rfl rfl)
theorem dX3_times_4 : decode cX3_times 4 = .ok (.aload_n 0, 1) := dk_42 (dk_at dksX3_times_0 4 rfl rfl)
theorem dX3_times_5 : decode cX3_times 5 = .ok (.iload_n 1, 1) := dk_27 (dk_at dksX3_times_0 5 rfl rfl)
theorem dX3_times_6 : decode cX3_times 6 = .ok (.iload_n 2, 1) := dk_28 (dk_at dksX3_times_0 6 rfl rfl)
theorem dX3_times_7 : decode cX3_times 7 = .ok (.invokevirtual 305, 3) := dk_182 1 49 (dk_at dksX3_times_0 7 rfl rfl)
theorem dX3_times_10 : decode cX3_times 10 = .ok (.ifCond .eq 19, 3) := dk_153 0 19 (dk_at dksX3_times_0 10 rfl rfl)
theorem dX3_times_13 : decode cX3_times 13 = .ok (.aload_n 0, 1) := dk_42 (dk_at dksX3_times_0 13 rfl rfl)
theorem dX3_times_14 : decode cX3_times 14 = .ok (.getfield 20, 3) := dk_180 0 20 (dk_at dksX3_times_0 14 rfl rfl)
theorem dX3_times_17 : decode cX3_times 17 = .ok (.bipush 17, 2) := dk_16 17 (dk_at dksX3_times_0 17 rfl rfl)
theorem dX3_times_19 : decode cX3_times 19 = .ok (.iconst 4, 1) := dk_7 (dk_at dksX3_times_0 19 rfl rfl)
theorem dX3_times_20 : decode cX3_times 20 = .ok (.iload_n 1, 1) := dk_27 (dk_at dksX3_times_0 20 rfl rfl)
theorem dX3_times_21 : decode cX3_times 21 = .ok (.imul, 1) := dk_104 (dk_at dksX3_times_0 21 rfl rfl)
theorem dX3_times_22 : decode cX3_times 22 = .ok (.iadd, 1) := dk_96 (dk_at dksX3_times_0 22 rfl rfl)
theorem dX3_times_23 : decode cX3_times 23 = .ok (.iload_n 2, 1) := dk_28 (dk_at dksX3_times_0 23 rfl rfl)
theorem dX3_times_24 : decode cX3_times 24 = .ok (.iadd, 1) := dk_96 (dk_at dksX3_times_1 0 rfl rfl)
theorem dX3_times_25 : decode cX3_times 25 = .ok (.iaload, 1) := dk_46 (dk_at dksX3_times_1 1 rfl rfl)
theorem dX3_times_26 : decode cX3_times 26 = .ok (.goto 8, 3) := dk_167 0 8 (dk_at dksX3_times_1 2 rfl rfl)
theorem dX3_times_29 : decode cX3_times 29 = .ok (.aload_n 0, 1) := dk_42 (dk_at dksX3_times_1 5 rfl rfl)
theorem dX3_times_30 : decode cX3_times 30 = .ok (.iconst 1, 1) := dk_4 (dk_at dksX3_times_1 6 rfl rfl)
theorem dX3_times_31 : decode cX3_times 31 = .ok (.invokevirtual 177, 3) := dk_182 0 177 (dk_at dksX3_times_1 7 rfl rfl)
theorem dX3_times_34 : decode cX3_times 34 = .ok (.ireturn, 1) := dk_172 (dk_at dksX3_times_1 10 rfl rfl)
abbrev cX3_look : ByteArray := prog_18_method_121_code
def yX3_look : MethodName := ⟨RX3, "look", "(IZ)I"⟩
def dkwX3_look_1 : List UInt8 := [167, 0, 4, 4, 27, 96, 46, 167, 0, 8, 42, 4, 182, 0, 177, 172]
abbrev dktX3_look_1 : List UInt8 := dkwX3_look_1 ++ []
def dkwX3_look_0 : List UInt8 := [42, 182, 0, 174, 42, 27, 182, 0, 244, 153, 0, 23, 42, 180, 0, 20, 28, 153, 0, 8, 16, 9]
abbrev dktX3_look_0 : List UInt8 := dkwX3_look_0 ++ dktX3_look_1
theorem dksX3_look_0 : cX3_look.data.toList.drop 0 = dktX3_look_0 := by decide +kernel
theorem dksX3_look_1 : cX3_look.data.toList.drop 22 = dktX3_look_1 := dk_seg dksX3_look_0 22 rfl rfl
theorem dX3_look_0 : decode cX3_look 0 = .ok (.aload_n 0, 1) := dk_42 (dk_at dksX3_look_0 0 rfl rfl)
theorem dX3_look_1 : decode cX3_look 1 = .ok (.invokevirtual 174, 3) := dk_182 0 174 (dk_at dksX3_look_0 1 rfl rfl)
theorem dX3_look_4 : decode cX3_look 4 = .ok (.aload_n 0, 1) := dk_42 (dk_at dksX3_look_0 4 rfl rfl)
theorem dX3_look_5 : decode cX3_look 5 = .ok (.iload_n 1, 1) := dk_27 (dk_at dksX3_look_0 5 rfl rfl)
theorem dX3_look_6 : decode cX3_look 6 = .ok (.invokevirtual 244, 3) := dk_182 0 244 (dk_at dksX3_look_0 6 rfl rfl)
theorem dX3_look_9 : decode cX3_look 9 = .ok (.ifCond .eq 23, 3) := dk_153 0 23 (dk_at dksX3_look_0 9 rfl rfl)
theorem dX3_look_12 : decode cX3_look 12 = .ok (.aload_n 0, 1) := dk_42 (dk_at dksX3_look_0 12 rfl rfl)
theorem dX3_look_13 : decode cX3_look 13 = .ok (.getfield 20, 3) := dk_180 0 20 (dk_at dksX3_look_0 13 rfl rfl)
theorem dX3_look_16 : decode cX3_look 16 = .ok (.iload_n 2, 1) := dk_28 (dk_at dksX3_look_0 16 rfl rfl)
theorem dX3_look_17 : decode cX3_look 17 = .ok (.ifCond .eq 8, 3) := dk_153 0 8 (dk_at dksX3_look_0 17 rfl rfl)
theorem dX3_look_20 : decode cX3_look 20 = .ok (.bipush 9, 2) := dk_16 9 (dk_at dksX3_look_0 20 rfl rfl)
theorem dX3_look_22 : decode cX3_look 22 = .ok (.goto 4, 3) := dk_167 0 4 (dk_at dksX3_look_1 0 rfl rfl)
theorem dX3_look_25 : decode cX3_look 25 = .ok (.iconst 1, 1) := dk_4 (dk_at dksX3_look_1 3 rfl rfl)
theorem dX3_look_26 : decode cX3_look 26 = .ok (.iload_n 1, 1) := dk_27 (dk_at dksX3_look_1 4 rfl rfl)
theorem dX3_look_27 : decode cX3_look 27 = .ok (.iadd, 1) := dk_96 (dk_at dksX3_look_1 5 rfl rfl)
theorem dX3_look_28 : decode cX3_look 28 = .ok (.iaload, 1) := dk_46 (dk_at dksX3_look_1 6 rfl rfl)
theorem dX3_look_29 : decode cX3_look 29 = .ok (.goto 8, 3) := dk_167 0 8 (dk_at dksX3_look_1 7 rfl rfl)
theorem dX3_look_32 : decode cX3_look 32 = .ok (.aload_n 0, 1) := dk_42 (dk_at dksX3_look_1 10 rfl rfl)
theorem dX3_look_33 : decode cX3_look 33 = .ok (.iconst 1, 1) := dk_4 (dk_at dksX3_look_1 11 rfl rfl)
theorem dX3_look_34 : decode cX3_look 34 = .ok (.invokevirtual 177, 3) := dk_182 0 177 (dk_at dksX3_look_1 12 rfl rfl)
theorem dX3_look_37 : decode cX3_look 37 = .ok (.ireturn, 1) := dk_172 (dk_at dksX3_look_1 15 rfl rfl)
abbrev cX3_coins : ByteArray := prog_18_method_122_code
def yX3_coins : MethodName := ⟨RX3, "coins", "(II)I"⟩
def dkwX3_coins_1 : List UInt8 := [167, 0, 8, 42, 4, 182, 0, 177, 172]
abbrev dktX3_coins_1 : List UInt8 := dkwX3_coins_1 ++ []
def dkwX3_coins_0 : List UInt8 := [42, 182, 0, 174, 42, 27, 28, 182, 1, 49, 153, 0, 16, 42, 180, 0, 26, 7, 27, 104, 28, 96, 46]
abbrev dktX3_coins_0 : List UInt8 := dkwX3_coins_0 ++ dktX3_coins_1
theorem dksX3_coins_0 : cX3_coins.data.toList.drop 0 = dktX3_coins_0 := by decide +kernel
theorem dksX3_coins_1 : cX3_coins.data.toList.drop 23 = dktX3_coins_1 := dk_seg dksX3_coins_0 23 rfl rfl
theorem dX3_coins_0 : decode cX3_coins 0 = .ok (.aload_n 0, 1) := dk_42 (dk_at dksX3_coins_0 0 rfl rfl)
theorem dX3_coins_1 : decode cX3_coins 1 = .ok (.invokevirtual 174, 3) := dk_182 0 174 (dk_at dksX3_coins_0 1 rfl rfl)
theorem dX3_coins_4 : decode cX3_coins 4 = .ok (.aload_n 0, 1) := dk_42 (dk_at dksX3_coins_0 4 rfl rfl)
theorem dX3_coins_5 : decode cX3_coins 5 = .ok (.iload_n 1, 1) := dk_27 (dk_at dksX3_coins_0 5 rfl rfl)
theorem dX3_coins_6 : decode cX3_coins 6 = .ok (.iload_n 2, 1) := dk_28 (dk_at dksX3_coins_0 6 rfl rfl)
theorem dX3_coins_7 : decode cX3_coins 7 = .ok (.invokevirtual 305, 3) := dk_182 1 49 (dk_at dksX3_coins_0 7 rfl rfl)
theorem dX3_coins_10 : decode cX3_coins 10 = .ok (.ifCond .eq 16, 3) := dk_153 0 16 (dk_at dksX3_coins_0 10 rfl rfl)
theorem dX3_coins_13 : decode cX3_coins 13 = .ok (.aload_n 0, 1) := dk_42 (dk_at dksX3_coins_0 13 rfl rfl)
theorem dX3_coins_14 : decode cX3_coins 14 = .ok (.getfield 26, 3) := dk_180 0 26 (dk_at dksX3_coins_0 14 rfl rfl)
theorem dX3_coins_17 : decode cX3_coins 17 = .ok (.iconst 4, 1) := dk_7 (dk_at dksX3_coins_0 17 rfl rfl)
theorem dX3_coins_18 : decode cX3_coins 18 = .ok (.iload_n 1, 1) := dk_27 (dk_at dksX3_coins_0 18 rfl rfl)
theorem dX3_coins_19 : decode cX3_coins 19 = .ok (.imul, 1) := dk_104 (dk_at dksX3_coins_0 19 rfl rfl)
theorem dX3_coins_20 : decode cX3_coins 20 = .ok (.iload_n 2, 1) := dk_28 (dk_at dksX3_coins_0 20 rfl rfl)
theorem dX3_coins_21 : decode cX3_coins 21 = .ok (.iadd, 1) := dk_96 (dk_at dksX3_coins_0 21 rfl rfl)
theorem dX3_coins_22 : decode cX3_coins 22 = .ok (.iaload, 1) := dk_46 (dk_at dksX3_coins_0 22 rfl rfl)
theorem dX3_coins_23 : decode cX3_coins 23 = .ok (.goto 8, 3) := dk_167 0 8 (dk_at dksX3_coins_1 0 rfl rfl)
theorem dX3_coins_26 : decode cX3_coins 26 = .ok (.aload_n 0, 1) := dk_42 (dk_at dksX3_coins_1 3 rfl rfl)
theorem dX3_coins_27 : decode cX3_coins 27 = .ok (.iconst 1, 1) := dk_4 (dk_at dksX3_coins_1 4 rfl rfl)
theorem dX3_coins_28 : decode cX3_coins 28 = .ok (.invokevirtual 177, 3) := dk_182 0 177 (dk_at dksX3_coins_1 5 rfl rfl)
theorem dX3_coins_31 : decode cX3_coins 31 = .ok (.ireturn, 1) := dk_172 (dk_at dksX3_coins_1 8 rfl rfl)
abbrev cX3_led : ByteArray := prog_18_method_123_code
def yX3_led : MethodName := ⟨RX3, "led", "(I)I"⟩
def dkwX3_led_4 : List UInt8 := [132, 3, 1, 167, 255, 164, 42, 4, 181, 0, 69, 3, 172]
abbrev dktX3_led_4 : List UInt8 := dkwX3_led_4 ++ []
def dkwX3_led_3 : List UInt8 := [160, 0, 15, 42, 3, 181, 0, 69, 7, 29, 104, 21, 4, 96, 172, 132, 2, 1, 132, 4, 1, 167, 255, 190]
abbrev dktX3_led_3 : List UInt8 := dkwX3_led_3 ++ dktX3_led_4
def dkwX3_led_2 : List UInt8 := [21, 4, 96, 46, 153, 0, 36, 42, 29, 21, 4, 182, 1, 52, 153, 0, 6, 167, 0, 23, 28, 27]
abbrev dktX3_led_2 : List UInt8 := dkwX3_led_2 ++ dktX3_led_3
def dkwX3_led_1 : List UInt8 := [21, 4, 42, 180, 0, 20, 29, 184, 0, 247, 162, 0, 59, 42, 180, 0, 20, 16, 17, 7, 29, 104, 96]
abbrev dktX3_led_1 : List UInt8 := dkwX3_led_1 ++ dktX3_led_2
def dkwX3_led_0 : List UInt8 := [3, 61, 3, 62, 42, 180, 0, 183, 153, 0, 91, 29, 42, 180, 0, 20, 3, 46, 162, 0, 81, 3, 54, 4]
abbrev dktX3_led_0 : List UInt8 := dkwX3_led_0 ++ dktX3_led_1
theorem dksX3_led_0 : cX3_led.data.toList.drop 0 = dktX3_led_0 := by decide +kernel
theorem dksX3_led_1 : cX3_led.data.toList.drop 24 = dktX3_led_1 := dk_seg dksX3_led_0 24 rfl rfl
theorem dksX3_led_2 : cX3_led.data.toList.drop 47 = dktX3_led_2 := dk_seg dksX3_led_1 23 rfl rfl
theorem dksX3_led_3 : cX3_led.data.toList.drop 69 = dktX3_led_3 := dk_seg dksX3_led_2 22 rfl rfl
theorem dksX3_led_4 : cX3_led.data.toList.drop 93 = dktX3_led_4 := dk_seg dksX3_led_3 24 rfl rfl
theorem dX3_led_0 : decode cX3_led 0 = .ok (.iconst 0, 1) := dk_3 (dk_at dksX3_led_0 0 rfl rfl)
theorem dX3_led_1 : decode cX3_led 1 = .ok (.istore_n 2, 1) := dk_61 (dk_at dksX3_led_0 1 rfl rfl)
theorem dX3_led_2 : decode cX3_led 2 = .ok (.iconst 0, 1) := dk_3 (dk_at dksX3_led_0 2 rfl rfl)
theorem dX3_led_3 : decode cX3_led 3 = .ok (.istore_n 3, 1) := dk_62 (dk_at dksX3_led_0 3 rfl rfl)
theorem dX3_led_4 : decode cX3_led 4 = .ok (.aload_n 0, 1) := dk_42 (dk_at dksX3_led_0 4 rfl rfl)
theorem dX3_led_5 : decode cX3_led 5 = .ok (.getfield 183, 3) := dk_180 0 183 (dk_at dksX3_led_0 5 rfl rfl)
theorem dX3_led_8 : decode cX3_led 8 = .ok (.ifCond .eq 91, 3) := dk_153 0 91 (dk_at dksX3_led_0 8 rfl rfl)
theorem dX3_led_11 : decode cX3_led 11 = .ok (.iload_n 3, 1) := dk_29 (dk_at dksX3_led_0 11 rfl rfl)
theorem dX3_led_12 : decode cX3_led 12 = .ok (.aload_n 0, 1) := dk_42 (dk_at dksX3_led_0 12 rfl rfl)
theorem dX3_led_13 : decode cX3_led 13 = .ok (.getfield 20, 3) := dk_180 0 20 (dk_at dksX3_led_0 13 rfl rfl)
theorem dX3_led_16 : decode cX3_led 16 = .ok (.iconst 0, 1) := dk_3 (dk_at dksX3_led_0 16 rfl rfl)
theorem dX3_led_17 : decode cX3_led 17 = .ok (.iaload, 1) := dk_46 (dk_at dksX3_led_0 17 rfl rfl)
theorem dX3_led_18 : decode cX3_led 18 = .ok (.if_icmp .ge 81, 3) := dk_162 0 81 (dk_at dksX3_led_0 18 rfl rfl)
theorem dX3_led_21 : decode cX3_led 21 = .ok (.iconst 0, 1) := dk_3 (dk_at dksX3_led_0 21 rfl rfl)
theorem dX3_led_22 : decode cX3_led 22 = .ok (.istore 4, 2) := dk_54 4 (dk_at dksX3_led_0 22 rfl rfl)
theorem dX3_led_24 : decode cX3_led 24 = .ok (.iload 4, 2) := dk_21 4 (dk_at dksX3_led_1 0 rfl rfl)
theorem dX3_led_26 : decode cX3_led 26 = .ok (.aload_n 0, 1) := dk_42 (dk_at dksX3_led_1 2 rfl rfl)
theorem dX3_led_27 : decode cX3_led 27 = .ok (.getfield 20, 3) := dk_180 0 20 (dk_at dksX3_led_1 3 rfl rfl)
theorem dX3_led_30 : decode cX3_led 30 = .ok (.iload_n 3, 1) := dk_29 (dk_at dksX3_led_1 6 rfl rfl)
theorem dX3_led_31 : decode cX3_led 31 = .ok (.invokestatic 247, 3) := dk_184 0 247 (dk_at dksX3_led_1 7 rfl rfl)
theorem dX3_led_34 : decode cX3_led 34 = .ok (.if_icmp .ge 59, 3) := dk_162 0 59 (dk_at dksX3_led_1 10 rfl rfl)
theorem dX3_led_37 : decode cX3_led 37 = .ok (.aload_n 0, 1) := dk_42 (dk_at dksX3_led_1 13 rfl rfl)
theorem dX3_led_38 : decode cX3_led 38 = .ok (.getfield 20, 3) := dk_180 0 20 (dk_at dksX3_led_1 14 rfl rfl)
theorem dX3_led_41 : decode cX3_led 41 = .ok (.bipush 17, 2) := dk_16 17 (dk_at dksX3_led_1 17 rfl rfl)
theorem dX3_led_43 : decode cX3_led 43 = .ok (.iconst 4, 1) := dk_7 (dk_at dksX3_led_1 19 rfl rfl)
theorem dX3_led_44 : decode cX3_led 44 = .ok (.iload_n 3, 1) := dk_29 (dk_at dksX3_led_1 20 rfl rfl)
theorem dX3_led_45 : decode cX3_led 45 = .ok (.imul, 1) := dk_104 (dk_at dksX3_led_1 21 rfl rfl)
theorem dX3_led_46 : decode cX3_led 46 = .ok (.iadd, 1) := dk_96 (dk_at dksX3_led_1 22 rfl rfl)
theorem dX3_led_47 : decode cX3_led 47 = .ok (.iload 4, 2) := dk_21 4 (dk_at dksX3_led_2 0 rfl rfl)
theorem dX3_led_49 : decode cX3_led 49 = .ok (.iadd, 1) := dk_96 (dk_at dksX3_led_2 2 rfl rfl)
theorem dX3_led_50 : decode cX3_led 50 = .ok (.iaload, 1) := dk_46 (dk_at dksX3_led_2 3 rfl rfl)
theorem dX3_led_51 : decode cX3_led 51 = .ok (.ifCond .eq 36, 3) := dk_153 0 36 (dk_at dksX3_led_2 4 rfl rfl)
theorem dX3_led_54 : decode cX3_led 54 = .ok (.aload_n 0, 1) := dk_42 (dk_at dksX3_led_2 7 rfl rfl)
theorem dX3_led_55 : decode cX3_led 55 = .ok (.iload_n 3, 1) := dk_29 (dk_at dksX3_led_2 8 rfl rfl)
theorem dX3_led_56 : decode cX3_led 56 = .ok (.iload 4, 2) := dk_21 4 (dk_at dksX3_led_2 9 rfl rfl)
theorem dX3_led_58 : decode cX3_led 58 = .ok (.invokevirtual 308, 3) := dk_182 1 52 (dk_at dksX3_led_2 11 rfl rfl)
theorem dX3_led_61 : decode cX3_led 61 = .ok (.ifCond .eq 6, 3) := dk_153 0 6 (dk_at dksX3_led_2 14 rfl rfl)
theorem dX3_led_64 : decode cX3_led 64 = .ok (.goto 23, 3) := dk_167 0 23 (dk_at dksX3_led_2 17 rfl rfl)
theorem dX3_led_67 : decode cX3_led 67 = .ok (.iload_n 2, 1) := dk_28 (dk_at dksX3_led_2 20 rfl rfl)
theorem dX3_led_68 : decode cX3_led 68 = .ok (.iload_n 1, 1) := dk_27 (dk_at dksX3_led_2 21 rfl rfl)
theorem dX3_led_69 : decode cX3_led 69 = .ok (.if_icmp .ne 15, 3) := dk_160 0 15 (dk_at dksX3_led_3 0 rfl rfl)
theorem dX3_led_72 : decode cX3_led 72 = .ok (.aload_n 0, 1) := dk_42 (dk_at dksX3_led_3 3 rfl rfl)
theorem dX3_led_73 : decode cX3_led 73 = .ok (.iconst 0, 1) := dk_3 (dk_at dksX3_led_3 4 rfl rfl)
theorem dX3_led_74 : decode cX3_led 74 = .ok (.putfield 69, 3) := dk_181 0 69 (dk_at dksX3_led_3 5 rfl rfl)
theorem dX3_led_77 : decode cX3_led 77 = .ok (.iconst 4, 1) := dk_7 (dk_at dksX3_led_3 8 rfl rfl)
theorem dX3_led_78 : decode cX3_led 78 = .ok (.iload_n 3, 1) := dk_29 (dk_at dksX3_led_3 9 rfl rfl)
theorem dX3_led_79 : decode cX3_led 79 = .ok (.imul, 1) := dk_104 (dk_at dksX3_led_3 10 rfl rfl)
theorem dX3_led_80 : decode cX3_led 80 = .ok (.iload 4, 2) := dk_21 4 (dk_at dksX3_led_3 11 rfl rfl)
theorem dX3_led_82 : decode cX3_led 82 = .ok (.iadd, 1) := dk_96 (dk_at dksX3_led_3 13 rfl rfl)
theorem dX3_led_83 : decode cX3_led 83 = .ok (.ireturn, 1) := dk_172 (dk_at dksX3_led_3 14 rfl rfl)
theorem dX3_led_84 : decode cX3_led 84 = .ok (.iinc 2 1, 3) := dk_132 2 1 (dk_at dksX3_led_3 15 rfl rfl)
theorem dX3_led_87 : decode cX3_led 87 = .ok (.iinc 4 1, 3) := dk_132 4 1 (dk_at dksX3_led_3 18 rfl rfl)
theorem dX3_led_90 : decode cX3_led 90 = .ok (.goto (-66), 3) := dk_167 255 190 (dk_at dksX3_led_3 21 rfl rfl)
theorem dX3_led_93 : decode cX3_led 93 = .ok (.iinc 3 1, 3) := dk_132 3 1 (dk_at dksX3_led_4 0 rfl rfl)
theorem dX3_led_96 : decode cX3_led 96 = .ok (.goto (-92), 3) := dk_167 255 164 (dk_at dksX3_led_4 3 rfl rfl)
theorem dX3_led_99 : decode cX3_led 99 = .ok (.aload_n 0, 1) := dk_42 (dk_at dksX3_led_4 6 rfl rfl)
theorem dX3_led_100 : decode cX3_led 100 = .ok (.iconst 1, 1) := dk_4 (dk_at dksX3_led_4 7 rfl rfl)
theorem dX3_led_101 : decode cX3_led 101 = .ok (.putfield 69, 3) := dk_181 0 69 (dk_at dksX3_led_4 8 rfl rfl)
theorem dX3_led_104 : decode cX3_led 104 = .ok (.iconst 0, 1) := dk_3 (dk_at dksX3_led_4 11 rfl rfl)
theorem dX3_led_105 : decode cX3_led 105 = .ok (.ireturn, 1) := dk_172 (dk_at dksX3_led_4 12 rfl rfl)
abbrev cX3_size : ByteArray := prog_18_method_124_code
def yX3_size : MethodName := ⟨RX3, "size", "(I)I"⟩
def dkwX3_size_6 : List UInt8 := [172]
abbrev dktX3_size_6 : List UInt8 := dkwX3_size_6 ++ []
def dkwX3_size_5 : List UInt8 := [42, 180, 0, 20, 16, 49, 46, 172, 42, 180, 0, 189, 172, 42, 180, 0, 192, 172, 42, 180, 0, 195, 172, 2]
abbrev dktX3_size_5 : List UInt8 := dkwX3_size_5 ++ dktX3_size_6
def dkwX3_size_4 : List UInt8 := [180, 0, 20, 16, 52, 46, 172, 42, 180, 0, 20, 16, 85, 46, 172, 42, 180, 0, 20, 17, 0, 158, 46, 172]
abbrev dktX3_size_4 : List UInt8 := dkwX3_size_4 ++ dktX3_size_5
def dkwX3_size_3 : List UInt8 := [42, 180, 0, 20, 16, 50, 46, 172, 42, 180, 0, 20, 16, 51, 46, 172, 42, 180, 0, 20, 3, 46, 172, 42]
abbrev dktX3_size_3 : List UInt8 := dkwX3_size_3 ++ dktX3_size_4
def dkwX3_size_2 : List UInt8 := [170, 0, 0, 0, 0, 0, 0, 127, 0, 0, 0, 0, 0, 0, 0, 9, 0, 0, 0, 56, 0, 0, 0, 64, 0, 0, 0, 72, 0, 0, 0, 79, 0, 0, 0, 87, 0, 0, 0, 95, 0, 0, 0, 104, 0, 0, 0, 112, 0, 0, 0, 117, 0, 0, 0, 122]
abbrev dktX3_size_2 : List UInt8 := dkwX3_size_2 ++ dktX3_size_3
def dkwX3_size_1 : List UInt8 := [3, 16, 9, 184, 0, 170, 153, 0, 7, 3, 167, 0, 4, 2, 172, 27]
abbrev dktX3_size_1 : List UInt8 := dkwX3_size_1 ++ dktX3_size_2
def dkwX3_size_0 : List UInt8 := [42, 3, 181, 0, 69, 27, 16, 10, 160, 0, 8, 42, 180, 0, 75, 172, 42, 180, 0, 183, 154, 0, 19, 27]
abbrev dktX3_size_0 : List UInt8 := dkwX3_size_0 ++ dktX3_size_1
theorem dksX3_size_0 : cX3_size.data.toList.drop 0 = dktX3_size_0 := by decide +kernel
theorem dksX3_size_1 : cX3_size.data.toList.drop 24 = dktX3_size_1 := dk_seg dksX3_size_0 24 rfl rfl
theorem dksX3_size_2 : cX3_size.data.toList.drop 40 = dktX3_size_2 := dk_seg dksX3_size_1 16 rfl rfl
theorem dksX3_size_3 : cX3_size.data.toList.drop 96 = dktX3_size_3 := dk_seg dksX3_size_2 56 rfl rfl
theorem dksX3_size_4 : cX3_size.data.toList.drop 120 = dktX3_size_4 := dk_seg dksX3_size_3 24 rfl rfl
theorem dksX3_size_5 : cX3_size.data.toList.drop 144 = dktX3_size_5 := dk_seg dksX3_size_4 24 rfl rfl
theorem dksX3_size_6 : cX3_size.data.toList.drop 168 = dktX3_size_6 := dk_seg dksX3_size_5 24 rfl rfl
theorem dX3_size_0 : decode cX3_size 0 = .ok (.aload_n 0, 1) := dk_42 (dk_at dksX3_size_0 0 rfl rfl)
theorem dX3_size_1 : decode cX3_size 1 = .ok (.iconst 0, 1) := dk_3 (dk_at dksX3_size_0 1 rfl rfl)
theorem dX3_size_2 : decode cX3_size 2 = .ok (.putfield 69, 3) := dk_181 0 69 (dk_at dksX3_size_0 2 rfl rfl)
theorem dX3_size_5 : decode cX3_size 5 = .ok (.iload_n 1, 1) := dk_27 (dk_at dksX3_size_0 5 rfl rfl)
theorem dX3_size_6 : decode cX3_size 6 = .ok (.bipush 10, 2) := dk_16 10 (dk_at dksX3_size_0 6 rfl rfl)
theorem dX3_size_8 : decode cX3_size 8 = .ok (.if_icmp .ne 8, 3) := dk_160 0 8 (dk_at dksX3_size_0 8 rfl rfl)
theorem dX3_size_11 : decode cX3_size 11 = .ok (.aload_n 0, 1) := dk_42 (dk_at dksX3_size_0 11 rfl rfl)
theorem dX3_size_12 : decode cX3_size 12 = .ok (.getfield 75, 3) := dk_180 0 75 (dk_at dksX3_size_0 12 rfl rfl)
theorem dX3_size_15 : decode cX3_size 15 = .ok (.ireturn, 1) := dk_172 (dk_at dksX3_size_0 15 rfl rfl)
theorem dX3_size_16 : decode cX3_size 16 = .ok (.aload_n 0, 1) := dk_42 (dk_at dksX3_size_0 16 rfl rfl)
theorem dX3_size_17 : decode cX3_size 17 = .ok (.getfield 183, 3) := dk_180 0 183 (dk_at dksX3_size_0 17 rfl rfl)
theorem dX3_size_20 : decode cX3_size 20 = .ok (.ifCond .ne 19, 3) := dk_154 0 19 (dk_at dksX3_size_0 20 rfl rfl)
theorem dX3_size_23 : decode cX3_size 23 = .ok (.iload_n 1, 1) := dk_27 (dk_at dksX3_size_0 23 rfl rfl)
theorem dX3_size_24 : decode cX3_size 24 = .ok (.iconst 0, 1) := dk_3 (dk_at dksX3_size_1 0 rfl rfl)
theorem dX3_size_25 : decode cX3_size 25 = .ok (.bipush 9, 2) := dk_16 9 (dk_at dksX3_size_1 1 rfl rfl)
theorem dX3_size_27 : decode cX3_size 27 = .ok (.invokestatic 170, 3) := dk_184 0 170 (dk_at dksX3_size_1 3 rfl rfl)
theorem dX3_size_30 : decode cX3_size 30 = .ok (.ifCond .eq 7, 3) := dk_153 0 7 (dk_at dksX3_size_1 6 rfl rfl)
theorem dX3_size_33 : decode cX3_size 33 = .ok (.iconst 0, 1) := dk_3 (dk_at dksX3_size_1 9 rfl rfl)
theorem dX3_size_34 : decode cX3_size 34 = .ok (.goto 4, 3) := dk_167 0 4 (dk_at dksX3_size_1 10 rfl rfl)
theorem dX3_size_37 : decode cX3_size 37 = .ok (.iconst (-1), 1) := dk_2 (dk_at dksX3_size_1 13 rfl rfl)
theorem dX3_size_38 : decode cX3_size 38 = .ok (.ireturn, 1) := dk_172 (dk_at dksX3_size_1 14 rfl rfl)
theorem dX3_size_39 : decode cX3_size 39 = .ok (.iload_n 1, 1) := dk_27 (dk_at dksX3_size_1 15 rfl rfl)
theorem dX3_size_40 : decode cX3_size 40 = .ok (.tableswitch 127 0 9 #[56, 64, 72, 79, 87, 95, 104, 112, 117, 122], 56) := by decide +kernel
theorem dX3_size_96 : decode cX3_size 96 = .ok (.aload_n 0, 1) := dk_42 (dk_at dksX3_size_3 0 rfl rfl)
theorem dX3_size_97 : decode cX3_size 97 = .ok (.getfield 20, 3) := dk_180 0 20 (dk_at dksX3_size_3 1 rfl rfl)
theorem dX3_size_100 : decode cX3_size 100 = .ok (.bipush 50, 2) := dk_16 50 (dk_at dksX3_size_3 4 rfl rfl)
theorem dX3_size_102 : decode cX3_size 102 = .ok (.iaload, 1) := dk_46 (dk_at dksX3_size_3 6 rfl rfl)
theorem dX3_size_103 : decode cX3_size 103 = .ok (.ireturn, 1) := dk_172 (dk_at dksX3_size_3 7 rfl rfl)
theorem dX3_size_104 : decode cX3_size 104 = .ok (.aload_n 0, 1) := dk_42 (dk_at dksX3_size_3 8 rfl rfl)
theorem dX3_size_105 : decode cX3_size 105 = .ok (.getfield 20, 3) := dk_180 0 20 (dk_at dksX3_size_3 9 rfl rfl)
theorem dX3_size_108 : decode cX3_size 108 = .ok (.bipush 51, 2) := dk_16 51 (dk_at dksX3_size_3 12 rfl rfl)
theorem dX3_size_110 : decode cX3_size 110 = .ok (.iaload, 1) := dk_46 (dk_at dksX3_size_3 14 rfl rfl)
theorem dX3_size_111 : decode cX3_size 111 = .ok (.ireturn, 1) := dk_172 (dk_at dksX3_size_3 15 rfl rfl)
theorem dX3_size_112 : decode cX3_size 112 = .ok (.aload_n 0, 1) := dk_42 (dk_at dksX3_size_3 16 rfl rfl)
theorem dX3_size_113 : decode cX3_size 113 = .ok (.getfield 20, 3) := dk_180 0 20 (dk_at dksX3_size_3 17 rfl rfl)
theorem dX3_size_116 : decode cX3_size 116 = .ok (.iconst 0, 1) := dk_3 (dk_at dksX3_size_3 20 rfl rfl)
theorem dX3_size_117 : decode cX3_size 117 = .ok (.iaload, 1) := dk_46 (dk_at dksX3_size_3 21 rfl rfl)
theorem dX3_size_118 : decode cX3_size 118 = .ok (.ireturn, 1) := dk_172 (dk_at dksX3_size_3 22 rfl rfl)
theorem dX3_size_119 : decode cX3_size 119 = .ok (.aload_n 0, 1) := dk_42 (dk_at dksX3_size_3 23 rfl rfl)
theorem dX3_size_120 : decode cX3_size 120 = .ok (.getfield 20, 3) := dk_180 0 20 (dk_at dksX3_size_4 0 rfl rfl)
theorem dX3_size_123 : decode cX3_size 123 = .ok (.bipush 52, 2) := dk_16 52 (dk_at dksX3_size_4 3 rfl rfl)
theorem dX3_size_125 : decode cX3_size 125 = .ok (.iaload, 1) := dk_46 (dk_at dksX3_size_4 5 rfl rfl)
theorem dX3_size_126 : decode cX3_size 126 = .ok (.ireturn, 1) := dk_172 (dk_at dksX3_size_4 6 rfl rfl)
theorem dX3_size_127 : decode cX3_size 127 = .ok (.aload_n 0, 1) := dk_42 (dk_at dksX3_size_4 7 rfl rfl)
theorem dX3_size_128 : decode cX3_size 128 = .ok (.getfield 20, 3) := dk_180 0 20 (dk_at dksX3_size_4 8 rfl rfl)
theorem dX3_size_131 : decode cX3_size 131 = .ok (.bipush 85, 2) := dk_16 85 (dk_at dksX3_size_4 11 rfl rfl)
theorem dX3_size_133 : decode cX3_size 133 = .ok (.iaload, 1) := dk_46 (dk_at dksX3_size_4 13 rfl rfl)
theorem dX3_size_134 : decode cX3_size 134 = .ok (.ireturn, 1) := dk_172 (dk_at dksX3_size_4 14 rfl rfl)
theorem dX3_size_135 : decode cX3_size 135 = .ok (.aload_n 0, 1) := dk_42 (dk_at dksX3_size_4 15 rfl rfl)
theorem dX3_size_136 : decode cX3_size 136 = .ok (.getfield 20, 3) := dk_180 0 20 (dk_at dksX3_size_4 16 rfl rfl)
theorem dX3_size_139 : decode cX3_size 139 = .ok (.sipush 158, 3) := dk_17 0 158 (dk_at dksX3_size_4 19 rfl rfl)
theorem dX3_size_142 : decode cX3_size 142 = .ok (.iaload, 1) := dk_46 (dk_at dksX3_size_4 22 rfl rfl)
theorem dX3_size_143 : decode cX3_size 143 = .ok (.ireturn, 1) := dk_172 (dk_at dksX3_size_4 23 rfl rfl)
theorem dX3_size_144 : decode cX3_size 144 = .ok (.aload_n 0, 1) := dk_42 (dk_at dksX3_size_5 0 rfl rfl)
theorem dX3_size_145 : decode cX3_size 145 = .ok (.getfield 20, 3) := dk_180 0 20 (dk_at dksX3_size_5 1 rfl rfl)
theorem dX3_size_148 : decode cX3_size 148 = .ok (.bipush 49, 2) := dk_16 49 (dk_at dksX3_size_5 4 rfl rfl)
theorem dX3_size_150 : decode cX3_size 150 = .ok (.iaload, 1) := dk_46 (dk_at dksX3_size_5 6 rfl rfl)
theorem dX3_size_151 : decode cX3_size 151 = .ok (.ireturn, 1) := dk_172 (dk_at dksX3_size_5 7 rfl rfl)
theorem dX3_size_152 : decode cX3_size 152 = .ok (.aload_n 0, 1) := dk_42 (dk_at dksX3_size_5 8 rfl rfl)
theorem dX3_size_153 : decode cX3_size 153 = .ok (.getfield 189, 3) := dk_180 0 189 (dk_at dksX3_size_5 9 rfl rfl)
theorem dX3_size_156 : decode cX3_size 156 = .ok (.ireturn, 1) := dk_172 (dk_at dksX3_size_5 12 rfl rfl)
theorem dX3_size_157 : decode cX3_size 157 = .ok (.aload_n 0, 1) := dk_42 (dk_at dksX3_size_5 13 rfl rfl)
theorem dX3_size_158 : decode cX3_size 158 = .ok (.getfield 192, 3) := dk_180 0 192 (dk_at dksX3_size_5 14 rfl rfl)
theorem dX3_size_161 : decode cX3_size 161 = .ok (.ireturn, 1) := dk_172 (dk_at dksX3_size_5 17 rfl rfl)
theorem dX3_size_162 : decode cX3_size 162 = .ok (.aload_n 0, 1) := dk_42 (dk_at dksX3_size_5 18 rfl rfl)
theorem dX3_size_163 : decode cX3_size 163 = .ok (.getfield 195, 3) := dk_180 0 195 (dk_at dksX3_size_5 19 rfl rfl)
theorem dX3_size_166 : decode cX3_size 166 = .ok (.ireturn, 1) := dk_172 (dk_at dksX3_size_5 22 rfl rfl)
theorem dX3_size_167 : decode cX3_size 167 = .ok (.iconst (-1), 1) := dk_2 (dk_at dksX3_size_5 23 rfl rfl)
theorem dX3_size_168 : decode cX3_size 168 = .ok (.ireturn, 1) := dk_172 (dk_at dksX3_size_6 0 rfl rfl)
abbrev cX3_trouble : ByteArray := prog_18_method_125_code
def yX3_trouble : MethodName := ⟨RX3, "trouble", "()I"⟩
def dkwX3_trouble_0 : List UInt8 := [42, 3, 181, 0, 69, 42, 180, 0, 72, 172]
abbrev dktX3_trouble_0 : List UInt8 := dkwX3_trouble_0 ++ []
theorem dksX3_trouble_0 : cX3_trouble.data.toList.drop 0 = dktX3_trouble_0 := by decide +kernel
theorem dX3_trouble_0 : decode cX3_trouble 0 = .ok (.aload_n 0, 1) := dk_42 (dk_at dksX3_trouble_0 0 rfl rfl)
theorem dX3_trouble_1 : decode cX3_trouble 1 = .ok (.iconst 0, 1) := dk_3 (dk_at dksX3_trouble_0 1 rfl rfl)
theorem dX3_trouble_2 : decode cX3_trouble 2 = .ok (.putfield 69, 3) := dk_181 0 69 (dk_at dksX3_trouble_0 2 rfl rfl)
theorem dX3_trouble_5 : decode cX3_trouble 5 = .ok (.aload_n 0, 1) := dk_42 (dk_at dksX3_trouble_0 5 rfl rfl)
theorem dX3_trouble_6 : decode cX3_trouble 6 = .ok (.getfield 72, 3) := dk_180 0 72 (dk_at dksX3_trouble_0 6 rfl rfl)
theorem dX3_trouble_9 : decode cX3_trouble 9 = .ok (.ireturn, 1) := dk_172 (dk_at dksX3_trouble_0 9 rfl rfl)
theorem q118 : (Jvm.Cond.initialized "NotAtOnceModel") ∈ lw_all := lw_g (lw_at lw_m1 6 rfl) rfl
theorem q777 : (Jvm.Cond.selects "NotAtOnceModel" ({ cls := "java/lang/Object", name := "getClass", desc := "()Ljava/lang/Class;" } : Jvm.MethodName) ({ cls := "java/lang/Object", name := "getClass", desc := "()Ljava/lang/Class;" } : Jvm.MethodName)) ∈ lw_all := lw_g (lw_at lw_m3 185 rfl) rfl
theorem q1698 : (Jvm.Cond.instantiable "NotAtOnceModel" (40 : Nat)) ∈ lw_all := lw_g (lw_at lw_m7 146 rfl) rfl
theorem q1700 : (Jvm.Cond.instanceMethod ({ cls := "NotAtOnceModel", name := "<init>", desc := "()V" } : Jvm.MethodName)) ∈ lw_all := lw_g (lw_at lw_m7 148 rfl) rfl
theorem q1701 : (Jvm.Cond.code ({ cls := "NotAtOnceModel", name := "<init>", desc := "()V" } : Jvm.MethodName) prog_18_method_1_code (1 : Nat) (Option.none : Option Jvm.ClassFile.FieldType)) ∈ lw_all := lw_g (lw_at lw_m7 149 rfl) rfl
theorem q1702 : (Jvm.Cond.methodLink "NotAtOnceModel" (1 : Nat) ({ cls := "java/lang/Object", name := "<init>", desc := "()V" } : Jvm.MethodName)) ∈ lw_all := lw_g (lw_at lw_m7 150 rfl) rfl
theorem q1703 : (Jvm.Cond.fieldLink "NotAtOnceModel" (69 : Nat) "NotAtOnceModel" "thrown" "I") ∈ lw_all := lw_g (lw_at lw_m7 151 rfl) rfl
theorem q1704 : (Jvm.Cond.fieldLink "NotAtOnceModel" (7 : Nat) "NotAtOnceModel" "tape" "[I") ∈ lw_all := lw_g (lw_at lw_m7 152 rfl) rfl
theorem q1705 : (Jvm.Cond.fieldLink "NotAtOnceModel" (75 : Nat) "NotAtOnceModel" "taped" "I") ∈ lw_all := lw_g (lw_at lw_m7 153 rfl) rfl
theorem q1706 : (Jvm.Cond.fieldLink "NotAtOnceModel" (78 : Nat) "NotAtOnceModel" "size" "I") ∈ lw_all := lw_g (lw_at lw_m7 154 rfl) rfl
theorem q1707 : (Jvm.Cond.fieldLink "NotAtOnceModel" (88 : Nat) "NotAtOnceModel" "at" "I") ∈ lw_all := lw_g (lw_at lw_m7 155 rfl) rfl
theorem q1708 : (Jvm.Cond.fieldLink "NotAtOnceModel" (81 : Nat) "NotAtOnceModel" "end" "I") ∈ lw_all := lw_g (lw_at lw_m7 156 rfl) rfl
theorem q1709 : (Jvm.Cond.fieldLink "NotAtOnceModel" (97 : Nat) "NotAtOnceModel" "token" "I") ∈ lw_all := lw_g (lw_at lw_m7 157 rfl) rfl
theorem q1710 : (Jvm.Cond.fieldLink "NotAtOnceModel" (94 : Nat) "NotAtOnceModel" "whole" "I") ∈ lw_all := lw_g (lw_at lw_m7 158 rfl) rfl
theorem q1711 : (Jvm.Cond.fieldLink "NotAtOnceModel" (91 : Nat) "NotAtOnceModel" "nameSize" "I") ∈ lw_all := lw_g (lw_at lw_m7 159 rfl) rfl
theorem q1712 : (Jvm.Cond.fieldLink "NotAtOnceModel" (111 : Nat) "NotAtOnceModel" "fault" "I") ∈ lw_all := lw_g (lw_at lw_m7 160 rfl) rfl
theorem q1713 : (Jvm.Cond.fieldLink "NotAtOnceModel" (13 : Nat) "NotAtOnceModel" "place" "I") ∈ lw_all := lw_g (lw_at lw_m7 161 rfl) rfl
theorem q1714 : (Jvm.Cond.fieldLink "NotAtOnceModel" (72 : Nat) "NotAtOnceModel" "trouble" "I") ∈ lw_all := lw_g (lw_at lw_m7 162 rfl) rfl
theorem q1715 : (Jvm.Cond.fieldLink "NotAtOnceModel" (17 : Nat) "NotAtOnceModel" "letters" "[I") ∈ lw_all := lw_g (lw_at lw_m7 163 rfl) rfl
theorem q1716 : (Jvm.Cond.fieldLink "NotAtOnceModel" (107 : Nat) "NotAtOnceModel" "failed" "Z") ∈ lw_all := lw_g (lw_at lw_m7 164 rfl) rfl
theorem q1717 : (Jvm.Cond.fieldLink "NotAtOnceModel" (183 : Nat) "NotAtOnceModel" "hasBook" "Z") ∈ lw_all := lw_g (lw_at lw_m7 165 rfl) rfl
theorem q1718 : (Jvm.Cond.fieldLink "NotAtOnceModel" (20 : Nat) "NotAtOnceModel" "\x72" "[I") ∈ lw_all := lw_g (lw_at lw_m7 166 rfl) rfl
theorem q1719 : (Jvm.Cond.fieldLink "NotAtOnceModel" (23 : Nat) "NotAtOnceModel" "fresh" "[I") ∈ lw_all := lw_g (lw_at lw_m7 167 rfl) rfl
theorem q1720 : (Jvm.Cond.fieldLink "NotAtOnceModel" (26 : Nat) "NotAtOnceModel" "coins" "[I") ∈ lw_all := lw_g (lw_at lw_m7 168 rfl) rfl
theorem q1721 : (Jvm.Cond.fieldLink "NotAtOnceModel" (29 : Nat) "NotAtOnceModel" "was" "[I") ∈ lw_all := lw_g (lw_at lw_m7 169 rfl) rfl
theorem q1722 : (Jvm.Cond.fieldLink "NotAtOnceModel" (32 : Nat) "NotAtOnceModel" "undone" "[I") ∈ lw_all := lw_g (lw_at lw_m7 170 rfl) rfl
theorem q1723 : (Jvm.Cond.fieldLink "NotAtOnceModel" (35 : Nat) "NotAtOnceModel" "redone" "[I") ∈ lw_all := lw_g (lw_at lw_m7 171 rfl) rfl
theorem q1724 : (Jvm.Cond.fieldLink "NotAtOnceModel" (38 : Nat) "NotAtOnceModel" "marked" "[I") ∈ lw_all := lw_g (lw_at lw_m7 172 rfl) rfl
theorem q1725 : (Jvm.Cond.fieldLink "NotAtOnceModel" (41 : Nat) "NotAtOnceModel" "undoneActs" "[I") ∈ lw_all := lw_g (lw_at lw_m7 173 rfl) rfl
theorem q1726 : (Jvm.Cond.fieldLink "NotAtOnceModel" (44 : Nat) "NotAtOnceModel" "redoneActs" "[I") ∈ lw_all := lw_g (lw_at lw_m7 174 rfl) rfl
theorem q1727 : (Jvm.Cond.fieldLink "NotAtOnceModel" (189 : Nat) "NotAtOnceModel" "undos" "I") ∈ lw_all := lw_g (lw_at lw_m7 175 rfl) rfl
theorem q1728 : (Jvm.Cond.fieldLink "NotAtOnceModel" (192 : Nat) "NotAtOnceModel" "redos" "I") ∈ lw_all := lw_g (lw_at lw_m7 176 rfl) rfl
theorem q1729 : (Jvm.Cond.fieldLink "NotAtOnceModel" (195 : Nat) "NotAtOnceModel" "marks" "I") ∈ lw_all := lw_g (lw_at lw_m7 177 rfl) rfl
theorem q1730 : (Jvm.Cond.fieldLink "NotAtOnceModel" (47 : Nat) "NotAtOnceModel" "tab" "[J") ∈ lw_all := lw_g (lw_at lw_m7 178 rfl) rfl
theorem q1731 : (Jvm.Cond.fieldLink "NotAtOnceModel" (51 : Nat) "NotAtOnceModel" "basis" "[I") ∈ lw_all := lw_g (lw_at lw_m7 179 rfl) rfl
theorem q1732 : (Jvm.Cond.fieldLink "NotAtOnceModel" (268 : Nat) "NotAtOnceModel" "below" "J") ∈ lw_all := lw_g (lw_at lw_m7 180 rfl) rfl
theorem q1733 : (Jvm.Cond.fieldLink "NotAtOnceModel" (254 : Nat) "NotAtOnceModel" "rows" "I") ∈ lw_all := lw_g (lw_at lw_m7 181 rfl) rfl
theorem q1734 : (Jvm.Cond.fieldLink "NotAtOnceModel" (257 : Nat) "NotAtOnceModel" "wide" "I") ∈ lw_all := lw_g (lw_at lw_m7 182 rfl) rfl
theorem q1735 : (Jvm.Cond.fieldLink "NotAtOnceModel" (54 : Nat) "NotAtOnceModel" "corne\x72" "[I") ∈ lw_all := lw_g (lw_at lw_m7 183 rfl) rfl
theorem q1736 : (Jvm.Cond.fieldLink "NotAtOnceModel" (57 : Nat) "NotAtOnceModel" "squares" "[I") ∈ lw_all := lw_g (lw_at lw_m7 184 rfl) rfl
theorem q1737 : (Jvm.Cond.fieldLink "NotAtOnceModel" (363 : Nat) "NotAtOnceModel" "cornerMany" "I") ∈ lw_all := lw_g (lw_at lw_m7 185 rfl) rfl
theorem q1738 : (Jvm.Cond.fieldLink "NotAtOnceModel" (60 : Nat) "NotAtOnceModel" "chosen" "[I") ∈ lw_all := lw_g (lw_at lw_m7 186 rfl) rfl
theorem q1739 : (Jvm.Cond.fieldLink "NotAtOnceModel" (369 : Nat) "NotAtOnceModel" "colourMany" "I") ∈ lw_all := lw_g (lw_at lw_m7 187 rfl) rfl
theorem q1740 : (Jvm.Cond.fieldLink "NotAtOnceModel" (372 : Nat) "NotAtOnceModel" "mostOnes" "I") ∈ lw_all := lw_g (lw_at lw_m7 188 rfl) rfl
theorem q1741 : (Jvm.Cond.fieldLink "NotAtOnceModel" (63 : Nat) "NotAtOnceModel" "tells" "[I") ∈ lw_all := lw_g (lw_at lw_m7 189 rfl) rfl
theorem q1742 : (Jvm.Cond.fieldLink "NotAtOnceModel" (66 : Nat) "NotAtOnceModel" "goes" "[I") ∈ lw_all := lw_g (lw_at lw_m7 190 rfl) rfl
theorem q1743 : (Jvm.Cond.lays "NotAtOnceModel" "NotAtOnceModel" "thrown" "I") ∈ lw_all := lw_g (lw_at lw_m7 191 rfl) rfl
theorem q1744 : (Jvm.Cond.soleField "NotAtOnceModel" "thrown") ∈ lw_all := lw_g (lw_at lw_m7 192 rfl) rfl
theorem q1745 : (Jvm.Cond.laysFinal "NotAtOnceModel" "NotAtOnceModel" "tape" "[I") ∈ lw_all := lw_g (lw_at lw_m7 193 rfl) rfl
theorem q1746 : (Jvm.Cond.soleField "NotAtOnceModel" "tape") ∈ lw_all := lw_g (lw_at lw_m7 194 rfl) rfl
theorem q1747 : (Jvm.Cond.lays "NotAtOnceModel" "NotAtOnceModel" "taped" "I") ∈ lw_all := lw_g (lw_at lw_m7 195 rfl) rfl
theorem q1748 : (Jvm.Cond.soleField "NotAtOnceModel" "taped") ∈ lw_all := lw_g (lw_at lw_m7 196 rfl) rfl
theorem q1749 : (Jvm.Cond.lays "NotAtOnceModel" "NotAtOnceModel" "size" "I") ∈ lw_all := lw_g (lw_at lw_m7 197 rfl) rfl
theorem q1750 : (Jvm.Cond.soleField "NotAtOnceModel" "size") ∈ lw_all := lw_g (lw_at lw_m7 198 rfl) rfl
theorem q1751 : (Jvm.Cond.lays "NotAtOnceModel" "NotAtOnceModel" "at" "I") ∈ lw_all := lw_g (lw_at lw_m7 199 rfl) rfl
theorem q1752 : (Jvm.Cond.soleField "NotAtOnceModel" "at") ∈ lw_all := lw_g (lw_at lw_m7 200 rfl) rfl
theorem q1753 : (Jvm.Cond.lays "NotAtOnceModel" "NotAtOnceModel" "end" "I") ∈ lw_all := lw_g (lw_at lw_m7 201 rfl) rfl
theorem q1754 : (Jvm.Cond.soleField "NotAtOnceModel" "end") ∈ lw_all := lw_g (lw_at lw_m7 202 rfl) rfl
theorem q1755 : (Jvm.Cond.lays "NotAtOnceModel" "NotAtOnceModel" "token" "I") ∈ lw_all := lw_g (lw_at lw_m7 203 rfl) rfl
theorem q1756 : (Jvm.Cond.soleField "NotAtOnceModel" "token") ∈ lw_all := lw_g (lw_at lw_m7 204 rfl) rfl
theorem q1757 : (Jvm.Cond.lays "NotAtOnceModel" "NotAtOnceModel" "whole" "I") ∈ lw_all := lw_g (lw_at lw_m7 205 rfl) rfl
theorem q1758 : (Jvm.Cond.soleField "NotAtOnceModel" "whole") ∈ lw_all := lw_g (lw_at lw_m7 206 rfl) rfl
theorem q1759 : (Jvm.Cond.lays "NotAtOnceModel" "NotAtOnceModel" "nameSize" "I") ∈ lw_all := lw_g (lw_at lw_m7 207 rfl) rfl
theorem q1760 : (Jvm.Cond.soleField "NotAtOnceModel" "nameSize") ∈ lw_all := lw_g (lw_at lw_m7 208 rfl) rfl
theorem q1761 : (Jvm.Cond.lays "NotAtOnceModel" "NotAtOnceModel" "fault" "I") ∈ lw_all := lw_g (lw_at lw_m7 209 rfl) rfl
theorem q1762 : (Jvm.Cond.soleField "NotAtOnceModel" "fault") ∈ lw_all := lw_g (lw_at lw_m7 210 rfl) rfl
theorem q1763 : (Jvm.Cond.lays "NotAtOnceModel" "NotAtOnceModel" "place" "I") ∈ lw_all := lw_g (lw_at lw_m7 211 rfl) rfl
theorem q1764 : (Jvm.Cond.soleField "NotAtOnceModel" "place") ∈ lw_all := lw_g (lw_at lw_m7 212 rfl) rfl
theorem q1765 : (Jvm.Cond.lays "NotAtOnceModel" "NotAtOnceModel" "trouble" "I") ∈ lw_all := lw_g (lw_at lw_m7 213 rfl) rfl
theorem q1766 : (Jvm.Cond.soleField "NotAtOnceModel" "trouble") ∈ lw_all := lw_g (lw_at lw_m7 214 rfl) rfl
theorem q1767 : (Jvm.Cond.laysFinal "NotAtOnceModel" "NotAtOnceModel" "letters" "[I") ∈ lw_all := lw_g (lw_at lw_m7 215 rfl) rfl
theorem q1768 : (Jvm.Cond.soleField "NotAtOnceModel" "letters") ∈ lw_all := lw_g (lw_at lw_m7 216 rfl) rfl
theorem q1769 : (Jvm.Cond.lays "NotAtOnceModel" "NotAtOnceModel" "failed" "Z") ∈ lw_all := lw_g (lw_at lw_m7 217 rfl) rfl
theorem q1770 : (Jvm.Cond.soleField "NotAtOnceModel" "failed") ∈ lw_all := lw_g (lw_at lw_m7 218 rfl) rfl
theorem q1771 : (Jvm.Cond.lays "NotAtOnceModel" "NotAtOnceModel" "hasBook" "Z") ∈ lw_all := lw_g (lw_at lw_m7 219 rfl) rfl
theorem q1772 : (Jvm.Cond.soleField "NotAtOnceModel" "hasBook") ∈ lw_all := lw_g (lw_at lw_m7 220 rfl) rfl
theorem q1773 : (Jvm.Cond.laysFinal "NotAtOnceModel" "NotAtOnceModel" "\x72" "[I") ∈ lw_all := lw_g (lw_at lw_m7 221 rfl) rfl
theorem q1774 : (Jvm.Cond.soleField "NotAtOnceModel" "\x72") ∈ lw_all := lw_g (lw_at lw_m7 222 rfl) rfl
theorem q1775 : (Jvm.Cond.laysFinal "NotAtOnceModel" "NotAtOnceModel" "fresh" "[I") ∈ lw_all := lw_g (lw_at lw_m7 223 rfl) rfl
theorem q1776 : (Jvm.Cond.soleField "NotAtOnceModel" "fresh") ∈ lw_all := lw_g (lw_at lw_m7 224 rfl) rfl
theorem q1777 : (Jvm.Cond.laysFinal "NotAtOnceModel" "NotAtOnceModel" "coins" "[I") ∈ lw_all := lw_g (lw_at lw_m7 225 rfl) rfl
theorem q1778 : (Jvm.Cond.soleField "NotAtOnceModel" "coins") ∈ lw_all := lw_g (lw_at lw_m7 226 rfl) rfl
theorem q1779 : (Jvm.Cond.laysFinal "NotAtOnceModel" "NotAtOnceModel" "was" "[I") ∈ lw_all := lw_g (lw_at lw_m7 227 rfl) rfl
theorem q1780 : (Jvm.Cond.soleField "NotAtOnceModel" "was") ∈ lw_all := lw_g (lw_at lw_m7 228 rfl) rfl
theorem q1781 : (Jvm.Cond.laysFinal "NotAtOnceModel" "NotAtOnceModel" "undone" "[I") ∈ lw_all := lw_g (lw_at lw_m7 229 rfl) rfl
theorem q1782 : (Jvm.Cond.soleField "NotAtOnceModel" "undone") ∈ lw_all := lw_g (lw_at lw_m7 230 rfl) rfl
theorem q1783 : (Jvm.Cond.laysFinal "NotAtOnceModel" "NotAtOnceModel" "redone" "[I") ∈ lw_all := lw_g (lw_at lw_m7 231 rfl) rfl
theorem q1784 : (Jvm.Cond.soleField "NotAtOnceModel" "redone") ∈ lw_all := lw_g (lw_at lw_m7 232 rfl) rfl
theorem q1785 : (Jvm.Cond.laysFinal "NotAtOnceModel" "NotAtOnceModel" "marked" "[I") ∈ lw_all := lw_g (lw_at lw_m7 233 rfl) rfl
theorem q1786 : (Jvm.Cond.soleField "NotAtOnceModel" "marked") ∈ lw_all := lw_g (lw_at lw_m7 234 rfl) rfl
theorem q1787 : (Jvm.Cond.laysFinal "NotAtOnceModel" "NotAtOnceModel" "undoneActs" "[I") ∈ lw_all := lw_g (lw_at lw_m7 235 rfl) rfl
theorem q1788 : (Jvm.Cond.soleField "NotAtOnceModel" "undoneActs") ∈ lw_all := lw_g (lw_at lw_m7 236 rfl) rfl
theorem q1789 : (Jvm.Cond.laysFinal "NotAtOnceModel" "NotAtOnceModel" "redoneActs" "[I") ∈ lw_all := lw_g (lw_at lw_m7 237 rfl) rfl
theorem q1790 : (Jvm.Cond.soleField "NotAtOnceModel" "redoneActs") ∈ lw_all := lw_g (lw_at lw_m7 238 rfl) rfl
theorem q1791 : (Jvm.Cond.lays "NotAtOnceModel" "NotAtOnceModel" "undos" "I") ∈ lw_all := lw_g (lw_at lw_m7 239 rfl) rfl
theorem q1792 : (Jvm.Cond.soleField "NotAtOnceModel" "undos") ∈ lw_all := lw_g (lw_at lw_m8 0 rfl) rfl
theorem q1793 : (Jvm.Cond.lays "NotAtOnceModel" "NotAtOnceModel" "redos" "I") ∈ lw_all := lw_g (lw_at lw_m8 1 rfl) rfl
theorem q1794 : (Jvm.Cond.soleField "NotAtOnceModel" "redos") ∈ lw_all := lw_g (lw_at lw_m8 2 rfl) rfl
theorem q1795 : (Jvm.Cond.lays "NotAtOnceModel" "NotAtOnceModel" "marks" "I") ∈ lw_all := lw_g (lw_at lw_m8 3 rfl) rfl
theorem q1796 : (Jvm.Cond.soleField "NotAtOnceModel" "marks") ∈ lw_all := lw_g (lw_at lw_m8 4 rfl) rfl
theorem q1797 : (Jvm.Cond.laysFinal "NotAtOnceModel" "NotAtOnceModel" "tab" "[J") ∈ lw_all := lw_g (lw_at lw_m8 5 rfl) rfl
theorem q1798 : (Jvm.Cond.soleField "NotAtOnceModel" "tab") ∈ lw_all := lw_g (lw_at lw_m8 6 rfl) rfl
theorem q1799 : (Jvm.Cond.laysFinal "NotAtOnceModel" "NotAtOnceModel" "basis" "[I") ∈ lw_all := lw_g (lw_at lw_m8 7 rfl) rfl
theorem q1800 : (Jvm.Cond.soleField "NotAtOnceModel" "basis") ∈ lw_all := lw_g (lw_at lw_m8 8 rfl) rfl
theorem q1801 : (Jvm.Cond.lays "NotAtOnceModel" "NotAtOnceModel" "below" "J") ∈ lw_all := lw_g (lw_at lw_m8 9 rfl) rfl
theorem q1802 : (Jvm.Cond.soleField "NotAtOnceModel" "below") ∈ lw_all := lw_g (lw_at lw_m8 10 rfl) rfl
theorem q1803 : (Jvm.Cond.lays "NotAtOnceModel" "NotAtOnceModel" "rows" "I") ∈ lw_all := lw_g (lw_at lw_m8 11 rfl) rfl
theorem q1804 : (Jvm.Cond.soleField "NotAtOnceModel" "rows") ∈ lw_all := lw_g (lw_at lw_m8 12 rfl) rfl
theorem q1805 : (Jvm.Cond.lays "NotAtOnceModel" "NotAtOnceModel" "wide" "I") ∈ lw_all := lw_g (lw_at lw_m8 13 rfl) rfl
theorem q1806 : (Jvm.Cond.soleField "NotAtOnceModel" "wide") ∈ lw_all := lw_g (lw_at lw_m8 14 rfl) rfl
theorem q1807 : (Jvm.Cond.laysFinal "NotAtOnceModel" "NotAtOnceModel" "corne\x72" "[I") ∈ lw_all := lw_g (lw_at lw_m8 15 rfl) rfl
theorem q1808 : (Jvm.Cond.soleField "NotAtOnceModel" "corne\x72") ∈ lw_all := lw_g (lw_at lw_m8 16 rfl) rfl
theorem q1809 : (Jvm.Cond.laysFinal "NotAtOnceModel" "NotAtOnceModel" "squares" "[I") ∈ lw_all := lw_g (lw_at lw_m8 17 rfl) rfl
theorem q1810 : (Jvm.Cond.soleField "NotAtOnceModel" "squares") ∈ lw_all := lw_g (lw_at lw_m8 18 rfl) rfl
theorem q1811 : (Jvm.Cond.lays "NotAtOnceModel" "NotAtOnceModel" "cornerMany" "I") ∈ lw_all := lw_g (lw_at lw_m8 19 rfl) rfl
theorem q1812 : (Jvm.Cond.soleField "NotAtOnceModel" "cornerMany") ∈ lw_all := lw_g (lw_at lw_m8 20 rfl) rfl
theorem q1813 : (Jvm.Cond.laysFinal "NotAtOnceModel" "NotAtOnceModel" "chosen" "[I") ∈ lw_all := lw_g (lw_at lw_m8 21 rfl) rfl
theorem q1814 : (Jvm.Cond.soleField "NotAtOnceModel" "chosen") ∈ lw_all := lw_g (lw_at lw_m8 22 rfl) rfl
theorem q1815 : (Jvm.Cond.lays "NotAtOnceModel" "NotAtOnceModel" "colourMany" "I") ∈ lw_all := lw_g (lw_at lw_m8 23 rfl) rfl
theorem q1816 : (Jvm.Cond.soleField "NotAtOnceModel" "colourMany") ∈ lw_all := lw_g (lw_at lw_m8 24 rfl) rfl
theorem q1817 : (Jvm.Cond.lays "NotAtOnceModel" "NotAtOnceModel" "mostOnes" "I") ∈ lw_all := lw_g (lw_at lw_m8 25 rfl) rfl
theorem q1818 : (Jvm.Cond.soleField "NotAtOnceModel" "mostOnes") ∈ lw_all := lw_g (lw_at lw_m8 26 rfl) rfl
theorem q1819 : (Jvm.Cond.laysFinal "NotAtOnceModel" "NotAtOnceModel" "tells" "[I") ∈ lw_all := lw_g (lw_at lw_m8 27 rfl) rfl
theorem q1820 : (Jvm.Cond.soleField "NotAtOnceModel" "tells") ∈ lw_all := lw_g (lw_at lw_m8 28 rfl) rfl
theorem q1821 : (Jvm.Cond.laysFinal "NotAtOnceModel" "NotAtOnceModel" "goes" "[I") ∈ lw_all := lw_g (lw_at lw_m8 29 rfl) rfl
theorem q1822 : (Jvm.Cond.soleField "NotAtOnceModel" "goes") ∈ lw_all := lw_g (lw_at lw_m8 30 rfl) rfl
theorem q1823 : (Jvm.Cond.superclass "NotAtOnceModel" "java/lang/Object") ∈ lw_all := lw_g (lw_at lw_m8 31 rfl) rfl
theorem q1825 : (Jvm.Cond.instanceMethod ({ cls := "NotAtOnceModel", name := "thrown", desc := "()I" } : Jvm.MethodName)) ∈ lw_all := lw_g (lw_at lw_m8 33 rfl) rfl
theorem q1826 : (Jvm.Cond.selects "NotAtOnceModel" ({ cls := "NotAtOnceModel", name := "thrown", desc := "()I" } : Jvm.MethodName) ({ cls := "NotAtOnceModel", name := "thrown", desc := "()I" } : Jvm.MethodName)) ∈ lw_all := lw_g (lw_at lw_m8 34 rfl) rfl
theorem q1827 : (Jvm.Cond.code ({ cls := "NotAtOnceModel", name := "thrown", desc := "()I" } : Jvm.MethodName) prog_18_method_2_code (1 : Nat) (Option.some Jvm.ClassFile.FieldType.int)) ∈ lw_all := lw_g (lw_at lw_m8 35 rfl) rfl
theorem q1829 : (Jvm.Cond.instanceMethod ({ cls := "NotAtOnceModel", name := "feed", desc := "(IIIII)I" } : Jvm.MethodName)) ∈ lw_all := lw_g (lw_at lw_m8 37 rfl) rfl
theorem q1830 : (Jvm.Cond.selects "NotAtOnceModel" ({ cls := "NotAtOnceModel", name := "feed", desc := "(IIIII)I" } : Jvm.MethodName) ({ cls := "NotAtOnceModel", name := "feed", desc := "(IIIII)I" } : Jvm.MethodName)) ∈ lw_all := lw_g (lw_at lw_m8 38 rfl) rfl
theorem q1831 : (Jvm.Cond.code ({ cls := "NotAtOnceModel", name := "feed", desc := "(IIIII)I" } : Jvm.MethodName) prog_18_method_10_code (8 : Nat) (Option.some Jvm.ClassFile.FieldType.int)) ∈ lw_all := lw_g (lw_at lw_m8 39 rfl) rfl
theorem q1833 : (Jvm.Cond.instanceMethod ({ cls := "NotAtOnceModel", name := "book", desc := "(I)I" } : Jvm.MethodName)) ∈ lw_all := lw_g (lw_at lw_m8 41 rfl) rfl
theorem q1834 : (Jvm.Cond.selects "NotAtOnceModel" ({ cls := "NotAtOnceModel", name := "book", desc := "(I)I" } : Jvm.MethodName) ({ cls := "NotAtOnceModel", name := "book", desc := "(I)I" } : Jvm.MethodName)) ∈ lw_all := lw_g (lw_at lw_m8 42 rfl) rfl
theorem q1835 : (Jvm.Cond.code ({ cls := "NotAtOnceModel", name := "book", desc := "(I)I" } : Jvm.MethodName) prog_18_method_27_code (3 : Nat) (Option.some Jvm.ClassFile.FieldType.int)) ∈ lw_all := lw_g (lw_at lw_m8 43 rfl) rfl
theorem q1836 : (Jvm.Cond.methodLink "NotAtOnceModel" (174 : Nat) ({ cls := "NotAtOnceModel", name := "good", desc := "()V" } : Jvm.MethodName)) ∈ lw_all := lw_g (lw_at lw_m8 44 rfl) rfl
theorem q1837 : (Jvm.Cond.privateMethod ({ cls := "NotAtOnceModel", name := "good", desc := "()V" } : Jvm.MethodName)) ∈ lw_tbl := lw_at lw_m8 45 rfl
theorem q1838 : (Jvm.Cond.instanceMethod ({ cls := "NotAtOnceModel", name := "good", desc := "()V" } : Jvm.MethodName)) ∈ lw_all := lw_g (lw_at lw_m8 46 rfl) rfl
theorem q1839 : (Jvm.Cond.code ({ cls := "NotAtOnceModel", name := "good", desc := "()V" } : Jvm.MethodName) prog_18_method_3_code (1 : Nat) (Option.none : Option Jvm.ClassFile.FieldType)) ∈ lw_all := lw_g (lw_at lw_m8 47 rfl) rfl
theorem q1840 : (Jvm.Cond.methodLink "NotAtOnceModel" (170 : Nat) ({ cls := "NotAtOnceModel", name := "within", desc := "(III)Z" } : Jvm.MethodName)) ∈ lw_all := lw_g (lw_at lw_m8 48 rfl) rfl
theorem q1841 : (Jvm.Cond.static ({ cls := "NotAtOnceModel", name := "within", desc := "(III)Z" } : Jvm.MethodName)) ∈ lw_all := lw_g (lw_at lw_m8 49 rfl) rfl
theorem q1842 : (Jvm.Cond.code ({ cls := "NotAtOnceModel", name := "within", desc := "(III)Z" } : Jvm.MethodName) prog_18_method_7_code (3 : Nat) (Option.some Jvm.ClassFile.FieldType.boolean)) ∈ lw_all := lw_g (lw_at lw_m8 50 rfl) rfl
theorem q1843 : (Jvm.Cond.methodLink "NotAtOnceModel" (177 : Nat) ({ cls := "NotAtOnceModel", name := "no", desc := "(I)I" } : Jvm.MethodName)) ∈ lw_all := lw_g (lw_at lw_m8 51 rfl) rfl
theorem q1844 : (Jvm.Cond.privateMethod ({ cls := "NotAtOnceModel", name := "no", desc := "(I)I" } : Jvm.MethodName)) ∈ lw_tbl := lw_at lw_m8 52 rfl
theorem q1845 : (Jvm.Cond.instanceMethod ({ cls := "NotAtOnceModel", name := "no", desc := "(I)I" } : Jvm.MethodName)) ∈ lw_all := lw_g (lw_at lw_m8 53 rfl) rfl
theorem q1846 : (Jvm.Cond.code ({ cls := "NotAtOnceModel", name := "no", desc := "(I)I" } : Jvm.MethodName) prog_18_method_4_code (2 : Nat) (Option.some Jvm.ClassFile.FieldType.int)) ∈ lw_all := lw_g (lw_at lw_m8 54 rfl) rfl
theorem q1847 : (Jvm.Cond.methodLink "NotAtOnceModel" (128 : Nat) ({ cls := "NotAtOnceModel", name := "next", desc := "()V" } : Jvm.MethodName)) ∈ lw_all := lw_g (lw_at lw_m8 55 rfl) rfl
theorem q1848 : (Jvm.Cond.privateMethod ({ cls := "NotAtOnceModel", name := "next", desc := "()V" } : Jvm.MethodName)) ∈ lw_tbl := lw_at lw_m8 56 rfl
theorem q1849 : (Jvm.Cond.instanceMethod ({ cls := "NotAtOnceModel", name := "next", desc := "()V" } : Jvm.MethodName)) ∈ lw_all := lw_g (lw_at lw_m8 57 rfl) rfl
theorem q1850 : (Jvm.Cond.code ({ cls := "NotAtOnceModel", name := "next", desc := "()V" } : Jvm.MethodName) prog_18_method_14_code (4 : Nat) (Option.none : Option Jvm.ClassFile.FieldType)) ∈ lw_all := lw_g (lw_at lw_m8 58 rfl) rfl
theorem q1851 : (Jvm.Cond.methodLink "NotAtOnceModel" (84 : Nat) ({ cls := "NotAtOnceModel", name := "see", desc := "(I)I" } : Jvm.MethodName)) ∈ lw_all := lw_g (lw_at lw_m8 59 rfl) rfl
theorem q1852 : (Jvm.Cond.privateMethod ({ cls := "NotAtOnceModel", name := "see", desc := "(I)I" } : Jvm.MethodName)) ∈ lw_tbl := lw_at lw_m8 60 rfl
theorem q1853 : (Jvm.Cond.instanceMethod ({ cls := "NotAtOnceModel", name := "see", desc := "(I)I" } : Jvm.MethodName)) ∈ lw_all := lw_g (lw_at lw_m8 61 rfl) rfl
theorem q1854 : (Jvm.Cond.code ({ cls := "NotAtOnceModel", name := "see", desc := "(I)I" } : Jvm.MethodName) prog_18_method_11_code (2 : Nat) (Option.some Jvm.ClassFile.FieldType.int)) ∈ lw_all := lw_g (lw_at lw_m8 62 rfl) rfl
theorem q1855 : (Jvm.Cond.methodLink "NotAtOnceModel" (100 : Nat) ({ cls := "NotAtOnceModel", name := "isSmall", desc := "(I)Z" } : Jvm.MethodName)) ∈ lw_all := lw_g (lw_at lw_m8 63 rfl) rfl
theorem q1856 : (Jvm.Cond.static ({ cls := "NotAtOnceModel", name := "isSmall", desc := "(I)Z" } : Jvm.MethodName)) ∈ lw_all := lw_g (lw_at lw_m8 64 rfl) rfl
theorem q1857 : (Jvm.Cond.code ({ cls := "NotAtOnceModel", name := "isSmall", desc := "(I)Z" } : Jvm.MethodName) prog_18_method_12_code (1 : Nat) (Option.some Jvm.ClassFile.FieldType.boolean)) ∈ lw_all := lw_g (lw_at lw_m8 65 rfl) rfl
theorem q1858 : (Jvm.Cond.methodLink "NotAtOnceModel" (104 : Nat) ({ cls := "NotAtOnceModel", name := "isDigit", desc := "(I)Z" } : Jvm.MethodName)) ∈ lw_all := lw_g (lw_at lw_m8 66 rfl) rfl
theorem q1859 : (Jvm.Cond.static ({ cls := "NotAtOnceModel", name := "isDigit", desc := "(I)Z" } : Jvm.MethodName)) ∈ lw_all := lw_g (lw_at lw_m8 67 rfl) rfl
theorem q1860 : (Jvm.Cond.code ({ cls := "NotAtOnceModel", name := "isDigit", desc := "(I)Z" } : Jvm.MethodName) prog_18_method_13_code (1 : Nat) (Option.some Jvm.ClassFile.FieldType.boolean)) ∈ lw_all := lw_g (lw_at lw_m8 68 rfl) rfl
theorem q1861 : (Jvm.Cond.methodLink "NotAtOnceModel" (180 : Nat) ({ cls := "NotAtOnceModel", name := "readLine", desc := "()V" } : Jvm.MethodName)) ∈ lw_all := lw_g (lw_at lw_m8 69 rfl) rfl
theorem q1862 : (Jvm.Cond.privateMethod ({ cls := "NotAtOnceModel", name := "readLine", desc := "()V" } : Jvm.MethodName)) ∈ lw_tbl := lw_at lw_m8 70 rfl
theorem q1863 : (Jvm.Cond.instanceMethod ({ cls := "NotAtOnceModel", name := "readLine", desc := "()V" } : Jvm.MethodName)) ∈ lw_all := lw_g (lw_at lw_m8 71 rfl) rfl
theorem q1864 : (Jvm.Cond.code ({ cls := "NotAtOnceModel", name := "readLine", desc := "()V" } : Jvm.MethodName) prog_18_method_30_code (1 : Nat) (Option.none : Option Jvm.ClassFile.FieldType)) ∈ lw_all := lw_g (lw_at lw_m8 72 rfl) rfl
theorem q1865 : (Jvm.Cond.stringRef "NotAtOnceModel" (138 : Nat) "law") ∈ lw_tbl := lw_at lw_m8 73 rfl
theorem q1866 : (Jvm.Cond.methodLink "NotAtOnceModel" (198 : Nat) ({ cls := "NotAtOnceModel", name := "begins", desc := "(Ljava/lang/String;ZI)Z" } : Jvm.MethodName)) ∈ lw_all := lw_g (lw_at lw_m8 74 rfl) rfl
theorem q1867 : (Jvm.Cond.privateMethod ({ cls := "NotAtOnceModel", name := "begins", desc := "(Ljava/lang/String;ZI)Z" } : Jvm.MethodName)) ∈ lw_tbl := lw_at lw_m8 75 rfl
theorem q1868 : (Jvm.Cond.instanceMethod ({ cls := "NotAtOnceModel", name := "begins", desc := "(Ljava/lang/String;ZI)Z" } : Jvm.MethodName)) ∈ lw_all := lw_g (lw_at lw_m8 76 rfl) rfl
theorem q1869 : (Jvm.Cond.code ({ cls := "NotAtOnceModel", name := "begins", desc := "(Ljava/lang/String;ZI)Z" } : Jvm.MethodName) prog_18_method_29_code (4 : Nat) (Option.some Jvm.ClassFile.FieldType.boolean)) ∈ lw_all := lw_g (lw_at lw_m8 77 rfl) rfl
theorem q1870 : (Jvm.Cond.methodLink "NotAtOnceModel" (124 : Nat) ({ cls := "NotAtOnceModel", name := "isWord", desc := "(Ljava/lang/String;)Z" } : Jvm.MethodName)) ∈ lw_all := lw_g (lw_at lw_m8 78 rfl) rfl
theorem q1871 : (Jvm.Cond.privateMethod ({ cls := "NotAtOnceModel", name := "isWord", desc := "(Ljava/lang/String;)Z" } : Jvm.MethodName)) ∈ lw_tbl := lw_at lw_m8 79 rfl
theorem q1872 : (Jvm.Cond.instanceMethod ({ cls := "NotAtOnceModel", name := "isWord", desc := "(Ljava/lang/String;)Z" } : Jvm.MethodName)) ∈ lw_all := lw_g (lw_at lw_m8 80 rfl) rfl
theorem q1873 : (Jvm.Cond.code ({ cls := "NotAtOnceModel", name := "isWord", desc := "(Ljava/lang/String;)Z" } : Jvm.MethodName) prog_18_method_16_code (4 : Nat) (Option.some Jvm.ClassFile.FieldType.boolean)) ∈ lw_all := lw_g (lw_at lw_m8 81 rfl) rfl
theorem q1874 : (Jvm.Cond.methodLink "NotAtOnceModel" (114 : Nat) ({ cls := "java/lang/String", name := "length", desc := "()I" } : Jvm.MethodName)) ∈ lw_all := lw_g (lw_at lw_m8 82 rfl) rfl
theorem q1882 : (Jvm.Cond.methodLink "NotAtOnceModel" (120 : Nat) ({ cls := "java/lang/String", name := "charAt", desc := "(I)C" } : Jvm.MethodName)) ∈ lw_all := lw_g (lw_at lw_m8 90 rfl) rfl
theorem q1893 : (Jvm.Cond.methodLink "NotAtOnceModel" (134 : Nat) ({ cls := "NotAtOnceModel", name := "wrong", desc := "(II)V" } : Jvm.MethodName)) ∈ lw_all := lw_g (lw_at lw_m8 101 rfl) rfl
theorem q1894 : (Jvm.Cond.privateMethod ({ cls := "NotAtOnceModel", name := "wrong", desc := "(II)V" } : Jvm.MethodName)) ∈ lw_tbl := lw_at lw_m8 102 rfl
theorem q1895 : (Jvm.Cond.instanceMethod ({ cls := "NotAtOnceModel", name := "wrong", desc := "(II)V" } : Jvm.MethodName)) ∈ lw_all := lw_g (lw_at lw_m8 103 rfl) rfl
theorem q1896 : (Jvm.Cond.code ({ cls := "NotAtOnceModel", name := "wrong", desc := "(II)V" } : Jvm.MethodName) prog_18_method_15_code (3 : Nat) (Option.none : Option Jvm.ClassFile.FieldType)) ∈ lw_all := lw_g (lw_at lw_m8 104 rfl) rfl
theorem q1897 : (Jvm.Cond.methodLink "NotAtOnceModel" (202 : Nat) ({ cls := "NotAtOnceModel", name := "lawLine", desc := "()V" } : Jvm.MethodName)) ∈ lw_all := lw_g (lw_at lw_m8 105 rfl) rfl
theorem q1898 : (Jvm.Cond.privateMethod ({ cls := "NotAtOnceModel", name := "lawLine", desc := "()V" } : Jvm.MethodName)) ∈ lw_tbl := lw_at lw_m8 106 rfl
theorem q1899 : (Jvm.Cond.instanceMethod ({ cls := "NotAtOnceModel", name := "lawLine", desc := "()V" } : Jvm.MethodName)) ∈ lw_all := lw_g (lw_at lw_m8 107 rfl) rfl
theorem q1900 : (Jvm.Cond.code ({ cls := "NotAtOnceModel", name := "lawLine", desc := "()V" } : Jvm.MethodName) prog_18_method_31_code (2 : Nat) (Option.none : Option Jvm.ClassFile.FieldType)) ∈ lw_all := lw_g (lw_at lw_m8 108 rfl) rfl
theorem q1901 : (Jvm.Cond.stringRef "NotAtOnceModel" (221 : Nat) "of") ∈ lw_tbl := lw_at lw_m8 109 rfl
theorem q1902 : (Jvm.Cond.methodLink "NotAtOnceModel" (223 : Nat) ({ cls := "NotAtOnceModel", name := "pass", desc := "(Ljava/lang/String;)V" } : Jvm.MethodName)) ∈ lw_all := lw_g (lw_at lw_m8 110 rfl) rfl
theorem q1903 : (Jvm.Cond.privateMethod ({ cls := "NotAtOnceModel", name := "pass", desc := "(Ljava/lang/String;)V" } : Jvm.MethodName)) ∈ lw_tbl := lw_at lw_m8 111 rfl
theorem q1904 : (Jvm.Cond.instanceMethod ({ cls := "NotAtOnceModel", name := "pass", desc := "(Ljava/lang/String;)V" } : Jvm.MethodName)) ∈ lw_all := lw_g (lw_at lw_m8 112 rfl) rfl
theorem q1905 : (Jvm.Cond.code ({ cls := "NotAtOnceModel", name := "pass", desc := "(Ljava/lang/String;)V" } : Jvm.MethodName) prog_18_method_18_code (2 : Nat) (Option.none : Option Jvm.ClassFile.FieldType)) ∈ lw_all := lw_g (lw_at lw_m8 113 rfl) rfl
theorem q1906 : (Jvm.Cond.methodLink "NotAtOnceModel" (131 : Nat) ({ cls := "NotAtOnceModel", name := "takes", desc := "(Ljava/lang/String;)Z" } : Jvm.MethodName)) ∈ lw_all := lw_g (lw_at lw_m8 114 rfl) rfl
theorem q1907 : (Jvm.Cond.privateMethod ({ cls := "NotAtOnceModel", name := "takes", desc := "(Ljava/lang/String;)Z" } : Jvm.MethodName)) ∈ lw_tbl := lw_at lw_m8 115 rfl
theorem q1908 : (Jvm.Cond.instanceMethod ({ cls := "NotAtOnceModel", name := "takes", desc := "(Ljava/lang/String;)Z" } : Jvm.MethodName)) ∈ lw_all := lw_g (lw_at lw_m8 116 rfl) rfl
theorem q1909 : (Jvm.Cond.code ({ cls := "NotAtOnceModel", name := "takes", desc := "(Ljava/lang/String;)Z" } : Jvm.MethodName) prog_18_method_17_code (2 : Nat) (Option.some Jvm.ClassFile.FieldType.boolean)) ∈ lw_all := lw_g (lw_at lw_m8 117 rfl) rfl
theorem q1910 : (Jvm.Cond.methodLink "NotAtOnceModel" (227 : Nat) ({ cls := "NotAtOnceModel", name := "numbe\x72", desc := "(II)I" } : Jvm.MethodName)) ∈ lw_all := lw_g (lw_at lw_m8 118 rfl) rfl
theorem q1911 : (Jvm.Cond.privateMethod ({ cls := "NotAtOnceModel", name := "numbe\x72", desc := "(II)I" } : Jvm.MethodName)) ∈ lw_tbl := lw_at lw_m8 119 rfl
theorem q1912 : (Jvm.Cond.instanceMethod ({ cls := "NotAtOnceModel", name := "numbe\x72", desc := "(II)I" } : Jvm.MethodName)) ∈ lw_all := lw_g (lw_at lw_m8 120 rfl) rfl
theorem q1913 : (Jvm.Cond.code ({ cls := "NotAtOnceModel", name := "numbe\x72", desc := "(II)I" } : Jvm.MethodName) prog_18_method_24_code (4 : Nat) (Option.some Jvm.ClassFile.FieldType.int)) ∈ lw_all := lw_g (lw_at lw_m8 121 rfl) rfl
theorem q1914 : (Jvm.Cond.stringRef "NotAtOnceModel" (140 : Nat) "look") ∈ lw_tbl := lw_at lw_m8 122 rfl
theorem q1915 : (Jvm.Cond.methodLink "NotAtOnceModel" (205 : Nat) ({ cls := "NotAtOnceModel", name := "newNames", desc := "(III)V" } : Jvm.MethodName)) ∈ lw_all := lw_g (lw_at lw_m8 123 rfl) rfl
theorem q1916 : (Jvm.Cond.privateMethod ({ cls := "NotAtOnceModel", name := "newNames", desc := "(III)V" } : Jvm.MethodName)) ∈ lw_tbl := lw_at lw_m8 124 rfl
theorem q1917 : (Jvm.Cond.instanceMethod ({ cls := "NotAtOnceModel", name := "newNames", desc := "(III)V" } : Jvm.MethodName)) ∈ lw_all := lw_g (lw_at lw_m8 125 rfl) rfl
theorem q1918 : (Jvm.Cond.code ({ cls := "NotAtOnceModel", name := "newNames", desc := "(III)V" } : Jvm.MethodName) prog_18_method_21_code (7 : Nat) (Option.none : Option Jvm.ClassFile.FieldType)) ∈ lw_all := lw_g (lw_at lw_m8 126 rfl) rfl
theorem q1919 : (Jvm.Cond.methodLink "NotAtOnceModel" (152 : Nat) ({ cls := "NotAtOnceModel", name := "mustName", desc := "()V" } : Jvm.MethodName)) ∈ lw_all := lw_g (lw_at lw_m8 127 rfl) rfl
theorem q1920 : (Jvm.Cond.privateMethod ({ cls := "NotAtOnceModel", name := "mustName", desc := "()V" } : Jvm.MethodName)) ∈ lw_tbl := lw_at lw_m8 128 rfl
theorem q1921 : (Jvm.Cond.instanceMethod ({ cls := "NotAtOnceModel", name := "mustName", desc := "()V" } : Jvm.MethodName)) ∈ lw_all := lw_g (lw_at lw_m8 129 rfl) rfl
theorem q1922 : (Jvm.Cond.code ({ cls := "NotAtOnceModel", name := "mustName", desc := "()V" } : Jvm.MethodName) prog_18_method_19_code (2 : Nat) (Option.none : Option Jvm.ClassFile.FieldType)) ∈ lw_all := lw_g (lw_at lw_m8 130 rfl) rfl
theorem q1923 : (Jvm.Cond.stringRef "NotAtOnceModel" (142 : Nat) "point") ∈ lw_tbl := lw_at lw_m8 131 rfl
theorem q1924 : (Jvm.Cond.stringRef "NotAtOnceModel" (144 : Nat) "set") ∈ lw_tbl := lw_at lw_m8 132 rfl
theorem q1925 : (Jvm.Cond.stringRef "NotAtOnceModel" (146 : Nat) "line") ∈ lw_tbl := lw_at lw_m8 133 rfl
theorem q1926 : (Jvm.Cond.stringRef "NotAtOnceModel" (148 : Nat) "ray") ∈ lw_tbl := lw_at lw_m8 134 rfl
theorem q1927 : (Jvm.Cond.stringRef "NotAtOnceModel" (150 : Nat) "run") ∈ lw_tbl := lw_at lw_m8 135 rfl
theorem q1928 : (Jvm.Cond.methodLink "NotAtOnceModel" (155 : Nat) ({ cls := "NotAtOnceModel", name := "find", desc := "()I" } : Jvm.MethodName)) ∈ lw_all := lw_g (lw_at lw_m8 136 rfl) rfl
theorem q1929 : (Jvm.Cond.privateMethod ({ cls := "NotAtOnceModel", name := "find", desc := "()I" } : Jvm.MethodName)) ∈ lw_tbl := lw_at lw_m8 137 rfl
theorem q1930 : (Jvm.Cond.instanceMethod ({ cls := "NotAtOnceModel", name := "find", desc := "()I" } : Jvm.MethodName)) ∈ lw_all := lw_g (lw_at lw_m8 138 rfl) rfl
theorem q1931 : (Jvm.Cond.code ({ cls := "NotAtOnceModel", name := "find", desc := "()I" } : Jvm.MethodName) prog_18_method_20_code (4 : Nat) (Option.some Jvm.ClassFile.FieldType.int)) ∈ lw_all := lw_g (lw_at lw_m8 139 rfl) rfl
theorem q1932 : (Jvm.Cond.methodLink "NotAtOnceModel" (158 : Nat) ({ cls := "NotAtOnceModel", name := "comma", desc := "()Z" } : Jvm.MethodName)) ∈ lw_all := lw_g (lw_at lw_m8 140 rfl) rfl
theorem q1933 : (Jvm.Cond.privateMethod ({ cls := "NotAtOnceModel", name := "comma", desc := "()Z" } : Jvm.MethodName)) ∈ lw_tbl := lw_at lw_m8 141 rfl
theorem q1934 : (Jvm.Cond.instanceMethod ({ cls := "NotAtOnceModel", name := "comma", desc := "()Z" } : Jvm.MethodName)) ∈ lw_all := lw_g (lw_at lw_m8 142 rfl) rfl
theorem q1935 : (Jvm.Cond.code ({ cls := "NotAtOnceModel", name := "comma", desc := "()Z" } : Jvm.MethodName) prog_18_method_25_code (1 : Nat) (Option.some Jvm.ClassFile.FieldType.boolean)) ∈ lw_all := lw_g (lw_at lw_m8 143 rfl) rfl
theorem q1936 : (Jvm.Cond.methodLink "NotAtOnceModel" (209 : Nat) ({ cls := "NotAtOnceModel", name := "setLine", desc := "()V" } : Jvm.MethodName)) ∈ lw_all := lw_g (lw_at lw_m8 144 rfl) rfl
theorem q1937 : (Jvm.Cond.privateMethod ({ cls := "NotAtOnceModel", name := "setLine", desc := "()V" } : Jvm.MethodName)) ∈ lw_tbl := lw_at lw_m8 145 rfl
theorem q1938 : (Jvm.Cond.instanceMethod ({ cls := "NotAtOnceModel", name := "setLine", desc := "()V" } : Jvm.MethodName)) ∈ lw_all := lw_g (lw_at lw_m8 146 rfl) rfl
theorem q1939 : (Jvm.Cond.code ({ cls := "NotAtOnceModel", name := "setLine", desc := "()V" } : Jvm.MethodName) prog_18_method_32_code (8 : Nat) (Option.none : Option Jvm.ClassFile.FieldType)) ∈ lw_all := lw_g (lw_at lw_m8 147 rfl) rfl
theorem q1940 : (Jvm.Cond.methodLink "NotAtOnceModel" (231 : Nat) ({ cls := "NotAtOnceModel", name := "passed", desc := "(ZI)I" } : Jvm.MethodName)) ∈ lw_all := lw_g (lw_at lw_m8 148 rfl) rfl
theorem q1941 : (Jvm.Cond.privateMethod ({ cls := "NotAtOnceModel", name := "passed", desc := "(ZI)I" } : Jvm.MethodName)) ∈ lw_tbl := lw_at lw_m8 149 rfl
theorem q1942 : (Jvm.Cond.instanceMethod ({ cls := "NotAtOnceModel", name := "passed", desc := "(ZI)I" } : Jvm.MethodName)) ∈ lw_all := lw_g (lw_at lw_m8 150 rfl) rfl
theorem q1943 : (Jvm.Cond.code ({ cls := "NotAtOnceModel", name := "passed", desc := "(ZI)I" } : Jvm.MethodName) prog_18_method_23_code (4 : Nat) (Option.some Jvm.ClassFile.FieldType.int)) ∈ lw_all := lw_g (lw_at lw_m8 151 rfl) rfl
theorem q1944 : (Jvm.Cond.methodLink "NotAtOnceModel" (166 : Nat) ({ cls := "NotAtOnceModel", name := "named", desc := "(ZI)I" } : Jvm.MethodName)) ∈ lw_all := lw_g (lw_at lw_m8 152 rfl) rfl
theorem q1945 : (Jvm.Cond.privateMethod ({ cls := "NotAtOnceModel", name := "named", desc := "(ZI)I" } : Jvm.MethodName)) ∈ lw_tbl := lw_at lw_m8 153 rfl
theorem q1946 : (Jvm.Cond.instanceMethod ({ cls := "NotAtOnceModel", name := "named", desc := "(ZI)I" } : Jvm.MethodName)) ∈ lw_all := lw_g (lw_at lw_m8 154 rfl) rfl
theorem q1947 : (Jvm.Cond.code ({ cls := "NotAtOnceModel", name := "named", desc := "(ZI)I" } : Jvm.MethodName) prog_18_method_22_code (5 : Nat) (Option.some Jvm.ClassFile.FieldType.int)) ∈ lw_all := lw_g (lw_at lw_m8 155 rfl) rfl
theorem q1948 : (Jvm.Cond.methodLink "NotAtOnceModel" (162 : Nat) ({ cls := "NotAtOnceModel", name := "has", desc := "(II)Z" } : Jvm.MethodName)) ∈ lw_all := lw_g (lw_at lw_m8 156 rfl) rfl
theorem q1949 : (Jvm.Cond.static ({ cls := "NotAtOnceModel", name := "has", desc := "(II)Z" } : Jvm.MethodName)) ∈ lw_all := lw_g (lw_at lw_m8 157 rfl) rfl
theorem q1950 : (Jvm.Cond.code ({ cls := "NotAtOnceModel", name := "has", desc := "(II)Z" } : Jvm.MethodName) prog_18_method_8_code (2 : Nat) (Option.some Jvm.ClassFile.FieldType.boolean)) ∈ lw_all := lw_g (lw_at lw_m8 158 rfl) rfl
theorem q1951 : (Jvm.Cond.stringRef "NotAtOnceModel" (234 : Nat) "tells") ∈ lw_tbl := lw_at lw_m8 159 rfl
theorem q1952 : (Jvm.Cond.methodLink "NotAtOnceModel" (235 : Nat) ({ cls := "NotAtOnceModel", name := "mustComma", desc := "()V" } : Jvm.MethodName)) ∈ lw_all := lw_g (lw_at lw_m8 160 rfl) rfl
theorem q1953 : (Jvm.Cond.privateMethod ({ cls := "NotAtOnceModel", name := "mustComma", desc := "()V" } : Jvm.MethodName)) ∈ lw_tbl := lw_at lw_m8 161 rfl
theorem q1954 : (Jvm.Cond.instanceMethod ({ cls := "NotAtOnceModel", name := "mustComma", desc := "()V" } : Jvm.MethodName)) ∈ lw_all := lw_g (lw_at lw_m8 162 rfl) rfl
theorem q1955 : (Jvm.Cond.code ({ cls := "NotAtOnceModel", name := "mustComma", desc := "()V" } : Jvm.MethodName) prog_18_method_26_code (1 : Nat) (Option.none : Option Jvm.ClassFile.FieldType)) ∈ lw_all := lw_g (lw_at lw_m8 163 rfl) rfl
theorem q1956 : (Jvm.Cond.methodLink "NotAtOnceModel" (212 : Nat) ({ cls := "NotAtOnceModel", name := "lineLine", desc := "()V" } : Jvm.MethodName)) ∈ lw_all := lw_g (lw_at lw_m8 164 rfl) rfl
theorem q1957 : (Jvm.Cond.privateMethod ({ cls := "NotAtOnceModel", name := "lineLine", desc := "()V" } : Jvm.MethodName)) ∈ lw_tbl := lw_at lw_m8 165 rfl
theorem q1958 : (Jvm.Cond.instanceMethod ({ cls := "NotAtOnceModel", name := "lineLine", desc := "()V" } : Jvm.MethodName)) ∈ lw_all := lw_g (lw_at lw_m8 166 rfl) rfl
theorem q1959 : (Jvm.Cond.code ({ cls := "NotAtOnceModel", name := "lineLine", desc := "()V" } : Jvm.MethodName) prog_18_method_33_code (5 : Nat) (Option.none : Option Jvm.ClassFile.FieldType)) ∈ lw_all := lw_g (lw_at lw_m8 167 rfl) rfl
theorem q1960 : (Jvm.Cond.stringRef "NotAtOnceModel" (238 : Nat) "is") ∈ lw_tbl := lw_at lw_m8 168 rfl
theorem q1961 : (Jvm.Cond.stringRef "NotAtOnceModel" (240 : Nat) "odd") ∈ lw_tbl := lw_at lw_m8 169 rfl
theorem q1962 : (Jvm.Cond.stringRef "NotAtOnceModel" (242 : Nat) "even") ∈ lw_tbl := lw_at lw_m8 170 rfl
theorem q1963 : (Jvm.Cond.methodLink "NotAtOnceModel" (215 : Nat) ({ cls := "NotAtOnceModel", name := "rayLine", desc := "()V" } : Jvm.MethodName)) ∈ lw_all := lw_g (lw_at lw_m8 171 rfl) rfl
theorem q1964 : (Jvm.Cond.privateMethod ({ cls := "NotAtOnceModel", name := "rayLine", desc := "()V" } : Jvm.MethodName)) ∈ lw_tbl := lw_at lw_m8 172 rfl
theorem q1965 : (Jvm.Cond.instanceMethod ({ cls := "NotAtOnceModel", name := "rayLine", desc := "()V" } : Jvm.MethodName)) ∈ lw_all := lw_g (lw_at lw_m8 173 rfl) rfl
theorem q1966 : (Jvm.Cond.code ({ cls := "NotAtOnceModel", name := "rayLine", desc := "()V" } : Jvm.MethodName) prog_18_method_34_code (7 : Nat) (Option.none : Option Jvm.ClassFile.FieldType)) ∈ lw_all := lw_g (lw_at lw_m8 174 rfl) rfl
theorem q1967 : (Jvm.Cond.methodLink "NotAtOnceModel" (218 : Nat) ({ cls := "NotAtOnceModel", name := "runLine", desc := "()V" } : Jvm.MethodName)) ∈ lw_all := lw_g (lw_at lw_m8 175 rfl) rfl
theorem q1968 : (Jvm.Cond.privateMethod ({ cls := "NotAtOnceModel", name := "runLine", desc := "()V" } : Jvm.MethodName)) ∈ lw_tbl := lw_at lw_m8 176 rfl
theorem q1969 : (Jvm.Cond.instanceMethod ({ cls := "NotAtOnceModel", name := "runLine", desc := "()V" } : Jvm.MethodName)) ∈ lw_all := lw_g (lw_at lw_m8 177 rfl) rfl
theorem q1970 : (Jvm.Cond.code ({ cls := "NotAtOnceModel", name := "runLine", desc := "()V" } : Jvm.MethodName) prog_18_method_35_code (5 : Nat) (Option.none : Option Jvm.ClassFile.FieldType)) ∈ lw_all := lw_g (lw_at lw_m8 178 rfl) rfl
theorem q1971 : (Jvm.Cond.methodLink "NotAtOnceModel" (186 : Nat) ({ cls := "NotAtOnceModel", name := "noCoins", desc := "()V" } : Jvm.MethodName)) ∈ lw_all := lw_g (lw_at lw_m8 179 rfl) rfl
theorem q1972 : (Jvm.Cond.privateMethod ({ cls := "NotAtOnceModel", name := "noCoins", desc := "()V" } : Jvm.MethodName)) ∈ lw_tbl := lw_at lw_m8 180 rfl
theorem q1973 : (Jvm.Cond.instanceMethod ({ cls := "NotAtOnceModel", name := "noCoins", desc := "()V" } : Jvm.MethodName)) ∈ lw_all := lw_g (lw_at lw_m8 181 rfl) rfl
theorem q1974 : (Jvm.Cond.code ({ cls := "NotAtOnceModel", name := "noCoins", desc := "()V" } : Jvm.MethodName) prog_18_method_28_code (2 : Nat) (Option.none : Option Jvm.ClassFile.FieldType)) ∈ lw_all := lw_g (lw_at lw_m8 182 rfl) rfl
theorem q1976 : (Jvm.Cond.instanceMethod ({ cls := "NotAtOnceModel", name := "fault", desc := "()I" } : Jvm.MethodName)) ∈ lw_all := lw_g (lw_at lw_m8 184 rfl) rfl
theorem q1977 : (Jvm.Cond.selects "NotAtOnceModel" ({ cls := "NotAtOnceModel", name := "fault", desc := "()I" } : Jvm.MethodName) ({ cls := "NotAtOnceModel", name := "fault", desc := "()I" } : Jvm.MethodName)) ∈ lw_all := lw_g (lw_at lw_m8 185 rfl) rfl
theorem q1978 : (Jvm.Cond.code ({ cls := "NotAtOnceModel", name := "fault", desc := "()I" } : Jvm.MethodName) prog_18_method_36_code (1 : Nat) (Option.some Jvm.ClassFile.FieldType.int)) ∈ lw_all := lw_g (lw_at lw_m8 186 rfl) rfl
theorem q1980 : (Jvm.Cond.instanceMethod ({ cls := "NotAtOnceModel", name := "where", desc := "()I" } : Jvm.MethodName)) ∈ lw_all := lw_g (lw_at lw_m8 188 rfl) rfl
theorem q1981 : (Jvm.Cond.selects "NotAtOnceModel" ({ cls := "NotAtOnceModel", name := "where", desc := "()I" } : Jvm.MethodName) ({ cls := "NotAtOnceModel", name := "where", desc := "()I" } : Jvm.MethodName)) ∈ lw_all := lw_g (lw_at lw_m8 189 rfl) rfl
theorem q1982 : (Jvm.Cond.code ({ cls := "NotAtOnceModel", name := "where", desc := "()I" } : Jvm.MethodName) prog_18_method_37_code (1 : Nat) (Option.some Jvm.ClassFile.FieldType.int)) ∈ lw_all := lw_g (lw_at lw_m8 190 rfl) rfl
theorem q1984 : (Jvm.Cond.instanceMethod ({ cls := "NotAtOnceModel", name := "share", desc := "(Z)I" } : Jvm.MethodName)) ∈ lw_all := lw_g (lw_at lw_m8 192 rfl) rfl
theorem q1985 : (Jvm.Cond.selects "NotAtOnceModel" ({ cls := "NotAtOnceModel", name := "share", desc := "(Z)I" } : Jvm.MethodName) ({ cls := "NotAtOnceModel", name := "share", desc := "(Z)I" } : Jvm.MethodName)) ∈ lw_all := lw_g (lw_at lw_m8 193 rfl) rfl
theorem q1986 : (Jvm.Cond.code ({ cls := "NotAtOnceModel", name := "share", desc := "(Z)I" } : Jvm.MethodName) prog_18_method_52_code (2 : Nat) (Option.some Jvm.ClassFile.FieldType.int)) ∈ lw_all := lw_g (lw_at lw_m8 194 rfl) rfl
theorem q1987 : (Jvm.Cond.methodLink "NotAtOnceModel" (289 : Nat) ({ cls := "NotAtOnceModel", name := "isMixed", desc := "()Z" } : Jvm.MethodName)) ∈ lw_all := lw_g (lw_at lw_m8 195 rfl) rfl
theorem q1988 : (Jvm.Cond.privateMethod ({ cls := "NotAtOnceModel", name := "isMixed", desc := "()Z" } : Jvm.MethodName)) ∈ lw_tbl := lw_at lw_m8 196 rfl
theorem q1989 : (Jvm.Cond.instanceMethod ({ cls := "NotAtOnceModel", name := "isMixed", desc := "()Z" } : Jvm.MethodName)) ∈ lw_all := lw_g (lw_at lw_m8 197 rfl) rfl
theorem q1990 : (Jvm.Cond.code ({ cls := "NotAtOnceModel", name := "isMixed", desc := "()Z" } : Jvm.MethodName) prog_18_method_51_code (1 : Nat) (Option.some Jvm.ClassFile.FieldType.boolean)) ∈ lw_all := lw_g (lw_at lw_m8 198 rfl) rfl
theorem q1991 : (Jvm.Cond.methodLink "NotAtOnceModel" (282 : Nat) ({ cls := "NotAtOnceModel", name := "layTab", desc := "()V" } : Jvm.MethodName)) ∈ lw_all := lw_g (lw_at lw_m8 199 rfl) rfl
theorem q1992 : (Jvm.Cond.privateMethod ({ cls := "NotAtOnceModel", name := "layTab", desc := "()V" } : Jvm.MethodName)) ∈ lw_tbl := lw_at lw_m8 200 rfl
theorem q1993 : (Jvm.Cond.instanceMethod ({ cls := "NotAtOnceModel", name := "layTab", desc := "()V" } : Jvm.MethodName)) ∈ lw_all := lw_g (lw_at lw_m8 201 rfl) rfl
theorem q1994 : (Jvm.Cond.code ({ cls := "NotAtOnceModel", name := "layTab", desc := "()V" } : Jvm.MethodName) prog_18_method_45_code (6 : Nat) (Option.none : Option Jvm.ClassFile.FieldType)) ∈ lw_all := lw_g (lw_at lw_m8 202 rfl) rfl
theorem q1995 : (Jvm.Cond.methodLink "NotAtOnceModel" (251 : Nat) ({ cls := "NotAtOnceModel", name := "hiddenMany", desc := "()I" } : Jvm.MethodName)) ∈ lw_all := lw_g (lw_at lw_m8 203 rfl) rfl
theorem q1996 : (Jvm.Cond.privateMethod ({ cls := "NotAtOnceModel", name := "hiddenMany", desc := "()I" } : Jvm.MethodName)) ∈ lw_tbl := lw_at lw_m8 204 rfl
theorem q1997 : (Jvm.Cond.instanceMethod ({ cls := "NotAtOnceModel", name := "hiddenMany", desc := "()I" } : Jvm.MethodName)) ∈ lw_all := lw_g (lw_at lw_m8 205 rfl) rfl
theorem q1998 : (Jvm.Cond.code ({ cls := "NotAtOnceModel", name := "hiddenMany", desc := "()I" } : Jvm.MethodName) prog_18_method_42_code (1 : Nat) (Option.some Jvm.ClassFile.FieldType.int)) ∈ lw_all := lw_g (lw_at lw_m8 206 rfl) rfl
theorem q1999 : (Jvm.Cond.methodLink "NotAtOnceModel" (247 : Nat) ({ cls := "NotAtOnceModel", name := "outcomes", desc := "([II)I" } : Jvm.MethodName)) ∈ lw_all := lw_g (lw_at lw_m8 207 rfl) rfl
theorem q2000 : (Jvm.Cond.static ({ cls := "NotAtOnceModel", name := "outcomes", desc := "([II)I" } : Jvm.MethodName)) ∈ lw_all := lw_g (lw_at lw_m8 208 rfl) rfl
theorem q2001 : (Jvm.Cond.code ({ cls := "NotAtOnceModel", name := "outcomes", desc := "([II)I" } : Jvm.MethodName) prog_18_method_40_code (2 : Nat) (Option.some Jvm.ClassFile.FieldType.int)) ∈ lw_all := lw_g (lw_at lw_m8 209 rfl) rfl
theorem q2002 : (Jvm.Cond.methodLink "NotAtOnceModel" (260 : Nat) ({ cls := "NotAtOnceModel", name := "cell", desc := "(II)I" } : Jvm.MethodName)) ∈ lw_all := lw_g (lw_at lw_m8 210 rfl) rfl
theorem q2003 : (Jvm.Cond.static ({ cls := "NotAtOnceModel", name := "cell", desc := "(II)I" } : Jvm.MethodName)) ∈ lw_all := lw_g (lw_at lw_m8 211 rfl) rfl
theorem q2004 : (Jvm.Cond.code ({ cls := "NotAtOnceModel", name := "cell", desc := "(II)I" } : Jvm.MethodName) prog_18_method_44_code (2 : Nat) (Option.some Jvm.ClassFile.FieldType.int)) ∈ lw_all := lw_g (lw_at lw_m8 212 rfl) rfl
theorem q2005 : (Jvm.Cond.methodLink "NotAtOnceModel" (263 : Nat) ({ cls := "NotAtOnceModel", name := "fitted", desc := "(II)I" } : Jvm.MethodName)) ∈ lw_all := lw_g (lw_at lw_m8 213 rfl) rfl
theorem q2006 : (Jvm.Cond.privateMethod ({ cls := "NotAtOnceModel", name := "fitted", desc := "(II)I" } : Jvm.MethodName)) ∈ lw_tbl := lw_at lw_m8 214 rfl
theorem q2007 : (Jvm.Cond.instanceMethod ({ cls := "NotAtOnceModel", name := "fitted", desc := "(II)I" } : Jvm.MethodName)) ∈ lw_all := lw_g (lw_at lw_m8 215 rfl) rfl
theorem q2008 : (Jvm.Cond.code ({ cls := "NotAtOnceModel", name := "fitted", desc := "(II)I" } : Jvm.MethodName) prog_18_method_43_code (4 : Nat) (Option.some Jvm.ClassFile.FieldType.int)) ∈ lw_all := lw_g (lw_at lw_m8 216 rfl) rfl
theorem q2009 : (Jvm.Cond.constantLong "NotAtOnceModel" (266 : Nat) (-1 : Int64)) ∈ lw_all := lw_g (lw_at lw_m8 217 rfl) rfl
theorem q2010 : (Jvm.Cond.methodLink "NotAtOnceModel" (285 : Nat) ({ cls := "NotAtOnceModel", name := "goesUp", desc := "(I)V" } : Jvm.MethodName)) ∈ lw_all := lw_g (lw_at lw_m8 218 rfl) rfl
theorem q2011 : (Jvm.Cond.privateMethod ({ cls := "NotAtOnceModel", name := "goesUp", desc := "(I)V" } : Jvm.MethodName)) ∈ lw_tbl := lw_at lw_m8 219 rfl
theorem q2012 : (Jvm.Cond.instanceMethod ({ cls := "NotAtOnceModel", name := "goesUp", desc := "(I)V" } : Jvm.MethodName)) ∈ lw_all := lw_g (lw_at lw_m8 220 rfl) rfl
theorem q2013 : (Jvm.Cond.code ({ cls := "NotAtOnceModel", name := "goesUp", desc := "(I)V" } : Jvm.MethodName) prog_18_method_48_code (5 : Nat) (Option.none : Option Jvm.ClassFile.FieldType)) ∈ lw_all := lw_g (lw_at lw_m8 221 rfl) rfl
theorem q2014 : (Jvm.Cond.methodLink "NotAtOnceModel" (272 : Nat) ({ cls := "NotAtOnceModel", name := "bounding", desc := "(I)I" } : Jvm.MethodName)) ∈ lw_all := lw_g (lw_at lw_m8 222 rfl) rfl
theorem q2015 : (Jvm.Cond.privateMethod ({ cls := "NotAtOnceModel", name := "bounding", desc := "(I)I" } : Jvm.MethodName)) ∈ lw_tbl := lw_at lw_m8 223 rfl
theorem q2016 : (Jvm.Cond.instanceMethod ({ cls := "NotAtOnceModel", name := "bounding", desc := "(I)I" } : Jvm.MethodName)) ∈ lw_all := lw_g (lw_at lw_m8 224 rfl) rfl
theorem q2017 : (Jvm.Cond.code ({ cls := "NotAtOnceModel", name := "bounding", desc := "(I)I" } : Jvm.MethodName) prog_18_method_47_code (12 : Nat) (Option.some Jvm.ClassFile.FieldType.int)) ∈ lw_all := lw_g (lw_at lw_m8 225 rfl) rfl
theorem q2018 : (Jvm.Cond.methodLink "NotAtOnceModel" (275 : Nat) ({ cls := "NotAtOnceModel", name := "turnOve\x72", desc := "(II)V" } : Jvm.MethodName)) ∈ lw_all := lw_g (lw_at lw_m8 226 rfl) rfl
theorem q2019 : (Jvm.Cond.privateMethod ({ cls := "NotAtOnceModel", name := "turnOve\x72", desc := "(II)V" } : Jvm.MethodName)) ∈ lw_tbl := lw_at lw_m8 227 rfl
theorem q2020 : (Jvm.Cond.instanceMethod ({ cls := "NotAtOnceModel", name := "turnOve\x72", desc := "(II)V" } : Jvm.MethodName)) ∈ lw_all := lw_g (lw_at lw_m8 228 rfl) rfl
theorem q2021 : (Jvm.Cond.code ({ cls := "NotAtOnceModel", name := "turnOve\x72", desc := "(II)V" } : Jvm.MethodName) prog_18_method_46_code (9 : Nat) (Option.none : Option Jvm.ClassFile.FieldType)) ∈ lw_all := lw_g (lw_at lw_m8 229 rfl) rfl
theorem q2022 : (Jvm.Cond.methodLink "NotAtOnceModel" (292 : Nat) ({ cls := "NotAtOnceModel", name := "lowest", desc := "(JJZ)I" } : Jvm.MethodName)) ∈ lw_all := lw_g (lw_at lw_m8 230 rfl) rfl
theorem q2023 : (Jvm.Cond.static ({ cls := "NotAtOnceModel", name := "lowest", desc := "(JJZ)I" } : Jvm.MethodName)) ∈ lw_all := lw_g (lw_at lw_m8 231 rfl) rfl
theorem q2024 : (Jvm.Cond.code ({ cls := "NotAtOnceModel", name := "lowest", desc := "(JJZ)I" } : Jvm.MethodName) prog_18_method_50_code (7 : Nat) (Option.some Jvm.ClassFile.FieldType.int)) ∈ lw_all := lw_g (lw_at lw_m8 232 rfl) rfl
theorem q2025 : (Jvm.Cond.methodLink "NotAtOnceModel" (278 : Nat) ({ cls := "NotAtOnceModel", name := "common", desc := "(JJ)J" } : Jvm.MethodName)) ∈ lw_all := lw_g (lw_at lw_m8 233 rfl) rfl
theorem q2026 : (Jvm.Cond.static ({ cls := "NotAtOnceModel", name := "common", desc := "(JJ)J" } : Jvm.MethodName)) ∈ lw_all := lw_g (lw_at lw_m8 234 rfl) rfl
theorem q2027 : (Jvm.Cond.code ({ cls := "NotAtOnceModel", name := "common", desc := "(JJ)J" } : Jvm.MethodName) prog_18_method_49_code (10 : Nat) (Option.some Jvm.ClassFile.FieldType.long)) ∈ lw_all := lw_g (lw_at lw_m8 235 rfl) rfl
theorem q2029 : (Jvm.Cond.instanceMethod ({ cls := "NotAtOnceModel", name := "togethe\x72", desc := "(IIIIZZ)I" } : Jvm.MethodName)) ∈ lw_all := lw_g (lw_at lw_m8 237 rfl) rfl
theorem q2030 : (Jvm.Cond.selects "NotAtOnceModel" ({ cls := "NotAtOnceModel", name := "togethe\x72", desc := "(IIIIZZ)I" } : Jvm.MethodName) ({ cls := "NotAtOnceModel", name := "togethe\x72", desc := "(IIIIZZ)I" } : Jvm.MethodName)) ∈ lw_all := lw_g (lw_at lw_m8 238 rfl) rfl
theorem q2031 : (Jvm.Cond.code ({ cls := "NotAtOnceModel", name := "togethe\x72", desc := "(IIIIZZ)I" } : Jvm.MethodName) prog_18_method_54_code (13 : Nat) (Option.some Jvm.ClassFile.FieldType.int)) ∈ lw_all := lw_g (lw_at lw_m8 239 rfl) rfl
theorem q2032 : (Jvm.Cond.methodLink "NotAtOnceModel" (296 : Nat) ({ cls := "NotAtOnceModel", name := "isLook", desc := "(I)Z" } : Jvm.MethodName)) ∈ lw_all := lw_g (lw_at lw_m9 0 rfl) rfl
theorem q2033 : (Jvm.Cond.privateMethod ({ cls := "NotAtOnceModel", name := "isLook", desc := "(I)Z" } : Jvm.MethodName)) ∈ lw_tbl := lw_at lw_m9 1 rfl
theorem q2034 : (Jvm.Cond.instanceMethod ({ cls := "NotAtOnceModel", name := "isLook", desc := "(I)Z" } : Jvm.MethodName)) ∈ lw_all := lw_g (lw_at lw_m9 2 rfl) rfl
theorem q2035 : (Jvm.Cond.code ({ cls := "NotAtOnceModel", name := "isLook", desc := "(I)Z" } : Jvm.MethodName) prog_18_method_39_code (2 : Nat) (Option.some Jvm.ClassFile.FieldType.boolean)) ∈ lw_all := lw_g (lw_at lw_m9 3 rfl) rfl
theorem q2036 : (Jvm.Cond.methodLink "NotAtOnceModel" (299 : Nat) ({ cls := "NotAtOnceModel", name := "isBit", desc := "(I)Z" } : Jvm.MethodName)) ∈ lw_all := lw_g (lw_at lw_m9 4 rfl) rfl
theorem q2037 : (Jvm.Cond.static ({ cls := "NotAtOnceModel", name := "isBit", desc := "(I)Z" } : Jvm.MethodName)) ∈ lw_all := lw_g (lw_at lw_m9 5 rfl) rfl
theorem q2038 : (Jvm.Cond.code ({ cls := "NotAtOnceModel", name := "isBit", desc := "(I)Z" } : Jvm.MethodName) prog_18_method_53_code (1 : Nat) (Option.some Jvm.ClassFile.FieldType.boolean)) ∈ lw_all := lw_g (lw_at lw_m9 6 rfl) rfl
theorem q2040 : (Jvm.Cond.instanceMethod ({ cls := "NotAtOnceModel", name := "extend", desc := "(II)I" } : Jvm.MethodName)) ∈ lw_all := lw_g (lw_at lw_m9 8 rfl) rfl
theorem q2041 : (Jvm.Cond.selects "NotAtOnceModel" ({ cls := "NotAtOnceModel", name := "extend", desc := "(II)I" } : Jvm.MethodName) ({ cls := "NotAtOnceModel", name := "extend", desc := "(II)I" } : Jvm.MethodName)) ∈ lw_all := lw_g (lw_at lw_m9 9 rfl) rfl
theorem q2042 : (Jvm.Cond.code ({ cls := "NotAtOnceModel", name := "extend", desc := "(II)I" } : Jvm.MethodName) prog_18_method_57_code (3 : Nat) (Option.some Jvm.ClassFile.FieldType.int)) ∈ lw_all := lw_g (lw_at lw_m9 10 rfl) rfl
theorem q2043 : (Jvm.Cond.methodLink "NotAtOnceModel" (305 : Nat) ({ cls := "NotAtOnceModel", name := "isOutcome", desc := "(II)Z" } : Jvm.MethodName)) ∈ lw_all := lw_g (lw_at lw_m9 11 rfl) rfl
theorem q2044 : (Jvm.Cond.privateMethod ({ cls := "NotAtOnceModel", name := "isOutcome", desc := "(II)Z" } : Jvm.MethodName)) ∈ lw_tbl := lw_at lw_m9 12 rfl
theorem q2045 : (Jvm.Cond.instanceMethod ({ cls := "NotAtOnceModel", name := "isOutcome", desc := "(II)Z" } : Jvm.MethodName)) ∈ lw_all := lw_g (lw_at lw_m9 13 rfl) rfl
theorem q2046 : (Jvm.Cond.code ({ cls := "NotAtOnceModel", name := "isOutcome", desc := "(II)Z" } : Jvm.MethodName) prog_18_method_41_code (3 : Nat) (Option.some Jvm.ClassFile.FieldType.boolean)) ∈ lw_all := lw_g (lw_at lw_m9 14 rfl) rfl
theorem q2047 : (Jvm.Cond.methodLink "NotAtOnceModel" (244 : Nat) ({ cls := "NotAtOnceModel", name := "isSet", desc := "(I)Z" } : Jvm.MethodName)) ∈ lw_all := lw_g (lw_at lw_m9 15 rfl) rfl
theorem q2048 : (Jvm.Cond.privateMethod ({ cls := "NotAtOnceModel", name := "isSet", desc := "(I)Z" } : Jvm.MethodName)) ∈ lw_tbl := lw_at lw_m9 16 rfl
theorem q2049 : (Jvm.Cond.instanceMethod ({ cls := "NotAtOnceModel", name := "isSet", desc := "(I)Z" } : Jvm.MethodName)) ∈ lw_all := lw_g (lw_at lw_m9 17 rfl) rfl
theorem q2050 : (Jvm.Cond.code ({ cls := "NotAtOnceModel", name := "isSet", desc := "(I)Z" } : Jvm.MethodName) prog_18_method_38_code (2 : Nat) (Option.some Jvm.ClassFile.FieldType.boolean)) ∈ lw_all := lw_g (lw_at lw_m9 18 rfl) rfl
theorem q2051 : (Jvm.Cond.methodLink "NotAtOnceModel" (308 : Nat) ({ cls := "NotAtOnceModel", name := "doesExtend", desc := "(II)Z" } : Jvm.MethodName)) ∈ lw_all := lw_g (lw_at lw_m9 19 rfl) rfl
theorem q2052 : (Jvm.Cond.privateMethod ({ cls := "NotAtOnceModel", name := "doesExtend", desc := "(II)Z" } : Jvm.MethodName)) ∈ lw_tbl := lw_at lw_m9 20 rfl
theorem q2053 : (Jvm.Cond.instanceMethod ({ cls := "NotAtOnceModel", name := "doesExtend", desc := "(II)Z" } : Jvm.MethodName)) ∈ lw_all := lw_g (lw_at lw_m9 21 rfl) rfl
theorem q2054 : (Jvm.Cond.code ({ cls := "NotAtOnceModel", name := "doesExtend", desc := "(II)Z" } : Jvm.MethodName) prog_18_method_56_code (5 : Nat) (Option.some Jvm.ClassFile.FieldType.boolean)) ∈ lw_all := lw_g (lw_at lw_m9 22 rfl) rfl
theorem q2055 : (Jvm.Cond.methodLink "NotAtOnceModel" (302 : Nat) ({ cls := "NotAtOnceModel", name := "fitsAll", desc := "(II)Z" } : Jvm.MethodName)) ∈ lw_all := lw_g (lw_at lw_m9 23 rfl) rfl
theorem q2056 : (Jvm.Cond.privateMethod ({ cls := "NotAtOnceModel", name := "fitsAll", desc := "(II)Z" } : Jvm.MethodName)) ∈ lw_tbl := lw_at lw_m9 24 rfl
theorem q2057 : (Jvm.Cond.instanceMethod ({ cls := "NotAtOnceModel", name := "fitsAll", desc := "(II)Z" } : Jvm.MethodName)) ∈ lw_all := lw_g (lw_at lw_m9 25 rfl) rfl
theorem q2058 : (Jvm.Cond.code ({ cls := "NotAtOnceModel", name := "fitsAll", desc := "(II)Z" } : Jvm.MethodName) prog_18_method_55_code (5 : Nat) (Option.some Jvm.ClassFile.FieldType.boolean)) ∈ lw_all := lw_g (lw_at lw_m9 26 rfl) rfl
theorem q2060 : (Jvm.Cond.instanceMethod ({ cls := "NotAtOnceModel", name := "level", desc := "()I" } : Jvm.MethodName)) ∈ lw_all := lw_g (lw_at lw_m9 28 rfl) rfl
theorem q2061 : (Jvm.Cond.selects "NotAtOnceModel" ({ cls := "NotAtOnceModel", name := "level", desc := "()I" } : Jvm.MethodName) ({ cls := "NotAtOnceModel", name := "level", desc := "()I" } : Jvm.MethodName)) ∈ lw_all := lw_g (lw_at lw_m9 29 rfl) rfl
theorem q2062 : (Jvm.Cond.code ({ cls := "NotAtOnceModel", name := "level", desc := "()I" } : Jvm.MethodName) prog_18_method_58_code (5 : Nat) (Option.some Jvm.ClassFile.FieldType.int)) ∈ lw_all := lw_g (lw_at lw_m9 30 rfl) rfl
theorem q2064 : (Jvm.Cond.instanceMethod ({ cls := "NotAtOnceModel", name := "hidden", desc := "()I" } : Jvm.MethodName)) ∈ lw_all := lw_g (lw_at lw_m9 32 rfl) rfl
theorem q2065 : (Jvm.Cond.selects "NotAtOnceModel" ({ cls := "NotAtOnceModel", name := "hidden", desc := "()I" } : Jvm.MethodName) ({ cls := "NotAtOnceModel", name := "hidden", desc := "()I" } : Jvm.MethodName)) ∈ lw_all := lw_g (lw_at lw_m9 33 rfl) rfl
theorem q2066 : (Jvm.Cond.code ({ cls := "NotAtOnceModel", name := "hidden", desc := "()I" } : Jvm.MethodName) prog_18_method_60_code (1 : Nat) (Option.some Jvm.ClassFile.FieldType.int)) ∈ lw_all := lw_g (lw_at lw_m9 34 rfl) rfl
theorem q2067 : (Jvm.Cond.methodLink "NotAtOnceModel" (311 : Nat) ({ cls := "NotAtOnceModel", name := "fittingAnswe\x72", desc := "(I)I" } : Jvm.MethodName)) ∈ lw_all := lw_g (lw_at lw_m9 35 rfl) rfl
theorem q2068 : (Jvm.Cond.privateMethod ({ cls := "NotAtOnceModel", name := "fittingAnswe\x72", desc := "(I)I" } : Jvm.MethodName)) ∈ lw_tbl := lw_at lw_m9 36 rfl
theorem q2069 : (Jvm.Cond.instanceMethod ({ cls := "NotAtOnceModel", name := "fittingAnswe\x72", desc := "(I)I" } : Jvm.MethodName)) ∈ lw_all := lw_g (lw_at lw_m9 37 rfl) rfl
theorem q2070 : (Jvm.Cond.code ({ cls := "NotAtOnceModel", name := "fittingAnswe\x72", desc := "(I)I" } : Jvm.MethodName) prog_18_method_59_code (4 : Nat) (Option.some Jvm.ClassFile.FieldType.int)) ∈ lw_all := lw_g (lw_at lw_m9 38 rfl) rfl
theorem q2072 : (Jvm.Cond.instanceMethod ({ cls := "NotAtOnceModel", name := "answe\x72", desc := "(I)I" } : Jvm.MethodName)) ∈ lw_all := lw_g (lw_at lw_m9 40 rfl) rfl
theorem q2073 : (Jvm.Cond.selects "NotAtOnceModel" ({ cls := "NotAtOnceModel", name := "answe\x72", desc := "(I)I" } : Jvm.MethodName) ({ cls := "NotAtOnceModel", name := "answe\x72", desc := "(I)I" } : Jvm.MethodName)) ∈ lw_all := lw_g (lw_at lw_m9 41 rfl) rfl
theorem q2074 : (Jvm.Cond.code ({ cls := "NotAtOnceModel", name := "answe\x72", desc := "(I)I" } : Jvm.MethodName) prog_18_method_61_code (3 : Nat) (Option.some Jvm.ClassFile.FieldType.int)) ∈ lw_all := lw_g (lw_at lw_m9 42 rfl) rfl
theorem q2076 : (Jvm.Cond.instanceMethod ({ cls := "NotAtOnceModel", name := "disturbed", desc := "()I" } : Jvm.MethodName)) ∈ lw_all := lw_g (lw_at lw_m9 44 rfl) rfl
theorem q2077 : (Jvm.Cond.selects "NotAtOnceModel" ({ cls := "NotAtOnceModel", name := "disturbed", desc := "()I" } : Jvm.MethodName) ({ cls := "NotAtOnceModel", name := "disturbed", desc := "()I" } : Jvm.MethodName)) ∈ lw_all := lw_g (lw_at lw_m9 45 rfl) rfl
theorem q2078 : (Jvm.Cond.code ({ cls := "NotAtOnceModel", name := "disturbed", desc := "()I" } : Jvm.MethodName) prog_18_method_63_code (5 : Nat) (Option.some Jvm.ClassFile.FieldType.int)) ∈ lw_all := lw_g (lw_at lw_m9 46 rfl) rfl
theorem q2079 : (Jvm.Cond.methodLink "NotAtOnceModel" (314 : Nat) ({ cls := "NotAtOnceModel", name := "onesOf", desc := "(II)I" } : Jvm.MethodName)) ∈ lw_all := lw_g (lw_at lw_m9 47 rfl) rfl
theorem q2080 : (Jvm.Cond.privateMethod ({ cls := "NotAtOnceModel", name := "onesOf", desc := "(II)I" } : Jvm.MethodName)) ∈ lw_tbl := lw_at lw_m9 48 rfl
theorem q2081 : (Jvm.Cond.instanceMethod ({ cls := "NotAtOnceModel", name := "onesOf", desc := "(II)I" } : Jvm.MethodName)) ∈ lw_all := lw_g (lw_at lw_m9 49 rfl) rfl
theorem q2082 : (Jvm.Cond.code ({ cls := "NotAtOnceModel", name := "onesOf", desc := "(II)I" } : Jvm.MethodName) prog_18_method_62_code (4 : Nat) (Option.some Jvm.ClassFile.FieldType.int)) ∈ lw_all := lw_g (lw_at lw_m9 50 rfl) rfl
theorem q2084 : (Jvm.Cond.instanceMethod ({ cls := "NotAtOnceModel", name := "same", desc := "(I)I" } : Jvm.MethodName)) ∈ lw_all := lw_g (lw_at lw_m9 52 rfl) rfl
theorem q2085 : (Jvm.Cond.selects "NotAtOnceModel" ({ cls := "NotAtOnceModel", name := "same", desc := "(I)I" } : Jvm.MethodName) ({ cls := "NotAtOnceModel", name := "same", desc := "(I)I" } : Jvm.MethodName)) ∈ lw_all := lw_g (lw_at lw_m9 53 rfl) rfl
theorem q2086 : (Jvm.Cond.code ({ cls := "NotAtOnceModel", name := "same", desc := "(I)I" } : Jvm.MethodName) prog_18_method_65_code (2 : Nat) (Option.some Jvm.ClassFile.FieldType.int)) ∈ lw_all := lw_g (lw_at lw_m9 54 rfl) rfl
theorem q2087 : (Jvm.Cond.methodLink "NotAtOnceModel" (317 : Nat) ({ cls := "NotAtOnceModel", name := "sameOf", desc := "(I)I" } : Jvm.MethodName)) ∈ lw_all := lw_g (lw_at lw_m9 55 rfl) rfl
theorem q2088 : (Jvm.Cond.privateMethod ({ cls := "NotAtOnceModel", name := "sameOf", desc := "(I)I" } : Jvm.MethodName)) ∈ lw_tbl := lw_at lw_m9 56 rfl
theorem q2089 : (Jvm.Cond.instanceMethod ({ cls := "NotAtOnceModel", name := "sameOf", desc := "(I)I" } : Jvm.MethodName)) ∈ lw_all := lw_g (lw_at lw_m9 57 rfl) rfl
theorem q2090 : (Jvm.Cond.code ({ cls := "NotAtOnceModel", name := "sameOf", desc := "(I)I" } : Jvm.MethodName) prog_18_method_64_code (3 : Nat) (Option.some Jvm.ClassFile.FieldType.int)) ∈ lw_all := lw_g (lw_at lw_m9 58 rfl) rfl
theorem q2091 : (Jvm.Cond.methodLink "NotAtOnceModel" (320 : Nat) ({ cls := "NotAtOnceModel", name := "less", desc := "(II)I" } : Jvm.MethodName)) ∈ lw_all := lw_g (lw_at lw_m9 59 rfl) rfl
theorem q2092 : (Jvm.Cond.privateMethod ({ cls := "NotAtOnceModel", name := "less", desc := "(II)I" } : Jvm.MethodName)) ∈ lw_tbl := lw_at lw_m9 60 rfl
theorem q2093 : (Jvm.Cond.instanceMethod ({ cls := "NotAtOnceModel", name := "less", desc := "(II)I" } : Jvm.MethodName)) ∈ lw_all := lw_g (lw_at lw_m9 61 rfl) rfl
theorem q2094 : (Jvm.Cond.code ({ cls := "NotAtOnceModel", name := "less", desc := "(II)I" } : Jvm.MethodName) prog_18_method_5_code (3 : Nat) (Option.some Jvm.ClassFile.FieldType.int)) ∈ lw_all := lw_g (lw_at lw_m9 62 rfl) rfl
theorem q2096 : (Jvm.Cond.instanceMethod ({ cls := "NotAtOnceModel", name := "cycles", desc := "()I" } : Jvm.MethodName)) ∈ lw_all := lw_g (lw_at lw_m9 64 rfl) rfl
theorem q2097 : (Jvm.Cond.selects "NotAtOnceModel" ({ cls := "NotAtOnceModel", name := "cycles", desc := "()I" } : Jvm.MethodName) ({ cls := "NotAtOnceModel", name := "cycles", desc := "()I" } : Jvm.MethodName)) ∈ lw_all := lw_g (lw_at lw_m9 65 rfl) rfl
theorem q2098 : (Jvm.Cond.code ({ cls := "NotAtOnceModel", name := "cycles", desc := "()I" } : Jvm.MethodName) prog_18_method_68_code (1 : Nat) (Option.some Jvm.ClassFile.FieldType.int)) ∈ lw_all := lw_g (lw_at lw_m9 66 rfl) rfl
theorem q2099 : (Jvm.Cond.methodLink "NotAtOnceModel" (329 : Nat) ({ cls := "NotAtOnceModel", name := "cycleOf", desc := "(I)I" } : Jvm.MethodName)) ∈ lw_all := lw_g (lw_at lw_m9 67 rfl) rfl
theorem q2100 : (Jvm.Cond.privateMethod ({ cls := "NotAtOnceModel", name := "cycleOf", desc := "(I)I" } : Jvm.MethodName)) ∈ lw_tbl := lw_at lw_m9 68 rfl
theorem q2101 : (Jvm.Cond.instanceMethod ({ cls := "NotAtOnceModel", name := "cycleOf", desc := "(I)I" } : Jvm.MethodName)) ∈ lw_all := lw_g (lw_at lw_m9 69 rfl) rfl
theorem q2102 : (Jvm.Cond.code ({ cls := "NotAtOnceModel", name := "cycleOf", desc := "(I)I" } : Jvm.MethodName) prog_18_method_67_code (4 : Nat) (Option.some Jvm.ClassFile.FieldType.int)) ∈ lw_all := lw_g (lw_at lw_m9 70 rfl) rfl
theorem q2103 : (Jvm.Cond.methodLink "NotAtOnceModel" (326 : Nat) ({ cls := "NotAtOnceModel", name := "isCycle", desc := "(I)Z" } : Jvm.MethodName)) ∈ lw_all := lw_g (lw_at lw_m9 71 rfl) rfl
theorem q2104 : (Jvm.Cond.privateMethod ({ cls := "NotAtOnceModel", name := "isCycle", desc := "(I)Z" } : Jvm.MethodName)) ∈ lw_tbl := lw_at lw_m9 72 rfl
theorem q2105 : (Jvm.Cond.instanceMethod ({ cls := "NotAtOnceModel", name := "isCycle", desc := "(I)Z" } : Jvm.MethodName)) ∈ lw_all := lw_g (lw_at lw_m9 73 rfl) rfl
theorem q2106 : (Jvm.Cond.code ({ cls := "NotAtOnceModel", name := "isCycle", desc := "(I)Z" } : Jvm.MethodName) prog_18_method_66_code (8 : Nat) (Option.some Jvm.ClassFile.FieldType.boolean)) ∈ lw_all := lw_g (lw_at lw_m9 74 rfl) rfl
theorem q2107 : (Jvm.Cond.methodLink "NotAtOnceModel" (323 : Nat) ({ cls := "NotAtOnceModel", name := "bits", desc := "(I)I" } : Jvm.MethodName)) ∈ lw_all := lw_g (lw_at lw_m9 75 rfl) rfl
theorem q2108 : (Jvm.Cond.static ({ cls := "NotAtOnceModel", name := "bits", desc := "(I)I" } : Jvm.MethodName)) ∈ lw_all := lw_g (lw_at lw_m9 76 rfl) rfl
theorem q2109 : (Jvm.Cond.code ({ cls := "NotAtOnceModel", name := "bits", desc := "(I)I" } : Jvm.MethodName) prog_18_method_9_code (3 : Nat) (Option.some Jvm.ClassFile.FieldType.int)) ∈ lw_all := lw_g (lw_at lw_m9 77 rfl) rfl
theorem q2111 : (Jvm.Cond.instanceMethod ({ cls := "NotAtOnceModel", name := "cycle", desc := "(I)I" } : Jvm.MethodName)) ∈ lw_all := lw_g (lw_at lw_m9 79 rfl) rfl
theorem q2112 : (Jvm.Cond.selects "NotAtOnceModel" ({ cls := "NotAtOnceModel", name := "cycle", desc := "(I)I" } : Jvm.MethodName) ({ cls := "NotAtOnceModel", name := "cycle", desc := "(I)I" } : Jvm.MethodName)) ∈ lw_all := lw_g (lw_at lw_m9 80 rfl) rfl
theorem q2113 : (Jvm.Cond.code ({ cls := "NotAtOnceModel", name := "cycle", desc := "(I)I" } : Jvm.MethodName) prog_18_method_69_code (3 : Nat) (Option.some Jvm.ClassFile.FieldType.int)) ∈ lw_all := lw_g (lw_at lw_m9 81 rfl) rfl
theorem q2115 : (Jvm.Cond.instanceMethod ({ cls := "NotAtOnceModel", name := "excess", desc := "(I)I" } : Jvm.MethodName)) ∈ lw_all := lw_g (lw_at lw_m9 83 rfl) rfl
theorem q2116 : (Jvm.Cond.selects "NotAtOnceModel" ({ cls := "NotAtOnceModel", name := "excess", desc := "(I)I" } : Jvm.MethodName) ({ cls := "NotAtOnceModel", name := "excess", desc := "(I)I" } : Jvm.MethodName)) ∈ lw_all := lw_g (lw_at lw_m9 84 rfl) rfl
theorem q2117 : (Jvm.Cond.code ({ cls := "NotAtOnceModel", name := "excess", desc := "(I)I" } : Jvm.MethodName) prog_18_method_71_code (2 : Nat) (Option.some Jvm.ClassFile.FieldType.int)) ∈ lw_all := lw_g (lw_at lw_m9 85 rfl) rfl
theorem q2118 : (Jvm.Cond.methodLink "NotAtOnceModel" (333 : Nat) ({ cls := "NotAtOnceModel", name := "excessOf", desc := "(I)I" } : Jvm.MethodName)) ∈ lw_all := lw_g (lw_at lw_m9 86 rfl) rfl
theorem q2119 : (Jvm.Cond.privateMethod ({ cls := "NotAtOnceModel", name := "excessOf", desc := "(I)I" } : Jvm.MethodName)) ∈ lw_tbl := lw_at lw_m9 87 rfl
theorem q2120 : (Jvm.Cond.instanceMethod ({ cls := "NotAtOnceModel", name := "excessOf", desc := "(I)I" } : Jvm.MethodName)) ∈ lw_all := lw_g (lw_at lw_m9 88 rfl) rfl
theorem q2121 : (Jvm.Cond.code ({ cls := "NotAtOnceModel", name := "excessOf", desc := "(I)I" } : Jvm.MethodName) prog_18_method_70_code (6 : Nat) (Option.some Jvm.ClassFile.FieldType.int)) ∈ lw_all := lw_g (lw_at lw_m9 89 rfl) rfl
theorem q2122 : (Jvm.Cond.constant "NotAtOnceModel" (332 : Nat) (-100000 : Int32)) ∈ lw_all := lw_g (lw_at lw_m9 90 rfl) rfl
theorem q2124 : (Jvm.Cond.instanceMethod ({ cls := "NotAtOnceModel", name := "widest", desc := "()I" } : Jvm.MethodName)) ∈ lw_all := lw_g (lw_at lw_m9 92 rfl) rfl
theorem q2125 : (Jvm.Cond.selects "NotAtOnceModel" ({ cls := "NotAtOnceModel", name := "widest", desc := "()I" } : Jvm.MethodName) ({ cls := "NotAtOnceModel", name := "widest", desc := "()I" } : Jvm.MethodName)) ∈ lw_all := lw_g (lw_at lw_m9 93 rfl) rfl
theorem q2126 : (Jvm.Cond.code ({ cls := "NotAtOnceModel", name := "widest", desc := "()I" } : Jvm.MethodName) prog_18_method_72_code (5 : Nat) (Option.some Jvm.ClassFile.FieldType.int)) ∈ lw_all := lw_g (lw_at lw_m9 94 rfl) rfl
theorem q2128 : (Jvm.Cond.instanceMethod ({ cls := "NotAtOnceModel", name := "stake", desc := "(III)Z" } : Jvm.MethodName)) ∈ lw_all := lw_g (lw_at lw_m9 96 rfl) rfl
theorem q2129 : (Jvm.Cond.selects "NotAtOnceModel" ({ cls := "NotAtOnceModel", name := "stake", desc := "(III)Z" } : Jvm.MethodName) ({ cls := "NotAtOnceModel", name := "stake", desc := "(III)Z" } : Jvm.MethodName)) ∈ lw_all := lw_g (lw_at lw_m9 97 rfl) rfl
theorem q2130 : (Jvm.Cond.code ({ cls := "NotAtOnceModel", name := "stake", desc := "(III)Z" } : Jvm.MethodName) prog_18_method_73_code (4 : Nat) (Option.some Jvm.ClassFile.FieldType.boolean)) ∈ lw_all := lw_g (lw_at lw_m9 98 rfl) rfl
theorem q2131 : (Jvm.Cond.methodLink "NotAtOnceModel" (336 : Nat) ({ cls := "NotAtOnceModel", name := "isNot", desc := "(I)Z" } : Jvm.MethodName)) ∈ lw_all := lw_g (lw_at lw_m9 99 rfl) rfl
theorem q2132 : (Jvm.Cond.privateMethod ({ cls := "NotAtOnceModel", name := "isNot", desc := "(I)Z" } : Jvm.MethodName)) ∈ lw_tbl := lw_at lw_m9 100 rfl
theorem q2133 : (Jvm.Cond.instanceMethod ({ cls := "NotAtOnceModel", name := "isNot", desc := "(I)Z" } : Jvm.MethodName)) ∈ lw_all := lw_g (lw_at lw_m9 101 rfl) rfl
theorem q2134 : (Jvm.Cond.code ({ cls := "NotAtOnceModel", name := "isNot", desc := "(I)Z" } : Jvm.MethodName) prog_18_method_6_code (2 : Nat) (Option.some Jvm.ClassFile.FieldType.boolean)) ∈ lw_all := lw_g (lw_at lw_m9 102 rfl) rfl
theorem q2136 : (Jvm.Cond.instanceMethod ({ cls := "NotAtOnceModel", name := "wins", desc := "()I" } : Jvm.MethodName)) ∈ lw_all := lw_g (lw_at lw_m9 104 rfl) rfl
theorem q2137 : (Jvm.Cond.selects "NotAtOnceModel" ({ cls := "NotAtOnceModel", name := "wins", desc := "()I" } : Jvm.MethodName) ({ cls := "NotAtOnceModel", name := "wins", desc := "()I" } : Jvm.MethodName)) ∈ lw_all := lw_g (lw_at lw_m9 105 rfl) rfl
theorem q2138 : (Jvm.Cond.code ({ cls := "NotAtOnceModel", name := "wins", desc := "()I" } : Jvm.MethodName) prog_18_method_77_code (1 : Nat) (Option.some Jvm.ClassFile.FieldType.int)) ∈ lw_all := lw_g (lw_at lw_m9 106 rfl) rfl
theorem q2139 : (Jvm.Cond.methodLink "NotAtOnceModel" (342 : Nat) ({ cls := "NotAtOnceModel", name := "winsOf", desc := "()I" } : Jvm.MethodName)) ∈ lw_all := lw_g (lw_at lw_m9 107 rfl) rfl
theorem q2140 : (Jvm.Cond.privateMethod ({ cls := "NotAtOnceModel", name := "winsOf", desc := "()I" } : Jvm.MethodName)) ∈ lw_tbl := lw_at lw_m9 108 rfl
theorem q2141 : (Jvm.Cond.instanceMethod ({ cls := "NotAtOnceModel", name := "winsOf", desc := "()I" } : Jvm.MethodName)) ∈ lw_all := lw_g (lw_at lw_m9 109 rfl) rfl
theorem q2142 : (Jvm.Cond.code ({ cls := "NotAtOnceModel", name := "winsOf", desc := "()I" } : Jvm.MethodName) prog_18_method_74_code (4 : Nat) (Option.some Jvm.ClassFile.FieldType.int)) ∈ lw_all := lw_g (lw_at lw_m9 110 rfl) rfl
theorem q2144 : (Jvm.Cond.instanceMethod ({ cls := "NotAtOnceModel", name := "worst", desc := "()I" } : Jvm.MethodName)) ∈ lw_all := lw_g (lw_at lw_m9 112 rfl) rfl
theorem q2145 : (Jvm.Cond.selects "NotAtOnceModel" ({ cls := "NotAtOnceModel", name := "worst", desc := "()I" } : Jvm.MethodName) ({ cls := "NotAtOnceModel", name := "worst", desc := "()I" } : Jvm.MethodName)) ∈ lw_all := lw_g (lw_at lw_m9 113 rfl) rfl
theorem q2146 : (Jvm.Cond.code ({ cls := "NotAtOnceModel", name := "worst", desc := "()I" } : Jvm.MethodName) prog_18_method_78_code (1 : Nat) (Option.some Jvm.ClassFile.FieldType.int)) ∈ lw_all := lw_g (lw_at lw_m9 114 rfl) rfl
theorem q2147 : (Jvm.Cond.methodLink "NotAtOnceModel" (345 : Nat) ({ cls := "NotAtOnceModel", name := "worstHidden", desc := "()I" } : Jvm.MethodName)) ∈ lw_all := lw_g (lw_at lw_m9 115 rfl) rfl
theorem q2148 : (Jvm.Cond.privateMethod ({ cls := "NotAtOnceModel", name := "worstHidden", desc := "()I" } : Jvm.MethodName)) ∈ lw_tbl := lw_at lw_m9 116 rfl
theorem q2149 : (Jvm.Cond.instanceMethod ({ cls := "NotAtOnceModel", name := "worstHidden", desc := "()I" } : Jvm.MethodName)) ∈ lw_all := lw_g (lw_at lw_m9 117 rfl) rfl
theorem q2150 : (Jvm.Cond.code ({ cls := "NotAtOnceModel", name := "worstHidden", desc := "()I" } : Jvm.MethodName) prog_18_method_76_code (3 : Nat) (Option.some Jvm.ClassFile.FieldType.int)) ∈ lw_all := lw_g (lw_at lw_m9 118 rfl) rfl
theorem q2151 : (Jvm.Cond.methodLink "NotAtOnceModel" (339 : Nat) ({ cls := "NotAtOnceModel", name := "paid", desc := "(I)I" } : Jvm.MethodName)) ∈ lw_all := lw_g (lw_at lw_m9 119 rfl) rfl
theorem q2152 : (Jvm.Cond.privateMethod ({ cls := "NotAtOnceModel", name := "paid", desc := "(I)I" } : Jvm.MethodName)) ∈ lw_tbl := lw_at lw_m9 120 rfl
theorem q2153 : (Jvm.Cond.instanceMethod ({ cls := "NotAtOnceModel", name := "paid", desc := "(I)I" } : Jvm.MethodName)) ∈ lw_all := lw_g (lw_at lw_m9 121 rfl) rfl
theorem q2154 : (Jvm.Cond.code ({ cls := "NotAtOnceModel", name := "paid", desc := "(I)I" } : Jvm.MethodName) prog_18_method_75_code (4 : Nat) (Option.some Jvm.ClassFile.FieldType.int)) ∈ lw_all := lw_g (lw_at lw_m9 122 rfl) rfl
theorem q2156 : (Jvm.Cond.instanceMethod ({ cls := "NotAtOnceModel", name := "worstAt", desc := "()I" } : Jvm.MethodName)) ∈ lw_all := lw_g (lw_at lw_m9 124 rfl) rfl
theorem q2157 : (Jvm.Cond.selects "NotAtOnceModel" ({ cls := "NotAtOnceModel", name := "worstAt", desc := "()I" } : Jvm.MethodName) ({ cls := "NotAtOnceModel", name := "worstAt", desc := "()I" } : Jvm.MethodName)) ∈ lw_all := lw_g (lw_at lw_m9 125 rfl) rfl
theorem q2158 : (Jvm.Cond.code ({ cls := "NotAtOnceModel", name := "worstAt", desc := "()I" } : Jvm.MethodName) prog_18_method_79_code (1 : Nat) (Option.some Jvm.ClassFile.FieldType.int)) ∈ lw_all := lw_g (lw_at lw_m9 126 rfl) rfl
theorem q2160 : (Jvm.Cond.instanceMethod ({ cls := "NotAtOnceModel", name := "bars", desc := "()I" } : Jvm.MethodName)) ∈ lw_all := lw_g (lw_at lw_m9 128 rfl) rfl
theorem q2161 : (Jvm.Cond.selects "NotAtOnceModel" ({ cls := "NotAtOnceModel", name := "bars", desc := "()I" } : Jvm.MethodName) ({ cls := "NotAtOnceModel", name := "bars", desc := "()I" } : Jvm.MethodName)) ∈ lw_all := lw_g (lw_at lw_m9 129 rfl) rfl
theorem q2162 : (Jvm.Cond.code ({ cls := "NotAtOnceModel", name := "bars", desc := "()I" } : Jvm.MethodName) prog_18_method_80_code (1 : Nat) (Option.some Jvm.ClassFile.FieldType.int)) ∈ lw_all := lw_g (lw_at lw_m9 130 rfl) rfl
theorem q2164 : (Jvm.Cond.instanceMethod ({ cls := "NotAtOnceModel", name := "fai\x72", desc := "(Z)I" } : Jvm.MethodName)) ∈ lw_all := lw_g (lw_at lw_m9 132 rfl) rfl
theorem q2165 : (Jvm.Cond.selects "NotAtOnceModel" ({ cls := "NotAtOnceModel", name := "fai\x72", desc := "(Z)I" } : Jvm.MethodName) ({ cls := "NotAtOnceModel", name := "fai\x72", desc := "(Z)I" } : Jvm.MethodName)) ∈ lw_all := lw_g (lw_at lw_m9 133 rfl) rfl
theorem q2166 : (Jvm.Cond.code ({ cls := "NotAtOnceModel", name := "fai\x72", desc := "(Z)I" } : Jvm.MethodName) prog_18_method_81_code (3 : Nat) (Option.some Jvm.ClassFile.FieldType.int)) ∈ lw_all := lw_g (lw_at lw_m9 134 rfl) rfl
theorem q2168 : (Jvm.Cond.instanceMethod ({ cls := "NotAtOnceModel", name := "ways", desc := "()I" } : Jvm.MethodName)) ∈ lw_all := lw_g (lw_at lw_m9 136 rfl) rfl
theorem q2169 : (Jvm.Cond.selects "NotAtOnceModel" ({ cls := "NotAtOnceModel", name := "ways", desc := "()I" } : Jvm.MethodName) ({ cls := "NotAtOnceModel", name := "ways", desc := "()I" } : Jvm.MethodName)) ∈ lw_all := lw_g (lw_at lw_m9 137 rfl) rfl
theorem q2170 : (Jvm.Cond.code ({ cls := "NotAtOnceModel", name := "ways", desc := "()I" } : Jvm.MethodName) prog_18_method_84_code (3 : Nat) (Option.some Jvm.ClassFile.FieldType.int)) ∈ lw_all := lw_g (lw_at lw_m9 138 rfl) rfl
theorem q2171 : (Jvm.Cond.methodLink "NotAtOnceModel" (348 : Nat) ({ cls := "NotAtOnceModel", name := "linesBy", desc := "(I)I" } : Jvm.MethodName)) ∈ lw_all := lw_g (lw_at lw_m9 139 rfl) rfl
theorem q2172 : (Jvm.Cond.privateMethod ({ cls := "NotAtOnceModel", name := "linesBy", desc := "(I)I" } : Jvm.MethodName)) ∈ lw_tbl := lw_at lw_m9 140 rfl
theorem q2173 : (Jvm.Cond.instanceMethod ({ cls := "NotAtOnceModel", name := "linesBy", desc := "(I)I" } : Jvm.MethodName)) ∈ lw_all := lw_g (lw_at lw_m9 141 rfl) rfl
theorem q2174 : (Jvm.Cond.code ({ cls := "NotAtOnceModel", name := "linesBy", desc := "(I)I" } : Jvm.MethodName) prog_18_method_82_code (6 : Nat) (Option.some Jvm.ClassFile.FieldType.int)) ∈ lw_all := lw_g (lw_at lw_m9 142 rfl) rfl
theorem q2175 : (Jvm.Cond.methodLink "NotAtOnceModel" (351 : Nat) ({ cls := "NotAtOnceModel", name := "allLines", desc := "()I" } : Jvm.MethodName)) ∈ lw_all := lw_g (lw_at lw_m9 143 rfl) rfl
theorem q2176 : (Jvm.Cond.privateMethod ({ cls := "NotAtOnceModel", name := "allLines", desc := "()I" } : Jvm.MethodName)) ∈ lw_tbl := lw_at lw_m9 144 rfl
theorem q2177 : (Jvm.Cond.instanceMethod ({ cls := "NotAtOnceModel", name := "allLines", desc := "()I" } : Jvm.MethodName)) ∈ lw_all := lw_g (lw_at lw_m9 145 rfl) rfl
theorem q2178 : (Jvm.Cond.code ({ cls := "NotAtOnceModel", name := "allLines", desc := "()I" } : Jvm.MethodName) prog_18_method_83_code (1 : Nat) (Option.some Jvm.ClassFile.FieldType.int)) ∈ lw_all := lw_g (lw_at lw_m9 146 rfl) rfl
theorem q2180 : (Jvm.Cond.instanceMethod ({ cls := "NotAtOnceModel", name := "forced", desc := "(I)I" } : Jvm.MethodName)) ∈ lw_all := lw_g (lw_at lw_m9 148 rfl) rfl
theorem q2181 : (Jvm.Cond.selects "NotAtOnceModel" ({ cls := "NotAtOnceModel", name := "forced", desc := "(I)I" } : Jvm.MethodName) ({ cls := "NotAtOnceModel", name := "forced", desc := "(I)I" } : Jvm.MethodName)) ∈ lw_all := lw_g (lw_at lw_m9 149 rfl) rfl
theorem q2182 : (Jvm.Cond.code ({ cls := "NotAtOnceModel", name := "forced", desc := "(I)I" } : Jvm.MethodName) prog_18_method_85_code (5 : Nat) (Option.some Jvm.ClassFile.FieldType.int)) ∈ lw_all := lw_g (lw_at lw_m9 150 rfl) rfl
theorem q2184 : (Jvm.Cond.instanceMethod ({ cls := "NotAtOnceModel", name := "core", desc := "()I" } : Jvm.MethodName)) ∈ lw_all := lw_g (lw_at lw_m9 152 rfl) rfl
theorem q2185 : (Jvm.Cond.selects "NotAtOnceModel" ({ cls := "NotAtOnceModel", name := "core", desc := "()I" } : Jvm.MethodName) ({ cls := "NotAtOnceModel", name := "core", desc := "()I" } : Jvm.MethodName)) ∈ lw_all := lw_g (lw_at lw_m9 153 rfl) rfl
theorem q2186 : (Jvm.Cond.code ({ cls := "NotAtOnceModel", name := "core", desc := "()I" } : Jvm.MethodName) prog_18_method_87_code (3 : Nat) (Option.some Jvm.ClassFile.FieldType.int)) ∈ lw_all := lw_g (lw_at lw_m9 154 rfl) rfl
theorem q2187 : (Jvm.Cond.methodLink "NotAtOnceModel" (354 : Nat) ({ cls := "NotAtOnceModel", name := "canLines", desc := "(I)Z" } : Jvm.MethodName)) ∈ lw_all := lw_g (lw_at lw_m9 155 rfl) rfl
theorem q2188 : (Jvm.Cond.privateMethod ({ cls := "NotAtOnceModel", name := "canLines", desc := "(I)Z" } : Jvm.MethodName)) ∈ lw_tbl := lw_at lw_m9 156 rfl
theorem q2189 : (Jvm.Cond.instanceMethod ({ cls := "NotAtOnceModel", name := "canLines", desc := "(I)Z" } : Jvm.MethodName)) ∈ lw_all := lw_g (lw_at lw_m9 157 rfl) rfl
theorem q2190 : (Jvm.Cond.code ({ cls := "NotAtOnceModel", name := "canLines", desc := "(I)Z" } : Jvm.MethodName) prog_18_method_86_code (4 : Nat) (Option.some Jvm.ClassFile.FieldType.boolean)) ∈ lw_all := lw_g (lw_at lw_m9 158 rfl) rfl
theorem q2192 : (Jvm.Cond.instanceMethod ({ cls := "NotAtOnceModel", name := "can", desc := "(I)I" } : Jvm.MethodName)) ∈ lw_all := lw_g (lw_at lw_m9 160 rfl) rfl
theorem q2193 : (Jvm.Cond.selects "NotAtOnceModel" ({ cls := "NotAtOnceModel", name := "can", desc := "(I)I" } : Jvm.MethodName) ({ cls := "NotAtOnceModel", name := "can", desc := "(I)I" } : Jvm.MethodName)) ∈ lw_all := lw_g (lw_at lw_m9 161 rfl) rfl
theorem q2194 : (Jvm.Cond.code ({ cls := "NotAtOnceModel", name := "can", desc := "(I)I" } : Jvm.MethodName) prog_18_method_88_code (2 : Nat) (Option.some Jvm.ClassFile.FieldType.int)) ∈ lw_all := lw_g (lw_at lw_m9 162 rfl) rfl
theorem q2196 : (Jvm.Cond.instanceMethod ({ cls := "NotAtOnceModel", name := "game", desc := "()I" } : Jvm.MethodName)) ∈ lw_all := lw_g (lw_at lw_m9 164 rfl) rfl
theorem q2197 : (Jvm.Cond.selects "NotAtOnceModel" ({ cls := "NotAtOnceModel", name := "game", desc := "()I" } : Jvm.MethodName) ({ cls := "NotAtOnceModel", name := "game", desc := "()I" } : Jvm.MethodName)) ∈ lw_all := lw_g (lw_at lw_m9 165 rfl) rfl
theorem q2198 : (Jvm.Cond.code ({ cls := "NotAtOnceModel", name := "game", desc := "()I" } : Jvm.MethodName) prog_18_method_89_code (3 : Nat) (Option.some Jvm.ClassFile.FieldType.int)) ∈ lw_all := lw_g (lw_at lw_m9 166 rfl) rfl
theorem q2200 : (Jvm.Cond.instanceMethod ({ cls := "NotAtOnceModel", name := "square", desc := "(II)I" } : Jvm.MethodName)) ∈ lw_all := lw_g (lw_at lw_m9 168 rfl) rfl
theorem q2201 : (Jvm.Cond.selects "NotAtOnceModel" ({ cls := "NotAtOnceModel", name := "square", desc := "(II)I" } : Jvm.MethodName) ({ cls := "NotAtOnceModel", name := "square", desc := "(II)I" } : Jvm.MethodName)) ∈ lw_all := lw_g (lw_at lw_m9 169 rfl) rfl
theorem q2202 : (Jvm.Cond.code ({ cls := "NotAtOnceModel", name := "square", desc := "(II)I" } : Jvm.MethodName) prog_18_method_92_code (3 : Nat) (Option.some Jvm.ClassFile.FieldType.int)) ∈ lw_all := lw_g (lw_at lw_m9 170 rfl) rfl
theorem q2203 : (Jvm.Cond.methodLink "NotAtOnceModel" (357 : Nat) ({ cls := "NotAtOnceModel", name := "isRay", desc := "(I)Z" } : Jvm.MethodName)) ∈ lw_all := lw_g (lw_at lw_m9 171 rfl) rfl
theorem q2204 : (Jvm.Cond.privateMethod ({ cls := "NotAtOnceModel", name := "isRay", desc := "(I)Z" } : Jvm.MethodName)) ∈ lw_tbl := lw_at lw_m9 172 rfl
theorem q2205 : (Jvm.Cond.instanceMethod ({ cls := "NotAtOnceModel", name := "isRay", desc := "(I)Z" } : Jvm.MethodName)) ∈ lw_all := lw_g (lw_at lw_m9 173 rfl) rfl
theorem q2206 : (Jvm.Cond.code ({ cls := "NotAtOnceModel", name := "isRay", desc := "(I)Z" } : Jvm.MethodName) prog_18_method_91_code (2 : Nat) (Option.some Jvm.ClassFile.FieldType.boolean)) ∈ lw_all := lw_g (lw_at lw_m9 174 rfl) rfl
theorem q2207 : (Jvm.Cond.methodLink "NotAtOnceModel" (360 : Nat) ({ cls := "NotAtOnceModel", name := "areSquare", desc := "(II)Z" } : Jvm.MethodName)) ∈ lw_all := lw_g (lw_at lw_m9 175 rfl) rfl
theorem q2208 : (Jvm.Cond.privateMethod ({ cls := "NotAtOnceModel", name := "areSquare", desc := "(II)Z" } : Jvm.MethodName)) ∈ lw_tbl := lw_at lw_m9 176 rfl
theorem q2209 : (Jvm.Cond.instanceMethod ({ cls := "NotAtOnceModel", name := "areSquare", desc := "(II)Z" } : Jvm.MethodName)) ∈ lw_all := lw_g (lw_at lw_m9 177 rfl) rfl
theorem q2210 : (Jvm.Cond.code ({ cls := "NotAtOnceModel", name := "areSquare", desc := "(II)Z" } : Jvm.MethodName) prog_18_method_90_code (5 : Nat) (Option.some Jvm.ClassFile.FieldType.boolean)) ∈ lw_all := lw_g (lw_at lw_m9 178 rfl) rfl
theorem q2212 : (Jvm.Cond.instanceMethod ({ cls := "NotAtOnceModel", name := "corners", desc := "()I" } : Jvm.MethodName)) ∈ lw_all := lw_g (lw_at lw_m9 180 rfl) rfl
theorem q2213 : (Jvm.Cond.selects "NotAtOnceModel" ({ cls := "NotAtOnceModel", name := "corners", desc := "()I" } : Jvm.MethodName) ({ cls := "NotAtOnceModel", name := "corners", desc := "()I" } : Jvm.MethodName)) ∈ lw_all := lw_g (lw_at lw_m9 181 rfl) rfl
theorem q2214 : (Jvm.Cond.code ({ cls := "NotAtOnceModel", name := "corners", desc := "()I" } : Jvm.MethodName) prog_18_method_94_code (1 : Nat) (Option.some Jvm.ClassFile.FieldType.int)) ∈ lw_all := lw_g (lw_at lw_m9 182 rfl) rfl
theorem q2215 : (Jvm.Cond.methodLink "NotAtOnceModel" (366 : Nat) ({ cls := "NotAtOnceModel", name := "layCorners", desc := "()V" } : Jvm.MethodName)) ∈ lw_all := lw_g (lw_at lw_m9 183 rfl) rfl
theorem q2216 : (Jvm.Cond.privateMethod ({ cls := "NotAtOnceModel", name := "layCorners", desc := "()V" } : Jvm.MethodName)) ∈ lw_tbl := lw_at lw_m9 184 rfl
theorem q2217 : (Jvm.Cond.instanceMethod ({ cls := "NotAtOnceModel", name := "layCorners", desc := "()V" } : Jvm.MethodName)) ∈ lw_all := lw_g (lw_at lw_m9 185 rfl) rfl
theorem q2218 : (Jvm.Cond.code ({ cls := "NotAtOnceModel", name := "layCorners", desc := "()V" } : Jvm.MethodName) prog_18_method_93_code (5 : Nat) (Option.none : Option Jvm.ClassFile.FieldType)) ∈ lw_all := lw_g (lw_at lw_m9 186 rfl) rfl
theorem q2220 : (Jvm.Cond.instanceMethod ({ cls := "NotAtOnceModel", name := "colours", desc := "()I" } : Jvm.MethodName)) ∈ lw_all := lw_g (lw_at lw_m9 188 rfl) rfl
theorem q2221 : (Jvm.Cond.selects "NotAtOnceModel" ({ cls := "NotAtOnceModel", name := "colours", desc := "()I" } : Jvm.MethodName) ({ cls := "NotAtOnceModel", name := "colours", desc := "()I" } : Jvm.MethodName)) ∈ lw_all := lw_g (lw_at lw_m9 189 rfl) rfl
theorem q2222 : (Jvm.Cond.code ({ cls := "NotAtOnceModel", name := "colours", desc := "()I" } : Jvm.MethodName) prog_18_method_99_code (1 : Nat) (Option.some Jvm.ClassFile.FieldType.int)) ∈ lw_all := lw_g (lw_at lw_m9 190 rfl) rfl
theorem q2223 : (Jvm.Cond.methodLink "NotAtOnceModel" (381 : Nat) ({ cls := "NotAtOnceModel", name := "allRays", desc := "()I" } : Jvm.MethodName)) ∈ lw_all := lw_g (lw_at lw_m9 191 rfl) rfl
theorem q2224 : (Jvm.Cond.privateMethod ({ cls := "NotAtOnceModel", name := "allRays", desc := "()I" } : Jvm.MethodName)) ∈ lw_tbl := lw_at lw_m9 192 rfl
theorem q2225 : (Jvm.Cond.instanceMethod ({ cls := "NotAtOnceModel", name := "allRays", desc := "()I" } : Jvm.MethodName)) ∈ lw_all := lw_g (lw_at lw_m9 193 rfl) rfl
theorem q2226 : (Jvm.Cond.code ({ cls := "NotAtOnceModel", name := "allRays", desc := "()I" } : Jvm.MethodName) prog_18_method_97_code (1 : Nat) (Option.some Jvm.ClassFile.FieldType.int)) ∈ lw_all := lw_g (lw_at lw_m9 194 rfl) rfl
theorem q2227 : (Jvm.Cond.constant "NotAtOnceModel" (384 : Nat) (1048576 : Int32)) ∈ lw_all := lw_g (lw_at lw_m9 195 rfl) rfl
theorem q2228 : (Jvm.Cond.methodLink "NotAtOnceModel" (378 : Nat) ({ cls := "NotAtOnceModel", name := "colou\x72", desc := "(II)V" } : Jvm.MethodName)) ∈ lw_all := lw_g (lw_at lw_m9 196 rfl) rfl
theorem q2229 : (Jvm.Cond.privateMethod ({ cls := "NotAtOnceModel", name := "colou\x72", desc := "(II)V" } : Jvm.MethodName)) ∈ lw_tbl := lw_at lw_m9 197 rfl
theorem q2230 : (Jvm.Cond.instanceMethod ({ cls := "NotAtOnceModel", name := "colou\x72", desc := "(II)V" } : Jvm.MethodName)) ∈ lw_all := lw_g (lw_at lw_m9 198 rfl) rfl
theorem q2231 : (Jvm.Cond.code ({ cls := "NotAtOnceModel", name := "colou\x72", desc := "(II)V" } : Jvm.MethodName) prog_18_method_96_code (9 : Nat) (Option.none : Option Jvm.ClassFile.FieldType)) ∈ lw_all := lw_g (lw_at lw_m9 199 rfl) rfl
theorem q2232 : (Jvm.Cond.methodLink "NotAtOnceModel" (375 : Nat) ({ cls := "NotAtOnceModel", name := "isSoFa\x72", desc := "(III)Z" } : Jvm.MethodName)) ∈ lw_all := lw_g (lw_at lw_m9 200 rfl) rfl
theorem q2233 : (Jvm.Cond.privateMethod ({ cls := "NotAtOnceModel", name := "isSoFa\x72", desc := "(III)Z" } : Jvm.MethodName)) ∈ lw_tbl := lw_at lw_m9 201 rfl
theorem q2234 : (Jvm.Cond.instanceMethod ({ cls := "NotAtOnceModel", name := "isSoFa\x72", desc := "(III)Z" } : Jvm.MethodName)) ∈ lw_all := lw_g (lw_at lw_m9 202 rfl) rfl
theorem q2235 : (Jvm.Cond.code ({ cls := "NotAtOnceModel", name := "isSoFa\x72", desc := "(III)Z" } : Jvm.MethodName) prog_18_method_95_code (8 : Nat) (Option.some Jvm.ClassFile.FieldType.boolean)) ∈ lw_all := lw_g (lw_at lw_m9 203 rfl) rfl
theorem q2237 : (Jvm.Cond.instanceMethod ({ cls := "NotAtOnceModel", name := "ones", desc := "()I" } : Jvm.MethodName)) ∈ lw_all := lw_g (lw_at lw_m9 205 rfl) rfl
theorem q2238 : (Jvm.Cond.selects "NotAtOnceModel" ({ cls := "NotAtOnceModel", name := "ones", desc := "()I" } : Jvm.MethodName) ({ cls := "NotAtOnceModel", name := "ones", desc := "()I" } : Jvm.MethodName)) ∈ lw_all := lw_g (lw_at lw_m9 206 rfl) rfl
theorem q2239 : (Jvm.Cond.code ({ cls := "NotAtOnceModel", name := "ones", desc := "()I" } : Jvm.MethodName) prog_18_method_100_code (1 : Nat) (Option.some Jvm.ClassFile.FieldType.int)) ∈ lw_all := lw_g (lw_at lw_m9 207 rfl) rfl
theorem q2241 : (Jvm.Cond.instanceMethod ({ cls := "NotAtOnceModel", name := "spare", desc := "()I" } : Jvm.MethodName)) ∈ lw_all := lw_g (lw_at lw_m9 209 rfl) rfl
theorem q2242 : (Jvm.Cond.selects "NotAtOnceModel" ({ cls := "NotAtOnceModel", name := "spare", desc := "()I" } : Jvm.MethodName) ({ cls := "NotAtOnceModel", name := "spare", desc := "()I" } : Jvm.MethodName)) ∈ lw_all := lw_g (lw_at lw_m9 210 rfl) rfl
theorem q2243 : (Jvm.Cond.code ({ cls := "NotAtOnceModel", name := "spare", desc := "()I" } : Jvm.MethodName) prog_18_method_101_code (3 : Nat) (Option.some Jvm.ClassFile.FieldType.int)) ∈ lw_all := lw_g (lw_at lw_m9 211 rfl) rfl
theorem q2244 : (Jvm.Cond.methodLink "NotAtOnceModel" (385 : Nat) ({ cls := "NotAtOnceModel", name := "hasColou\x72", desc := "(I)Z" } : Jvm.MethodName)) ∈ lw_all := lw_g (lw_at lw_m9 212 rfl) rfl
theorem q2245 : (Jvm.Cond.privateMethod ({ cls := "NotAtOnceModel", name := "hasColou\x72", desc := "(I)Z" } : Jvm.MethodName)) ∈ lw_tbl := lw_at lw_m9 213 rfl
theorem q2246 : (Jvm.Cond.instanceMethod ({ cls := "NotAtOnceModel", name := "hasColou\x72", desc := "(I)Z" } : Jvm.MethodName)) ∈ lw_all := lw_g (lw_at lw_m9 214 rfl) rfl
theorem q2247 : (Jvm.Cond.code ({ cls := "NotAtOnceModel", name := "hasColou\x72", desc := "(I)Z" } : Jvm.MethodName) prog_18_method_98_code (2 : Nat) (Option.some Jvm.ClassFile.FieldType.boolean)) ∈ lw_all := lw_g (lw_at lw_m9 215 rfl) rfl
theorem q2249 : (Jvm.Cond.instanceMethod ({ cls := "NotAtOnceModel", name := "critical", desc := "()I" } : Jvm.MethodName)) ∈ lw_all := lw_g (lw_at lw_m9 217 rfl) rfl
theorem q2250 : (Jvm.Cond.selects "NotAtOnceModel" ({ cls := "NotAtOnceModel", name := "critical", desc := "()I" } : Jvm.MethodName) ({ cls := "NotAtOnceModel", name := "critical", desc := "()I" } : Jvm.MethodName)) ∈ lw_all := lw_g (lw_at lw_m9 218 rfl) rfl
theorem q2251 : (Jvm.Cond.code ({ cls := "NotAtOnceModel", name := "critical", desc := "()I" } : Jvm.MethodName) prog_18_method_102_code (3 : Nat) (Option.some Jvm.ClassFile.FieldType.int)) ∈ lw_all := lw_g (lw_at lw_m9 219 rfl) rfl
theorem q2253 : (Jvm.Cond.instanceMethod ({ cls := "NotAtOnceModel", name := "memory", desc := "()I" } : Jvm.MethodName)) ∈ lw_all := lw_g (lw_at lw_m9 221 rfl) rfl
theorem q2254 : (Jvm.Cond.selects "NotAtOnceModel" ({ cls := "NotAtOnceModel", name := "memory", desc := "()I" } : Jvm.MethodName) ({ cls := "NotAtOnceModel", name := "memory", desc := "()I" } : Jvm.MethodName)) ∈ lw_all := lw_g (lw_at lw_m9 222 rfl) rfl
theorem q2255 : (Jvm.Cond.code ({ cls := "NotAtOnceModel", name := "memory", desc := "()I" } : Jvm.MethodName) prog_18_method_105_code (1 : Nat) (Option.some Jvm.ClassFile.FieldType.int)) ∈ lw_all := lw_g (lw_at lw_m9 223 rfl) rfl
theorem q2256 : (Jvm.Cond.methodLink "NotAtOnceModel" (392 : Nat) ({ cls := "NotAtOnceModel", name := "fewestStates", desc := "()I" } : Jvm.MethodName)) ∈ lw_all := lw_g (lw_at lw_m9 224 rfl) rfl
theorem q2257 : (Jvm.Cond.privateMethod ({ cls := "NotAtOnceModel", name := "fewestStates", desc := "()I" } : Jvm.MethodName)) ∈ lw_tbl := lw_at lw_m9 225 rfl
theorem q2258 : (Jvm.Cond.instanceMethod ({ cls := "NotAtOnceModel", name := "fewestStates", desc := "()I" } : Jvm.MethodName)) ∈ lw_all := lw_g (lw_at lw_m9 226 rfl) rfl
theorem q2259 : (Jvm.Cond.code ({ cls := "NotAtOnceModel", name := "fewestStates", desc := "()I" } : Jvm.MethodName) prog_18_method_104_code (3 : Nat) (Option.some Jvm.ClassFile.FieldType.int)) ∈ lw_all := lw_g (lw_at lw_m9 227 rfl) rfl
theorem q2260 : (Jvm.Cond.methodLink "NotAtOnceModel" (388 : Nat) ({ cls := "NotAtOnceModel", name := "tellsAll", desc := "(IIII)Z" } : Jvm.MethodName)) ∈ lw_all := lw_g (lw_at lw_m9 228 rfl) rfl
theorem q2261 : (Jvm.Cond.privateMethod ({ cls := "NotAtOnceModel", name := "tellsAll", desc := "(IIII)Z" } : Jvm.MethodName)) ∈ lw_tbl := lw_at lw_m9 229 rfl
theorem q2262 : (Jvm.Cond.instanceMethod ({ cls := "NotAtOnceModel", name := "tellsAll", desc := "(IIII)Z" } : Jvm.MethodName)) ∈ lw_all := lw_g (lw_at lw_m9 230 rfl) rfl
theorem q2263 : (Jvm.Cond.code ({ cls := "NotAtOnceModel", name := "tellsAll", desc := "(IIII)Z" } : Jvm.MethodName) prog_18_method_103_code (8 : Nat) (Option.some Jvm.ClassFile.FieldType.boolean)) ∈ lw_all := lw_g (lw_at lw_m9 231 rfl) rfl
theorem q2265 : (Jvm.Cond.instanceMethod ({ cls := "NotAtOnceModel", name := "machine", desc := "(IIZ)I" } : Jvm.MethodName)) ∈ lw_all := lw_g (lw_at lw_m9 233 rfl) rfl
theorem q2266 : (Jvm.Cond.selects "NotAtOnceModel" ({ cls := "NotAtOnceModel", name := "machine", desc := "(IIZ)I" } : Jvm.MethodName) ({ cls := "NotAtOnceModel", name := "machine", desc := "(IIZ)I" } : Jvm.MethodName)) ∈ lw_all := lw_g (lw_at lw_m9 234 rfl) rfl
theorem q2267 : (Jvm.Cond.code ({ cls := "NotAtOnceModel", name := "machine", desc := "(IIZ)I" } : Jvm.MethodName) prog_18_method_106_code (5 : Nat) (Option.some Jvm.ClassFile.FieldType.int)) ∈ lw_all := lw_g (lw_at lw_m9 235 rfl) rfl
theorem q2269 : (Jvm.Cond.instanceMethod ({ cls := "NotAtOnceModel", name := "flip", desc := "(I)Z" } : Jvm.MethodName)) ∈ lw_all := lw_g (lw_at lw_m9 237 rfl) rfl
theorem q2270 : (Jvm.Cond.selects "NotAtOnceModel" ({ cls := "NotAtOnceModel", name := "flip", desc := "(I)Z" } : Jvm.MethodName) ({ cls := "NotAtOnceModel", name := "flip", desc := "(I)Z" } : Jvm.MethodName)) ∈ lw_all := lw_g (lw_at lw_m9 238 rfl) rfl
theorem q2271 : (Jvm.Cond.code ({ cls := "NotAtOnceModel", name := "flip", desc := "(I)Z" } : Jvm.MethodName) prog_18_method_110_code (9 : Nat) (Option.some Jvm.ClassFile.FieldType.boolean)) ∈ lw_all := lw_g (lw_at lw_m9 239 rfl) rfl
theorem q2272 : (Jvm.Cond.methodLink "NotAtOnceModel" (399 : Nat) ({ cls := "NotAtOnceModel", name := "copy", desc := "([II[III)V" } : Jvm.MethodName)) ∈ lw_all := lw_g (lw_at lw_m10 0 rfl) rfl
theorem q2273 : (Jvm.Cond.static ({ cls := "NotAtOnceModel", name := "copy", desc := "([II[III)V" } : Jvm.MethodName)) ∈ lw_all := lw_g (lw_at lw_m10 1 rfl) rfl
theorem q2274 : (Jvm.Cond.code ({ cls := "NotAtOnceModel", name := "copy", desc := "([II[III)V" } : Jvm.MethodName) prog_18_method_107_code (6 : Nat) (Option.none : Option Jvm.ClassFile.FieldType)) ∈ lw_all := lw_g (lw_at lw_m10 2 rfl) rfl
theorem q2275 : (Jvm.Cond.methodLink "NotAtOnceModel" (403 : Nat) ({ cls := "NotAtOnceModel", name := "did", desc := "(IIIII)Z" } : Jvm.MethodName)) ∈ lw_all := lw_g (lw_at lw_m10 3 rfl) rfl
theorem q2276 : (Jvm.Cond.privateMethod ({ cls := "NotAtOnceModel", name := "did", desc := "(IIIII)Z" } : Jvm.MethodName)) ∈ lw_tbl := lw_at lw_m10 4 rfl
theorem q2277 : (Jvm.Cond.instanceMethod ({ cls := "NotAtOnceModel", name := "did", desc := "(IIIII)Z" } : Jvm.MethodName)) ∈ lw_all := lw_g (lw_at lw_m10 5 rfl) rfl
theorem q2278 : (Jvm.Cond.code ({ cls := "NotAtOnceModel", name := "did", desc := "(IIIII)Z" } : Jvm.MethodName) prog_18_method_108_code (6 : Nat) (Option.some Jvm.ClassFile.FieldType.boolean)) ∈ lw_all := lw_g (lw_at lw_m10 6 rfl) rfl
theorem q2279 : (Jvm.Cond.methodLink "NotAtOnceModel" (395 : Nat) ({ cls := "NotAtOnceModel", name := "keep", desc := "([I[II[IIIIII)V" } : Jvm.MethodName)) ∈ lw_all := lw_g (lw_at lw_m10 7 rfl) rfl
theorem q2280 : (Jvm.Cond.static ({ cls := "NotAtOnceModel", name := "keep", desc := "([I[II[IIIIII)V" } : Jvm.MethodName)) ∈ lw_all := lw_g (lw_at lw_m10 8 rfl) rfl
theorem q2281 : (Jvm.Cond.code ({ cls := "NotAtOnceModel", name := "keep", desc := "([I[II[IIIIII)V" } : Jvm.MethodName) prog_18_method_109_code (11 : Nat) (Option.none : Option Jvm.ClassFile.FieldType)) ∈ lw_all := lw_g (lw_at lw_m10 9 rfl) rfl
theorem q2283 : (Jvm.Cond.instanceMethod ({ cls := "NotAtOnceModel", name := "drop", desc := "(I)Z" } : Jvm.MethodName)) ∈ lw_all := lw_g (lw_at lw_m10 11 rfl) rfl
theorem q2284 : (Jvm.Cond.selects "NotAtOnceModel" ({ cls := "NotAtOnceModel", name := "drop", desc := "(I)Z" } : Jvm.MethodName) ({ cls := "NotAtOnceModel", name := "drop", desc := "(I)Z" } : Jvm.MethodName)) ∈ lw_all := lw_g (lw_at lw_m10 12 rfl) rfl
theorem q2285 : (Jvm.Cond.code ({ cls := "NotAtOnceModel", name := "drop", desc := "(I)Z" } : Jvm.MethodName) prog_18_method_112_code (2 : Nat) (Option.some Jvm.ClassFile.FieldType.boolean)) ∈ lw_all := lw_g (lw_at lw_m10 13 rfl) rfl
theorem q2286 : (Jvm.Cond.methodLink "NotAtOnceModel" (407 : Nat) ({ cls := "NotAtOnceModel", name := "goesAway", desc := "(I)V" } : Jvm.MethodName)) ∈ lw_all := lw_g (lw_at lw_m10 14 rfl) rfl
theorem q2287 : (Jvm.Cond.privateMethod ({ cls := "NotAtOnceModel", name := "goesAway", desc := "(I)V" } : Jvm.MethodName)) ∈ lw_tbl := lw_at lw_m10 15 rfl
theorem q2288 : (Jvm.Cond.instanceMethod ({ cls := "NotAtOnceModel", name := "goesAway", desc := "(I)V" } : Jvm.MethodName)) ∈ lw_all := lw_g (lw_at lw_m10 16 rfl) rfl
theorem q2289 : (Jvm.Cond.code ({ cls := "NotAtOnceModel", name := "goesAway", desc := "(I)V" } : Jvm.MethodName) prog_18_method_111_code (4 : Nat) (Option.none : Option Jvm.ClassFile.FieldType)) ∈ lw_all := lw_g (lw_at lw_m10 17 rfl) rfl
theorem q2291 : (Jvm.Cond.instanceMethod ({ cls := "NotAtOnceModel", name := "forget", desc := "(I)Z" } : Jvm.MethodName)) ∈ lw_all := lw_g (lw_at lw_m10 19 rfl) rfl
theorem q2292 : (Jvm.Cond.selects "NotAtOnceModel" ({ cls := "NotAtOnceModel", name := "forget", desc := "(I)Z" } : Jvm.MethodName) ({ cls := "NotAtOnceModel", name := "forget", desc := "(I)Z" } : Jvm.MethodName)) ∈ lw_all := lw_g (lw_at lw_m10 20 rfl) rfl
theorem q2293 : (Jvm.Cond.code ({ cls := "NotAtOnceModel", name := "forget", desc := "(I)Z" } : Jvm.MethodName) prog_18_method_113_code (9 : Nat) (Option.some Jvm.ClassFile.FieldType.boolean)) ∈ lw_all := lw_g (lw_at lw_m10 21 rfl) rfl
theorem q2295 : (Jvm.Cond.instanceMethod ({ cls := "NotAtOnceModel", name := "shift", desc := "(IIII)Z" } : Jvm.MethodName)) ∈ lw_all := lw_g (lw_at lw_m10 23 rfl) rfl
theorem q2296 : (Jvm.Cond.selects "NotAtOnceModel" ({ cls := "NotAtOnceModel", name := "shift", desc := "(IIII)Z" } : Jvm.MethodName) ({ cls := "NotAtOnceModel", name := "shift", desc := "(IIII)Z" } : Jvm.MethodName)) ∈ lw_all := lw_g (lw_at lw_m10 24 rfl) rfl
theorem q2297 : (Jvm.Cond.code ({ cls := "NotAtOnceModel", name := "shift", desc := "(IIII)Z" } : Jvm.MethodName) prog_18_method_114_code (5 : Nat) (Option.some Jvm.ClassFile.FieldType.boolean)) ∈ lw_all := lw_g (lw_at lw_m10 25 rfl) rfl
theorem q2299 : (Jvm.Cond.instanceMethod ({ cls := "NotAtOnceModel", name := "undo", desc := "()Z" } : Jvm.MethodName)) ∈ lw_all := lw_g (lw_at lw_m10 27 rfl) rfl
theorem q2300 : (Jvm.Cond.selects "NotAtOnceModel" ({ cls := "NotAtOnceModel", name := "undo", desc := "()Z" } : Jvm.MethodName) ({ cls := "NotAtOnceModel", name := "undo", desc := "()Z" } : Jvm.MethodName)) ∈ lw_all := lw_g (lw_at lw_m10 28 rfl) rfl
theorem q2301 : (Jvm.Cond.code ({ cls := "NotAtOnceModel", name := "undo", desc := "()Z" } : Jvm.MethodName) prog_18_method_115_code (2 : Nat) (Option.some Jvm.ClassFile.FieldType.boolean)) ∈ lw_all := lw_g (lw_at lw_m10 29 rfl) rfl
theorem q2303 : (Jvm.Cond.instanceMethod ({ cls := "NotAtOnceModel", name := "redo", desc := "()Z" } : Jvm.MethodName)) ∈ lw_all := lw_g (lw_at lw_m10 31 rfl) rfl
theorem q2304 : (Jvm.Cond.selects "NotAtOnceModel" ({ cls := "NotAtOnceModel", name := "redo", desc := "()Z" } : Jvm.MethodName) ({ cls := "NotAtOnceModel", name := "redo", desc := "()Z" } : Jvm.MethodName)) ∈ lw_all := lw_g (lw_at lw_m10 32 rfl) rfl
theorem q2305 : (Jvm.Cond.code ({ cls := "NotAtOnceModel", name := "redo", desc := "()Z" } : Jvm.MethodName) prog_18_method_116_code (2 : Nat) (Option.some Jvm.ClassFile.FieldType.boolean)) ∈ lw_all := lw_g (lw_at lw_m10 33 rfl) rfl
theorem q2307 : (Jvm.Cond.instanceMethod ({ cls := "NotAtOnceModel", name := "mark", desc := "()I" } : Jvm.MethodName)) ∈ lw_all := lw_g (lw_at lw_m10 35 rfl) rfl
theorem q2308 : (Jvm.Cond.selects "NotAtOnceModel" ({ cls := "NotAtOnceModel", name := "mark", desc := "()I" } : Jvm.MethodName) ({ cls := "NotAtOnceModel", name := "mark", desc := "()I" } : Jvm.MethodName)) ∈ lw_all := lw_g (lw_at lw_m10 36 rfl) rfl
theorem q2309 : (Jvm.Cond.code ({ cls := "NotAtOnceModel", name := "mark", desc := "()I" } : Jvm.MethodName) prog_18_method_117_code (1 : Nat) (Option.some Jvm.ClassFile.FieldType.int)) ∈ lw_all := lw_g (lw_at lw_m10 37 rfl) rfl
theorem q2311 : (Jvm.Cond.instanceMethod ({ cls := "NotAtOnceModel", name := "back", desc := "(I)Z" } : Jvm.MethodName)) ∈ lw_all := lw_g (lw_at lw_m10 39 rfl) rfl
theorem q2312 : (Jvm.Cond.selects "NotAtOnceModel" ({ cls := "NotAtOnceModel", name := "back", desc := "(I)Z" } : Jvm.MethodName) ({ cls := "NotAtOnceModel", name := "back", desc := "(I)Z" } : Jvm.MethodName)) ∈ lw_all := lw_g (lw_at lw_m10 40 rfl) rfl
theorem q2313 : (Jvm.Cond.code ({ cls := "NotAtOnceModel", name := "back", desc := "(I)Z" } : Jvm.MethodName) prog_18_method_118_code (2 : Nat) (Option.some Jvm.ClassFile.FieldType.boolean)) ∈ lw_all := lw_g (lw_at lw_m10 41 rfl) rfl
theorem q2315 : (Jvm.Cond.instanceMethod ({ cls := "NotAtOnceModel", name := "act", desc := "(II)I" } : Jvm.MethodName)) ∈ lw_all := lw_g (lw_at lw_m10 43 rfl) rfl
theorem q2316 : (Jvm.Cond.selects "NotAtOnceModel" ({ cls := "NotAtOnceModel", name := "act", desc := "(II)I" } : Jvm.MethodName) ({ cls := "NotAtOnceModel", name := "act", desc := "(II)I" } : Jvm.MethodName)) ∈ lw_all := lw_g (lw_at lw_m10 44 rfl) rfl
theorem q2317 : (Jvm.Cond.code ({ cls := "NotAtOnceModel", name := "act", desc := "(II)I" } : Jvm.MethodName) prog_18_method_119_code (3 : Nat) (Option.some Jvm.ClassFile.FieldType.int)) ∈ lw_all := lw_g (lw_at lw_m10 45 rfl) rfl
theorem q2319 : (Jvm.Cond.instanceMethod ({ cls := "NotAtOnceModel", name := "times", desc := "(II)I" } : Jvm.MethodName)) ∈ lw_all := lw_g (lw_at lw_m10 47 rfl) rfl
theorem q2320 : (Jvm.Cond.selects "NotAtOnceModel" ({ cls := "NotAtOnceModel", name := "times", desc := "(II)I" } : Jvm.MethodName) ({ cls := "NotAtOnceModel", name := "times", desc := "(II)I" } : Jvm.MethodName)) ∈ lw_all := lw_g (lw_at lw_m10 48 rfl) rfl
theorem q2321 : (Jvm.Cond.code ({ cls := "NotAtOnceModel", name := "times", desc := "(II)I" } : Jvm.MethodName) prog_18_method_120_code (3 : Nat) (Option.some Jvm.ClassFile.FieldType.int)) ∈ lw_all := lw_g (lw_at lw_m10 49 rfl) rfl
theorem q2323 : (Jvm.Cond.instanceMethod ({ cls := "NotAtOnceModel", name := "look", desc := "(IZ)I" } : Jvm.MethodName)) ∈ lw_all := lw_g (lw_at lw_m10 51 rfl) rfl
theorem q2324 : (Jvm.Cond.selects "NotAtOnceModel" ({ cls := "NotAtOnceModel", name := "look", desc := "(IZ)I" } : Jvm.MethodName) ({ cls := "NotAtOnceModel", name := "look", desc := "(IZ)I" } : Jvm.MethodName)) ∈ lw_all := lw_g (lw_at lw_m10 52 rfl) rfl
theorem q2325 : (Jvm.Cond.code ({ cls := "NotAtOnceModel", name := "look", desc := "(IZ)I" } : Jvm.MethodName) prog_18_method_121_code (3 : Nat) (Option.some Jvm.ClassFile.FieldType.int)) ∈ lw_all := lw_g (lw_at lw_m10 53 rfl) rfl
theorem q2327 : (Jvm.Cond.instanceMethod ({ cls := "NotAtOnceModel", name := "coins", desc := "(II)I" } : Jvm.MethodName)) ∈ lw_all := lw_g (lw_at lw_m10 55 rfl) rfl
theorem q2328 : (Jvm.Cond.selects "NotAtOnceModel" ({ cls := "NotAtOnceModel", name := "coins", desc := "(II)I" } : Jvm.MethodName) ({ cls := "NotAtOnceModel", name := "coins", desc := "(II)I" } : Jvm.MethodName)) ∈ lw_all := lw_g (lw_at lw_m10 56 rfl) rfl
theorem q2329 : (Jvm.Cond.code ({ cls := "NotAtOnceModel", name := "coins", desc := "(II)I" } : Jvm.MethodName) prog_18_method_122_code (3 : Nat) (Option.some Jvm.ClassFile.FieldType.int)) ∈ lw_all := lw_g (lw_at lw_m10 57 rfl) rfl
theorem q2331 : (Jvm.Cond.instanceMethod ({ cls := "NotAtOnceModel", name := "led", desc := "(I)I" } : Jvm.MethodName)) ∈ lw_all := lw_g (lw_at lw_m10 59 rfl) rfl
theorem q2332 : (Jvm.Cond.selects "NotAtOnceModel" ({ cls := "NotAtOnceModel", name := "led", desc := "(I)I" } : Jvm.MethodName) ({ cls := "NotAtOnceModel", name := "led", desc := "(I)I" } : Jvm.MethodName)) ∈ lw_all := lw_g (lw_at lw_m10 60 rfl) rfl
theorem q2333 : (Jvm.Cond.code ({ cls := "NotAtOnceModel", name := "led", desc := "(I)I" } : Jvm.MethodName) prog_18_method_123_code (5 : Nat) (Option.some Jvm.ClassFile.FieldType.int)) ∈ lw_all := lw_g (lw_at lw_m10 61 rfl) rfl
theorem q2335 : (Jvm.Cond.instanceMethod ({ cls := "NotAtOnceModel", name := "size", desc := "(I)I" } : Jvm.MethodName)) ∈ lw_all := lw_g (lw_at lw_m10 63 rfl) rfl
theorem q2336 : (Jvm.Cond.selects "NotAtOnceModel" ({ cls := "NotAtOnceModel", name := "size", desc := "(I)I" } : Jvm.MethodName) ({ cls := "NotAtOnceModel", name := "size", desc := "(I)I" } : Jvm.MethodName)) ∈ lw_all := lw_g (lw_at lw_m10 64 rfl) rfl
theorem q2337 : (Jvm.Cond.code ({ cls := "NotAtOnceModel", name := "size", desc := "(I)I" } : Jvm.MethodName) prog_18_method_124_code (2 : Nat) (Option.some Jvm.ClassFile.FieldType.int)) ∈ lw_all := lw_g (lw_at lw_m10 65 rfl) rfl
theorem q2339 : (Jvm.Cond.instanceMethod ({ cls := "NotAtOnceModel", name := "trouble", desc := "()I" } : Jvm.MethodName)) ∈ lw_all := lw_g (lw_at lw_m10 67 rfl) rfl
theorem q2340 : (Jvm.Cond.selects "NotAtOnceModel" ({ cls := "NotAtOnceModel", name := "trouble", desc := "()I" } : Jvm.MethodName) ({ cls := "NotAtOnceModel", name := "trouble", desc := "()I" } : Jvm.MethodName)) ∈ lw_all := lw_g (lw_at lw_m10 68 rfl) rfl
theorem q2341 : (Jvm.Cond.code ({ cls := "NotAtOnceModel", name := "trouble", desc := "()I" } : Jvm.MethodName) prog_18_method_125_code (1 : Nat) (Option.some Jvm.ClassFile.FieldType.int)) ∈ lw_all := lw_g (lw_at lw_m10 69 rfl) rfl
theorem q2353 : (Jvm.Cond.castable "NotAtOnceModel" "java/lang/Object") ∈ lw_tbl := lw_at lw_m10 81 rfl
theorem in_X3 : ∀ w ∈ wsX30, w ∈ lw_all := lw_in wsX30 [1743, 1745, 1747, 1749, 1751, 1753, 1755, 1757, 1759, 1761, 1763, 1765, 1767, 1769, 1771, 1773, 1775, 1777, 1779, 1781, 1783, 1785, 1787, 1789, 1791, 1793, 1795, 1797, 1799, 1801, 1803, 1805, 1807, 1809, 1811, 1813, 1815, 1817, 1819, 1821] (by decide +kernel) (by decide +kernel)
