/-! NotAtOnce -/
set_option maxRecDepth 100000
def RX1 : String := "NotAtOnce"
def TX1 : u_T := fun k => match k with
  | 0 => ("NotAtOnce", "tape", "[B", true)
  | 1 => ("NotAtOnce", "taped", "I", false)
  | 2 => ("NotAtOnce", "fault", "I", false)
  | 3 => ("NotAtOnce", "where", "I", false)
  | 4 => ("NotAtOnce", "trouble", "I", false)
  | 5 => ("NotAtOnce", "book", "LNotAtOnce$Book;", false)
  | 6 => ("NotAtOnce", "table", "LNotAtOnce$Table;", false)
  | 7 => ("NotAtOnce", "program", "LNotAtOnce$Program;", true)
  | 8 => ("NotAtOnce", "past", "Ljava/util/ArrayList;", true)
  | 9 => ("NotAtOnce", "future", "Ljava/util/ArrayList;", true)
  | _ => ("NotAtOnce", "marks", "Ljava/util/ArrayList;", true)
def tyX1 : Nat → FieldType := fun k => match k with
  | 0 => .array .byte
  | 1 => .int
  | 2 => .int
  | 3 => .int
  | 4 => .int
  | 5 => .object "NotAtOnce$Book"
  | 6 => .object "NotAtOnce$Table"
  | 7 => .object "NotAtOnce$Program"
  | 8 => .object "java/util/ArrayList"
  | 9 => .object "java/util/ArrayList"
  | _ => .object "java/util/ArrayList"
abbrev wsX10 : List Cond := u_ws RX1 TX1 11
theorem nmX1 : ∀ a, a < 11 → ∀ b, b < 11 → a ≠ b → (TX1 a).2.1 ≠ (TX1 b).2.1 := by decide +kernel
theorem tyX1_ok : ∀ k, k < 11 → parseFieldDescriptor (TX1 k).2.2.1 = some (tyX1 k) := by decide +kernel
abbrev cX1_init : ByteArray := prog_1_method_1_code
def yX1_init : MethodName := ⟨RX1, "<init>", "()V"⟩
def dkwX1_init_2 : List UInt8 := [183, 0, 26, 181, 0, 31, 42, 187, 0, 24, 89, 183, 0, 26, 181, 0, 34, 177]
abbrev dktX1_init_2 : List UInt8 := dkwX1_init_2 ++ []
def dkwX1_init_1 : List UInt8 := [183, 0, 19, 181, 0, 20, 42, 187, 0, 24, 89, 183, 0, 26, 181, 0, 27, 42, 187, 0, 24, 89]
abbrev dktX1_init_1 : List UInt8 := dkwX1_init_1 ++ dktX1_init_2
def dkwX1_init_0 : List UInt8 := [42, 183, 0, 1, 42, 17, 3, 132, 188, 8, 181, 0, 9, 42, 2, 181, 0, 13, 42, 187, 0, 17, 89]
abbrev dktX1_init_0 : List UInt8 := dkwX1_init_0 ++ dktX1_init_1
theorem dksX1_init_0 : cX1_init.data.toList.drop 0 = dktX1_init_0 := by decide +kernel
theorem dksX1_init_1 : cX1_init.data.toList.drop 23 = dktX1_init_1 := dk_seg dksX1_init_0 23 rfl rfl
theorem dksX1_init_2 : cX1_init.data.toList.drop 45 = dktX1_init_2 := dk_seg dksX1_init_1 22 rfl rfl
theorem dX1_init_0 : decode cX1_init 0 = .ok (.aload_n 0, 1) := dk_42 (dk_at dksX1_init_0 0 rfl rfl)
theorem dX1_init_1 : decode cX1_init 1 = .ok (.invokespecial 1, 3) := dk_183 0 1 (dk_at dksX1_init_0 1 rfl rfl)
theorem dX1_init_4 : decode cX1_init 4 = .ok (.aload_n 0, 1) := dk_42 (dk_at dksX1_init_0 4 rfl rfl)
theorem dX1_init_5 : decode cX1_init 5 = .ok (.sipush 900, 3) := dk_17 3 132 (dk_at dksX1_init_0 5 rfl rfl)
theorem dX1_init_8 : decode cX1_init 8 = .ok (.newarray .byte, 2) := dk_188_8 (dk_at dksX1_init_0 8 rfl rfl)
theorem dX1_init_10 : decode cX1_init 10 = .ok (.putfield 9, 3) := dk_181 0 9 (dk_at dksX1_init_0 10 rfl rfl)
theorem dX1_init_13 : decode cX1_init 13 = .ok (.aload_n 0, 1) := dk_42 (dk_at dksX1_init_0 13 rfl rfl)
theorem dX1_init_14 : decode cX1_init 14 = .ok (.iconst (-1), 1) := dk_2 (dk_at dksX1_init_0 14 rfl rfl)
theorem dX1_init_15 : decode cX1_init 15 = .ok (.putfield 13, 3) := dk_181 0 13 (dk_at dksX1_init_0 15 rfl rfl)
theorem dX1_init_18 : decode cX1_init 18 = .ok (.aload_n 0, 1) := dk_42 (dk_at dksX1_init_0 18 rfl rfl)
theorem dX1_init_19 : decode cX1_init 19 = .ok (.new 17, 3) := dk_187 0 17 (dk_at dksX1_init_0 19 rfl rfl)
theorem dX1_init_22 : decode cX1_init 22 = .ok (.dup, 1) := dk_89 (dk_at dksX1_init_0 22 rfl rfl)
theorem dX1_init_23 : decode cX1_init 23 = .ok (.invokespecial 19, 3) := dk_183 0 19 (dk_at dksX1_init_1 0 rfl rfl)
theorem dX1_init_26 : decode cX1_init 26 = .ok (.putfield 20, 3) := dk_181 0 20 (dk_at dksX1_init_1 3 rfl rfl)
theorem dX1_init_29 : decode cX1_init 29 = .ok (.aload_n 0, 1) := dk_42 (dk_at dksX1_init_1 6 rfl rfl)
theorem dX1_init_30 : decode cX1_init 30 = .ok (.new 24, 3) := dk_187 0 24 (dk_at dksX1_init_1 7 rfl rfl)
theorem dX1_init_33 : decode cX1_init 33 = .ok (.dup, 1) := dk_89 (dk_at dksX1_init_1 10 rfl rfl)
theorem dX1_init_34 : decode cX1_init 34 = .ok (.invokespecial 26, 3) := dk_183 0 26 (dk_at dksX1_init_1 11 rfl rfl)
theorem dX1_init_37 : decode cX1_init 37 = .ok (.putfield 27, 3) := dk_181 0 27 (dk_at dksX1_init_1 14 rfl rfl)
theorem dX1_init_40 : decode cX1_init 40 = .ok (.aload_n 0, 1) := dk_42 (dk_at dksX1_init_1 17 rfl rfl)
theorem dX1_init_41 : decode cX1_init 41 = .ok (.new 24, 3) := dk_187 0 24 (dk_at dksX1_init_1 18 rfl rfl)
theorem dX1_init_44 : decode cX1_init 44 = .ok (.dup, 1) := dk_89 (dk_at dksX1_init_1 21 rfl rfl)
theorem dX1_init_45 : decode cX1_init 45 = .ok (.invokespecial 26, 3) := dk_183 0 26 (dk_at dksX1_init_2 0 rfl rfl)
theorem dX1_init_48 : decode cX1_init 48 = .ok (.putfield 31, 3) := dk_181 0 31 (dk_at dksX1_init_2 3 rfl rfl)
theorem dX1_init_51 : decode cX1_init 51 = .ok (.aload_n 0, 1) := dk_42 (dk_at dksX1_init_2 6 rfl rfl)
theorem dX1_init_52 : decode cX1_init 52 = .ok (.new 24, 3) := dk_187 0 24 (dk_at dksX1_init_2 7 rfl rfl)
theorem dX1_init_55 : decode cX1_init 55 = .ok (.dup, 1) := dk_89 (dk_at dksX1_init_2 10 rfl rfl)
theorem dX1_init_56 : decode cX1_init 56 = .ok (.invokespecial 26, 3) := dk_183 0 26 (dk_at dksX1_init_2 11 rfl rfl)
theorem dX1_init_59 : decode cX1_init 59 = .ok (.putfield 34, 3) := dk_181 0 34 (dk_at dksX1_init_2 14 rfl rfl)
theorem dX1_init_62 : decode cX1_init 62 = .ok (.return_, 1) := dk_177 (dk_at dksX1_init_2 17 rfl rfl)
abbrev cX1_feed : ByteArray := prog_1_method_10_code
def yX1_feed : MethodName := ⟨RX1, "feed", "(IIIII)I"⟩
def dkwX1_feed_5 : List UInt8 := [180, 0, 47, 172]
abbrev dktX1_feed_5 : List UInt8 := dkwX1_feed_5 ++ []
def dkwX1_feed_4 : List UInt8 := [112, 104, 100, 124, 145, 84, 132, 6, 1, 167, 255, 172, 42, 89, 180, 0, 47, 16, 20, 96, 181, 0, 47, 42]
abbrev dktX1_feed_4 : List UInt8 := dkwX1_feed_4 ++ dktX1_feed_5
def dkwX1_feed_3 : List UInt8 := [21, 5, 54, 7, 42, 180, 0, 9, 42, 180, 0, 47, 21, 6, 96, 21, 7, 16, 24, 16, 8, 21, 6, 7]
abbrev dktX1_feed_3 : List UInt8 := dkwX1_feed_3 ++ dktX1_feed_4
def dkwX1_feed_2 : List UInt8 := [21, 6, 16, 12, 162, 0, 7, 29, 167, 0, 17, 21, 6, 16, 16, 162, 0, 8, 21, 4, 167, 0, 5]
abbrev dktX1_feed_2 : List UInt8 := dkwX1_feed_2 ++ dktX1_feed_3
def dkwX1_feed_1 : List UInt8 := [162, 0, 83, 21, 6, 7, 162, 0, 7, 27, 167, 0, 39, 21, 6, 16, 8, 162, 0, 7, 28, 167, 0, 28]
abbrev dktX1_feed_1 : List UInt8 := dkwX1_feed_1 ++ dktX1_feed_2
def dkwX1_feed_0 : List UInt8 := [42, 180, 0, 47, 16, 20, 96, 17, 3, 132, 164, 0, 5, 2, 172, 3, 54, 6, 21, 6, 16, 20]
abbrev dktX1_feed_0 : List UInt8 := dkwX1_feed_0 ++ dktX1_feed_1
theorem dksX1_feed_0 : cX1_feed.data.toList.drop 0 = dktX1_feed_0 := by decide +kernel
theorem dksX1_feed_1 : cX1_feed.data.toList.drop 22 = dktX1_feed_1 := dk_seg dksX1_feed_0 22 rfl rfl
theorem dksX1_feed_2 : cX1_feed.data.toList.drop 46 = dktX1_feed_2 := dk_seg dksX1_feed_1 24 rfl rfl
theorem dksX1_feed_3 : cX1_feed.data.toList.drop 69 = dktX1_feed_3 := dk_seg dksX1_feed_2 23 rfl rfl
theorem dksX1_feed_4 : cX1_feed.data.toList.drop 93 = dktX1_feed_4 := dk_seg dksX1_feed_3 24 rfl rfl
theorem dksX1_feed_5 : cX1_feed.data.toList.drop 117 = dktX1_feed_5 := dk_seg dksX1_feed_4 24 rfl rfl
theorem dX1_feed_0 : decode cX1_feed 0 = .ok (.aload_n 0, 1) := dk_42 (dk_at dksX1_feed_0 0 rfl rfl)
theorem dX1_feed_1 : decode cX1_feed 1 = .ok (.getfield 47, 3) := dk_180 0 47 (dk_at dksX1_feed_0 1 rfl rfl)
theorem dX1_feed_4 : decode cX1_feed 4 = .ok (.bipush 20, 2) := dk_16 20 (dk_at dksX1_feed_0 4 rfl rfl)
theorem dX1_feed_6 : decode cX1_feed 6 = .ok (.iadd, 1) := dk_96 (dk_at dksX1_feed_0 6 rfl rfl)
theorem dX1_feed_7 : decode cX1_feed 7 = .ok (.sipush 900, 3) := dk_17 3 132 (dk_at dksX1_feed_0 7 rfl rfl)
theorem dX1_feed_10 : decode cX1_feed 10 = .ok (.if_icmp .le 5, 3) := dk_164 0 5 (dk_at dksX1_feed_0 10 rfl rfl)
theorem dX1_feed_13 : decode cX1_feed 13 = .ok (.iconst (-1), 1) := dk_2 (dk_at dksX1_feed_0 13 rfl rfl)
theorem dX1_feed_14 : decode cX1_feed 14 = .ok (.ireturn, 1) := dk_172 (dk_at dksX1_feed_0 14 rfl rfl)
theorem dX1_feed_15 : decode cX1_feed 15 = .ok (.iconst 0, 1) := dk_3 (dk_at dksX1_feed_0 15 rfl rfl)
theorem dX1_feed_16 : decode cX1_feed 16 = .ok (.istore 6, 2) := dk_54 6 (dk_at dksX1_feed_0 16 rfl rfl)
theorem dX1_feed_18 : decode cX1_feed 18 = .ok (.iload 6, 2) := dk_21 6 (dk_at dksX1_feed_0 18 rfl rfl)
theorem dX1_feed_20 : decode cX1_feed 20 = .ok (.bipush 20, 2) := dk_16 20 (dk_at dksX1_feed_0 20 rfl rfl)
theorem dX1_feed_22 : decode cX1_feed 22 = .ok (.if_icmp .ge 83, 3) := dk_162 0 83 (dk_at dksX1_feed_1 0 rfl rfl)
theorem dX1_feed_25 : decode cX1_feed 25 = .ok (.iload 6, 2) := dk_21 6 (dk_at dksX1_feed_1 3 rfl rfl)
theorem dX1_feed_27 : decode cX1_feed 27 = .ok (.iconst 4, 1) := dk_7 (dk_at dksX1_feed_1 5 rfl rfl)
theorem dX1_feed_28 : decode cX1_feed 28 = .ok (.if_icmp .ge 7, 3) := dk_162 0 7 (dk_at dksX1_feed_1 6 rfl rfl)
theorem dX1_feed_31 : decode cX1_feed 31 = .ok (.iload_n 1, 1) := dk_27 (dk_at dksX1_feed_1 9 rfl rfl)
theorem dX1_feed_32 : decode cX1_feed 32 = .ok (.goto 39, 3) := dk_167 0 39 (dk_at dksX1_feed_1 10 rfl rfl)
theorem dX1_feed_35 : decode cX1_feed 35 = .ok (.iload 6, 2) := dk_21 6 (dk_at dksX1_feed_1 13 rfl rfl)
theorem dX1_feed_37 : decode cX1_feed 37 = .ok (.bipush 8, 2) := dk_16 8 (dk_at dksX1_feed_1 15 rfl rfl)
theorem dX1_feed_39 : decode cX1_feed 39 = .ok (.if_icmp .ge 7, 3) := dk_162 0 7 (dk_at dksX1_feed_1 17 rfl rfl)
theorem dX1_feed_42 : decode cX1_feed 42 = .ok (.iload_n 2, 1) := dk_28 (dk_at dksX1_feed_1 20 rfl rfl)
theorem dX1_feed_43 : decode cX1_feed 43 = .ok (.goto 28, 3) := dk_167 0 28 (dk_at dksX1_feed_1 21 rfl rfl)
theorem dX1_feed_46 : decode cX1_feed 46 = .ok (.iload 6, 2) := dk_21 6 (dk_at dksX1_feed_2 0 rfl rfl)
theorem dX1_feed_48 : decode cX1_feed 48 = .ok (.bipush 12, 2) := dk_16 12 (dk_at dksX1_feed_2 2 rfl rfl)
theorem dX1_feed_50 : decode cX1_feed 50 = .ok (.if_icmp .ge 7, 3) := dk_162 0 7 (dk_at dksX1_feed_2 4 rfl rfl)
theorem dX1_feed_53 : decode cX1_feed 53 = .ok (.iload_n 3, 1) := dk_29 (dk_at dksX1_feed_2 7 rfl rfl)
theorem dX1_feed_54 : decode cX1_feed 54 = .ok (.goto 17, 3) := dk_167 0 17 (dk_at dksX1_feed_2 8 rfl rfl)
theorem dX1_feed_57 : decode cX1_feed 57 = .ok (.iload 6, 2) := dk_21 6 (dk_at dksX1_feed_2 11 rfl rfl)
theorem dX1_feed_59 : decode cX1_feed 59 = .ok (.bipush 16, 2) := dk_16 16 (dk_at dksX1_feed_2 13 rfl rfl)
theorem dX1_feed_61 : decode cX1_feed 61 = .ok (.if_icmp .ge 8, 3) := dk_162 0 8 (dk_at dksX1_feed_2 15 rfl rfl)
theorem dX1_feed_64 : decode cX1_feed 64 = .ok (.iload 4, 2) := dk_21 4 (dk_at dksX1_feed_2 18 rfl rfl)
theorem dX1_feed_66 : decode cX1_feed 66 = .ok (.goto 5, 3) := dk_167 0 5 (dk_at dksX1_feed_2 20 rfl rfl)
theorem dX1_feed_69 : decode cX1_feed 69 = .ok (.iload 5, 2) := dk_21 5 (dk_at dksX1_feed_3 0 rfl rfl)
theorem dX1_feed_71 : decode cX1_feed 71 = .ok (.istore 7, 2) := dk_54 7 (dk_at dksX1_feed_3 2 rfl rfl)
theorem dX1_feed_73 : decode cX1_feed 73 = .ok (.aload_n 0, 1) := dk_42 (dk_at dksX1_feed_3 4 rfl rfl)
theorem dX1_feed_74 : decode cX1_feed 74 = .ok (.getfield 9, 3) := dk_180 0 9 (dk_at dksX1_feed_3 5 rfl rfl)
theorem dX1_feed_77 : decode cX1_feed 77 = .ok (.aload_n 0, 1) := dk_42 (dk_at dksX1_feed_3 8 rfl rfl)
theorem dX1_feed_78 : decode cX1_feed 78 = .ok (.getfield 47, 3) := dk_180 0 47 (dk_at dksX1_feed_3 9 rfl rfl)
theorem dX1_feed_81 : decode cX1_feed 81 = .ok (.iload 6, 2) := dk_21 6 (dk_at dksX1_feed_3 12 rfl rfl)
theorem dX1_feed_83 : decode cX1_feed 83 = .ok (.iadd, 1) := dk_96 (dk_at dksX1_feed_3 14 rfl rfl)
theorem dX1_feed_84 : decode cX1_feed 84 = .ok (.iload 7, 2) := dk_21 7 (dk_at dksX1_feed_3 15 rfl rfl)
theorem dX1_feed_86 : decode cX1_feed 86 = .ok (.bipush 24, 2) := dk_16 24 (dk_at dksX1_feed_3 17 rfl rfl)
theorem dX1_feed_88 : decode cX1_feed 88 = .ok (.bipush 8, 2) := dk_16 8 (dk_at dksX1_feed_3 19 rfl rfl)
theorem dX1_feed_90 : decode cX1_feed 90 = .ok (.iload 6, 2) := dk_21 6 (dk_at dksX1_feed_3 21 rfl rfl)
theorem dX1_feed_92 : decode cX1_feed 92 = .ok (.iconst 4, 1) := dk_7 (dk_at dksX1_feed_3 23 rfl rfl)
theorem dX1_feed_93 : decode cX1_feed 93 = .ok (.irem, 1) := dk_112 (dk_at dksX1_feed_4 0 rfl rfl)
theorem dX1_feed_94 : decode cX1_feed 94 = .ok (.imul, 1) := dk_104 (dk_at dksX1_feed_4 1 rfl rfl)
theorem dX1_feed_95 : decode cX1_feed 95 = .ok (.isub, 1) := dk_100 (dk_at dksX1_feed_4 2 rfl rfl)
theorem dX1_feed_96 : decode cX1_feed 96 = .ok (.iushr, 1) := dk_124 (dk_at dksX1_feed_4 3 rfl rfl)
theorem dX1_feed_97 : decode cX1_feed 97 = .ok (.i2b, 1) := dk_145 (dk_at dksX1_feed_4 4 rfl rfl)
theorem dX1_feed_98 : decode cX1_feed 98 = .ok (.bastore, 1) := dk_84 (dk_at dksX1_feed_4 5 rfl rfl)
theorem dX1_feed_99 : decode cX1_feed 99 = .ok (.iinc 6 1, 3) := dk_132 6 1 (dk_at dksX1_feed_4 6 rfl rfl)
theorem dX1_feed_102 : decode cX1_feed 102 = .ok (.goto (-84), 3) := dk_167 255 172 (dk_at dksX1_feed_4 9 rfl rfl)
theorem dX1_feed_105 : decode cX1_feed 105 = .ok (.aload_n 0, 1) := dk_42 (dk_at dksX1_feed_4 12 rfl rfl)
theorem dX1_feed_106 : decode cX1_feed 106 = .ok (.dup, 1) := dk_89 (dk_at dksX1_feed_4 13 rfl rfl)
theorem dX1_feed_107 : decode cX1_feed 107 = .ok (.getfield 47, 3) := dk_180 0 47 (dk_at dksX1_feed_4 14 rfl rfl)
theorem dX1_feed_110 : decode cX1_feed 110 = .ok (.bipush 20, 2) := dk_16 20 (dk_at dksX1_feed_4 17 rfl rfl)
theorem dX1_feed_112 : decode cX1_feed 112 = .ok (.iadd, 1) := dk_96 (dk_at dksX1_feed_4 19 rfl rfl)
theorem dX1_feed_113 : decode cX1_feed 113 = .ok (.putfield 47, 3) := dk_181 0 47 (dk_at dksX1_feed_4 20 rfl rfl)
theorem dX1_feed_116 : decode cX1_feed 116 = .ok (.aload_n 0, 1) := dk_42 (dk_at dksX1_feed_4 23 rfl rfl)
theorem dX1_feed_117 : decode cX1_feed 117 = .ok (.getfield 47, 3) := dk_180 0 47 (dk_at dksX1_feed_5 0 rfl rfl)
theorem dX1_feed_120 : decode cX1_feed 120 = .ok (.ireturn, 1) := dk_172 (dk_at dksX1_feed_5 3 rfl rfl)
abbrev cX1_book : ByteArray := prog_1_method_11_code
def yX1_book : MethodName := ⟨RX1, "book", "(I)I"⟩
def dkwX1_book_5 : List UInt8 := [182, 0, 92, 42, 42, 180, 0, 75, 180, 0, 95, 182, 0, 44, 172]
abbrev dktX1_book_5 : List UInt8 := dkwX1_book_5 ++ []
def dkwX1_book_4 : List UInt8 := [182, 0, 85, 181, 0, 91, 42, 180, 0, 27, 182, 0, 92, 42, 180, 0, 31, 182, 0, 92, 42, 180, 0, 34]
abbrev dktX1_book_4 : List UInt8 := dkwX1_book_4 ++ dktX1_book_5
def dkwX1_book_3 : List UInt8 := [180, 0, 72, 181, 0, 13, 2, 172, 42, 45, 181, 0, 75, 42, 42, 180, 0, 75, 180, 0, 79, 3]
abbrev dktX1_book_3 : List UInt8 := dkwX1_book_3 ++ dktX1_book_4
def dkwX1_book_2 : List UInt8 := [182, 0, 64, 78, 42, 44, 180, 0, 68, 181, 0, 71, 45, 199, 0, 18, 42, 7, 181, 0, 37, 42, 44]
abbrev dktX1_book_2 : List UInt8 := dkwX1_book_2 ++ dktX1_book_3
def dkwX1_book_1 : List UInt8 := [187, 0, 56, 89, 42, 180, 0, 9, 27, 183, 0, 58, 183, 0, 61, 77, 42, 3, 181, 0, 47, 44]
abbrev dktX1_book_1 : List UInt8 := dkwX1_book_1 ++ dktX1_book_2
def dkwX1_book_0 : List UInt8 := [27, 3, 42, 180, 0, 47, 184, 0, 50, 154, 0, 9, 42, 5, 182, 0, 40, 172, 187, 0, 54, 89]
abbrev dktX1_book_0 : List UInt8 := dkwX1_book_0 ++ dktX1_book_1
theorem dksX1_book_0 : cX1_book.data.toList.drop 0 = dktX1_book_0 := by decide +kernel
theorem dksX1_book_1 : cX1_book.data.toList.drop 22 = dktX1_book_1 := dk_seg dksX1_book_0 22 rfl rfl
theorem dksX1_book_2 : cX1_book.data.toList.drop 44 = dktX1_book_2 := dk_seg dksX1_book_1 22 rfl rfl
theorem dksX1_book_3 : cX1_book.data.toList.drop 67 = dktX1_book_3 := dk_seg dksX1_book_2 23 rfl rfl
theorem dksX1_book_4 : cX1_book.data.toList.drop 89 = dktX1_book_4 := dk_seg dksX1_book_3 22 rfl rfl
theorem dksX1_book_5 : cX1_book.data.toList.drop 113 = dktX1_book_5 := dk_seg dksX1_book_4 24 rfl rfl
theorem dX1_book_0 : decode cX1_book 0 = .ok (.iload_n 1, 1) := dk_27 (dk_at dksX1_book_0 0 rfl rfl)
theorem dX1_book_1 : decode cX1_book 1 = .ok (.iconst 0, 1) := dk_3 (dk_at dksX1_book_0 1 rfl rfl)
theorem dX1_book_2 : decode cX1_book 2 = .ok (.aload_n 0, 1) := dk_42 (dk_at dksX1_book_0 2 rfl rfl)
theorem dX1_book_3 : decode cX1_book 3 = .ok (.getfield 47, 3) := dk_180 0 47 (dk_at dksX1_book_0 3 rfl rfl)
theorem dX1_book_6 : decode cX1_book 6 = .ok (.invokestatic 50, 3) := dk_184 0 50 (dk_at dksX1_book_0 6 rfl rfl)
theorem dX1_book_9 : decode cX1_book 9 = .ok (.ifCond .ne 9, 3) := dk_154 0 9 (dk_at dksX1_book_0 9 rfl rfl)
theorem dX1_book_12 : decode cX1_book 12 = .ok (.aload_n 0, 1) := dk_42 (dk_at dksX1_book_0 12 rfl rfl)
theorem dX1_book_13 : decode cX1_book 13 = .ok (.iconst 2, 1) := dk_5 (dk_at dksX1_book_0 13 rfl rfl)
theorem dX1_book_14 : decode cX1_book 14 = .ok (.invokevirtual 40, 3) := dk_182 0 40 (dk_at dksX1_book_0 14 rfl rfl)
theorem dX1_book_17 : decode cX1_book 17 = .ok (.ireturn, 1) := dk_172 (dk_at dksX1_book_0 17 rfl rfl)
theorem dX1_book_18 : decode cX1_book 18 = .ok (.new 54, 3) := dk_187 0 54 (dk_at dksX1_book_0 18 rfl rfl)
theorem dX1_book_21 : decode cX1_book 21 = .ok (.dup, 1) := dk_89 (dk_at dksX1_book_0 21 rfl rfl)
theorem dX1_book_22 : decode cX1_book 22 = .ok (.new 56, 3) := dk_187 0 56 (dk_at dksX1_book_1 0 rfl rfl)
theorem dX1_book_25 : decode cX1_book 25 = .ok (.dup, 1) := dk_89 (dk_at dksX1_book_1 3 rfl rfl)
theorem dX1_book_26 : decode cX1_book 26 = .ok (.aload_n 0, 1) := dk_42 (dk_at dksX1_book_1 4 rfl rfl)
theorem dX1_book_27 : decode cX1_book 27 = .ok (.getfield 9, 3) := dk_180 0 9 (dk_at dksX1_book_1 5 rfl rfl)
theorem dX1_book_30 : decode cX1_book 30 = .ok (.iload_n 1, 1) := dk_27 (dk_at dksX1_book_1 8 rfl rfl)
theorem dX1_book_31 : decode cX1_book 31 = .ok (.invokespecial 58, 3) := dk_183 0 58 (dk_at dksX1_book_1 9 rfl rfl)
theorem dX1_book_34 : decode cX1_book 34 = .ok (.invokespecial 61, 3) := dk_183 0 61 (dk_at dksX1_book_1 12 rfl rfl)
theorem dX1_book_37 : decode cX1_book 37 = .ok (.astore_n 2, 1) := dk_77 (dk_at dksX1_book_1 15 rfl rfl)
theorem dX1_book_38 : decode cX1_book 38 = .ok (.aload_n 0, 1) := dk_42 (dk_at dksX1_book_1 16 rfl rfl)
theorem dX1_book_39 : decode cX1_book 39 = .ok (.iconst 0, 1) := dk_3 (dk_at dksX1_book_1 17 rfl rfl)
theorem dX1_book_40 : decode cX1_book 40 = .ok (.putfield 47, 3) := dk_181 0 47 (dk_at dksX1_book_1 18 rfl rfl)
theorem dX1_book_43 : decode cX1_book 43 = .ok (.aload_n 2, 1) := dk_44 (dk_at dksX1_book_1 21 rfl rfl)
theorem dX1_book_44 : decode cX1_book 44 = .ok (.invokevirtual 64, 3) := dk_182 0 64 (dk_at dksX1_book_2 0 rfl rfl)
theorem dX1_book_47 : decode cX1_book 47 = .ok (.astore_n 3, 1) := dk_78 (dk_at dksX1_book_2 3 rfl rfl)
theorem dX1_book_48 : decode cX1_book 48 = .ok (.aload_n 0, 1) := dk_42 (dk_at dksX1_book_2 4 rfl rfl)
theorem dX1_book_49 : decode cX1_book 49 = .ok (.aload_n 2, 1) := dk_44 (dk_at dksX1_book_2 5 rfl rfl)
theorem dX1_book_50 : decode cX1_book 50 = .ok (.getfield 68, 3) := dk_180 0 68 (dk_at dksX1_book_2 6 rfl rfl)
theorem dX1_book_53 : decode cX1_book 53 = .ok (.putfield 71, 3) := dk_181 0 71 (dk_at dksX1_book_2 9 rfl rfl)
theorem dX1_book_56 : decode cX1_book 56 = .ok (.aload_n 3, 1) := dk_45 (dk_at dksX1_book_2 12 rfl rfl)
theorem dX1_book_57 : decode cX1_book 57 = .ok (.ifnonnull 18, 3) := dk_199 0 18 (dk_at dksX1_book_2 13 rfl rfl)
theorem dX1_book_60 : decode cX1_book 60 = .ok (.aload_n 0, 1) := dk_42 (dk_at dksX1_book_2 16 rfl rfl)
theorem dX1_book_61 : decode cX1_book 61 = .ok (.iconst 4, 1) := dk_7 (dk_at dksX1_book_2 17 rfl rfl)
theorem dX1_book_62 : decode cX1_book 62 = .ok (.putfield 37, 3) := dk_181 0 37 (dk_at dksX1_book_2 18 rfl rfl)
theorem dX1_book_65 : decode cX1_book 65 = .ok (.aload_n 0, 1) := dk_42 (dk_at dksX1_book_2 21 rfl rfl)
theorem dX1_book_66 : decode cX1_book 66 = .ok (.aload_n 2, 1) := dk_44 (dk_at dksX1_book_2 22 rfl rfl)
theorem dX1_book_67 : decode cX1_book 67 = .ok (.getfield 72, 3) := dk_180 0 72 (dk_at dksX1_book_3 0 rfl rfl)
theorem dX1_book_70 : decode cX1_book 70 = .ok (.putfield 13, 3) := dk_181 0 13 (dk_at dksX1_book_3 3 rfl rfl)
theorem dX1_book_73 : decode cX1_book 73 = .ok (.iconst (-1), 1) := dk_2 (dk_at dksX1_book_3 6 rfl rfl)
theorem dX1_book_74 : decode cX1_book 74 = .ok (.ireturn, 1) := dk_172 (dk_at dksX1_book_3 7 rfl rfl)
theorem dX1_book_75 : decode cX1_book 75 = .ok (.aload_n 0, 1) := dk_42 (dk_at dksX1_book_3 8 rfl rfl)
theorem dX1_book_76 : decode cX1_book 76 = .ok (.aload_n 3, 1) := dk_45 (dk_at dksX1_book_3 9 rfl rfl)
theorem dX1_book_77 : decode cX1_book 77 = .ok (.putfield 75, 3) := dk_181 0 75 (dk_at dksX1_book_3 10 rfl rfl)
theorem dX1_book_80 : decode cX1_book 80 = .ok (.aload_n 0, 1) := dk_42 (dk_at dksX1_book_3 13 rfl rfl)
theorem dX1_book_81 : decode cX1_book 81 = .ok (.aload_n 0, 1) := dk_42 (dk_at dksX1_book_3 14 rfl rfl)
theorem dX1_book_82 : decode cX1_book 82 = .ok (.getfield 75, 3) := dk_180 0 75 (dk_at dksX1_book_3 15 rfl rfl)
theorem dX1_book_85 : decode cX1_book 85 = .ok (.getfield 79, 3) := dk_180 0 79 (dk_at dksX1_book_3 18 rfl rfl)
theorem dX1_book_88 : decode cX1_book 88 = .ok (.iconst 0, 1) := dk_3 (dk_at dksX1_book_3 21 rfl rfl)
theorem dX1_book_89 : decode cX1_book 89 = .ok (.invokevirtual 85, 3) := dk_182 0 85 (dk_at dksX1_book_4 0 rfl rfl)
theorem dX1_book_92 : decode cX1_book 92 = .ok (.putfield 91, 3) := dk_181 0 91 (dk_at dksX1_book_4 3 rfl rfl)
theorem dX1_book_95 : decode cX1_book 95 = .ok (.aload_n 0, 1) := dk_42 (dk_at dksX1_book_4 6 rfl rfl)
theorem dX1_book_96 : decode cX1_book 96 = .ok (.getfield 27, 3) := dk_180 0 27 (dk_at dksX1_book_4 7 rfl rfl)
theorem dX1_book_99 : decode cX1_book 99 = .ok (.invokevirtual 92, 3) := dk_182 0 92 (dk_at dksX1_book_4 10 rfl rfl)
theorem dX1_book_102 : decode cX1_book 102 = .ok (.aload_n 0, 1) := dk_42 (dk_at dksX1_book_4 13 rfl rfl)
theorem dX1_book_103 : decode cX1_book 103 = .ok (.getfield 31, 3) := dk_180 0 31 (dk_at dksX1_book_4 14 rfl rfl)
theorem dX1_book_106 : decode cX1_book 106 = .ok (.invokevirtual 92, 3) := dk_182 0 92 (dk_at dksX1_book_4 17 rfl rfl)
theorem dX1_book_109 : decode cX1_book 109 = .ok (.aload_n 0, 1) := dk_42 (dk_at dksX1_book_4 20 rfl rfl)
theorem dX1_book_110 : decode cX1_book 110 = .ok (.getfield 34, 3) := dk_180 0 34 (dk_at dksX1_book_4 21 rfl rfl)
theorem dX1_book_113 : decode cX1_book 113 = .ok (.invokevirtual 92, 3) := dk_182 0 92 (dk_at dksX1_book_5 0 rfl rfl)
theorem dX1_book_116 : decode cX1_book 116 = .ok (.aload_n 0, 1) := dk_42 (dk_at dksX1_book_5 3 rfl rfl)
theorem dX1_book_117 : decode cX1_book 117 = .ok (.aload_n 0, 1) := dk_42 (dk_at dksX1_book_5 4 rfl rfl)
theorem dX1_book_118 : decode cX1_book 118 = .ok (.getfield 75, 3) := dk_180 0 75 (dk_at dksX1_book_5 5 rfl rfl)
theorem dX1_book_121 : decode cX1_book 121 = .ok (.getfield 95, 3) := dk_180 0 95 (dk_at dksX1_book_5 8 rfl rfl)
theorem dX1_book_124 : decode cX1_book 124 = .ok (.invokevirtual 44, 3) := dk_182 0 44 (dk_at dksX1_book_5 11 rfl rfl)
theorem dX1_book_127 : decode cX1_book 127 = .ok (.ireturn, 1) := dk_172 (dk_at dksX1_book_5 14 rfl rfl)
abbrev cX1_in : ByteArray := prog_1_method_2_code
def yX1_in : MethodName := ⟨RX1, "in", "(III)Z"⟩
def dkwX1_in_0 : List UInt8 := [26, 27, 161, 0, 12, 26, 28, 163, 0, 7, 4, 167, 0, 4, 3, 172]
abbrev dktX1_in_0 : List UInt8 := dkwX1_in_0 ++ []
theorem dksX1_in_0 : cX1_in.data.toList.drop 0 = dktX1_in_0 := by decide +kernel
theorem dX1_in_0 : decode cX1_in 0 = .ok (.iload_n 0, 1) := dk_26 (dk_at dksX1_in_0 0 rfl rfl)
theorem dX1_in_1 : decode cX1_in 1 = .ok (.iload_n 1, 1) := dk_27 (dk_at dksX1_in_0 1 rfl rfl)
theorem dX1_in_2 : decode cX1_in 2 = .ok (.if_icmp .lt 12, 3) := dk_161 0 12 (dk_at dksX1_in_0 2 rfl rfl)
theorem dX1_in_5 : decode cX1_in 5 = .ok (.iload_n 0, 1) := dk_26 (dk_at dksX1_in_0 5 rfl rfl)
theorem dX1_in_6 : decode cX1_in 6 = .ok (.iload_n 2, 1) := dk_28 (dk_at dksX1_in_0 6 rfl rfl)
theorem dX1_in_7 : decode cX1_in 7 = .ok (.if_icmp .gt 7, 3) := dk_163 0 7 (dk_at dksX1_in_0 7 rfl rfl)
theorem dX1_in_10 : decode cX1_in 10 = .ok (.iconst 1, 1) := dk_4 (dk_at dksX1_in_0 10 rfl rfl)
theorem dX1_in_11 : decode cX1_in 11 = .ok (.goto 4, 3) := dk_167 0 4 (dk_at dksX1_in_0 11 rfl rfl)
theorem dX1_in_14 : decode cX1_in 14 = .ok (.iconst 0, 1) := dk_3 (dk_at dksX1_in_0 14 rfl rfl)
theorem dX1_in_15 : decode cX1_in 15 = .ok (.ireturn, 1) := dk_172 (dk_at dksX1_in_0 15 rfl rfl)
abbrev cX1_refused : ByteArray := prog_1_method_6_code
def yX1_refused : MethodName := ⟨RX1, "refused", "(I)I"⟩
def dkwX1_refused_0 : List UInt8 := [42, 27, 181, 0, 37, 42, 2, 181, 0, 13, 2, 172]
abbrev dktX1_refused_0 : List UInt8 := dkwX1_refused_0 ++ []
theorem dksX1_refused_0 : cX1_refused.data.toList.drop 0 = dktX1_refused_0 := by decide +kernel
theorem dX1_refused_0 : decode cX1_refused 0 = .ok (.aload_n 0, 1) := dk_42 (dk_at dksX1_refused_0 0 rfl rfl)
theorem dX1_refused_1 : decode cX1_refused 1 = .ok (.iload_n 1, 1) := dk_27 (dk_at dksX1_refused_0 1 rfl rfl)
theorem dX1_refused_2 : decode cX1_refused 2 = .ok (.putfield 37, 3) := dk_181 0 37 (dk_at dksX1_refused_0 2 rfl rfl)
theorem dX1_refused_5 : decode cX1_refused 5 = .ok (.aload_n 0, 1) := dk_42 (dk_at dksX1_refused_0 5 rfl rfl)
theorem dX1_refused_6 : decode cX1_refused 6 = .ok (.iconst (-1), 1) := dk_2 (dk_at dksX1_refused_0 6 rfl rfl)
theorem dX1_refused_7 : decode cX1_refused 7 = .ok (.putfield 13, 3) := dk_181 0 13 (dk_at dksX1_refused_0 7 rfl rfl)
theorem dX1_refused_10 : decode cX1_refused 10 = .ok (.iconst (-1), 1) := dk_2 (dk_at dksX1_refused_0 10 rfl rfl)
theorem dX1_refused_11 : decode cX1_refused 11 = .ok (.ireturn, 1) := dk_172 (dk_at dksX1_refused_0 11 rfl rfl)
abbrev cX1_has : ByteArray := prog_1_method_3_code
def yX1_has : MethodName := ⟨RX1, "has", "(II)Z"⟩
def dkwX1_has_0 : List UInt8 := [26, 27, 122, 4, 126, 4, 160, 0, 7, 4, 167, 0, 4, 3, 172]
abbrev dktX1_has_0 : List UInt8 := dkwX1_has_0 ++ []
theorem dksX1_has_0 : cX1_has.data.toList.drop 0 = dktX1_has_0 := by decide +kernel
theorem dX1_has_0 : decode cX1_has 0 = .ok (.iload_n 0, 1) := dk_26 (dk_at dksX1_has_0 0 rfl rfl)
theorem dX1_has_1 : decode cX1_has 1 = .ok (.iload_n 1, 1) := dk_27 (dk_at dksX1_has_0 1 rfl rfl)
theorem dX1_has_2 : decode cX1_has 2 = .ok (.ishr, 1) := dk_122 (dk_at dksX1_has_0 2 rfl rfl)
theorem dX1_has_3 : decode cX1_has 3 = .ok (.iconst 1, 1) := dk_4 (dk_at dksX1_has_0 3 rfl rfl)
theorem dX1_has_4 : decode cX1_has 4 = .ok (.iand, 1) := dk_126 (dk_at dksX1_has_0 4 rfl rfl)
theorem dX1_has_5 : decode cX1_has 5 = .ok (.iconst 1, 1) := dk_4 (dk_at dksX1_has_0 5 rfl rfl)
theorem dX1_has_6 : decode cX1_has 6 = .ok (.if_icmp .ne 7, 3) := dk_160 0 7 (dk_at dksX1_has_0 6 rfl rfl)
theorem dX1_has_9 : decode cX1_has 9 = .ok (.iconst 1, 1) := dk_4 (dk_at dksX1_has_0 9 rfl rfl)
theorem dX1_has_10 : decode cX1_has 10 = .ok (.goto 4, 3) := dk_167 0 4 (dk_at dksX1_has_0 10 rfl rfl)
theorem dX1_has_13 : decode cX1_has 13 = .ok (.iconst 0, 1) := dk_3 (dk_at dksX1_has_0 13 rfl rfl)
theorem dX1_has_14 : decode cX1_has 14 = .ok (.ireturn, 1) := dk_172 (dk_at dksX1_has_0 14 rfl rfl)
abbrev cX1_well : ByteArray := prog_1_method_8_code
def yX1_well : MethodName := ⟨RX1, "well", "(I)I"⟩
def dkwX1_well_0 : List UInt8 := [42, 3, 181, 0, 37, 42, 2, 181, 0, 13, 27, 172]
abbrev dktX1_well_0 : List UInt8 := dkwX1_well_0 ++ []
theorem dksX1_well_0 : cX1_well.data.toList.drop 0 = dktX1_well_0 := by decide +kernel
theorem dX1_well_0 : decode cX1_well 0 = .ok (.aload_n 0, 1) := dk_42 (dk_at dksX1_well_0 0 rfl rfl)
theorem dX1_well_1 : decode cX1_well 1 = .ok (.iconst 0, 1) := dk_3 (dk_at dksX1_well_0 1 rfl rfl)
theorem dX1_well_2 : decode cX1_well 2 = .ok (.putfield 37, 3) := dk_181 0 37 (dk_at dksX1_well_0 2 rfl rfl)
theorem dX1_well_5 : decode cX1_well 5 = .ok (.aload_n 0, 1) := dk_42 (dk_at dksX1_well_0 5 rfl rfl)
theorem dX1_well_6 : decode cX1_well 6 = .ok (.iconst (-1), 1) := dk_2 (dk_at dksX1_well_0 6 rfl rfl)
theorem dX1_well_7 : decode cX1_well 7 = .ok (.putfield 13, 3) := dk_181 0 13 (dk_at dksX1_well_0 7 rfl rfl)
theorem dX1_well_10 : decode cX1_well 10 = .ok (.iload_n 1, 1) := dk_27 (dk_at dksX1_well_0 10 rfl rfl)
theorem dX1_well_11 : decode cX1_well 11 = .ok (.ireturn, 1) := dk_172 (dk_at dksX1_well_0 11 rfl rfl)
abbrev cX1_fault : ByteArray := prog_1_method_12_code
def yX1_fault : MethodName := ⟨RX1, "fault", "()I"⟩
theorem dX1_fault_0 : decode cX1_fault 0 = .ok (.aload_n 0, 1) := by decide +kernel
theorem dX1_fault_1 : decode cX1_fault 1 = .ok (.getfield 71, 3) := by decide +kernel
theorem dX1_fault_4 : decode cX1_fault 4 = .ok (.ireturn, 1) := by decide +kernel
abbrev cX1_where : ByteArray := prog_1_method_13_code
def yX1_where : MethodName := ⟨RX1, "where", "()I"⟩
theorem dX1_where_0 : decode cX1_where 0 = .ok (.aload_n 0, 1) := by decide +kernel
theorem dX1_where_1 : decode cX1_where 1 = .ok (.getfield 13, 3) := by decide +kernel
theorem dX1_where_4 : decode cX1_where 4 = .ok (.ireturn, 1) := by decide +kernel
abbrev cX1_share : ByteArray := prog_1_method_20_code
def yX1_share : MethodName := ⟨RX1, "share", "(Z)I"⟩
def dkwX1_share_1 : List UInt8 := [180, 0, 113, 133, 42, 180, 0, 20, 180, 0, 128, 105, 27, 184, 0, 132, 182, 0, 44, 172]
abbrev dktX1_share_1 : List UInt8 := dkwX1_share_1 ++ []
def dkwX1_share_0 : List UInt8 := [42, 180, 0, 75, 199, 0, 9, 42, 4, 182, 0, 40, 172, 42, 182, 0, 124, 65, 42, 32, 42, 180, 0, 75]
abbrev dktX1_share_0 : List UInt8 := dkwX1_share_0 ++ dktX1_share_1
theorem dksX1_share_0 : cX1_share.data.toList.drop 0 = dktX1_share_0 := by decide +kernel
theorem dksX1_share_1 : cX1_share.data.toList.drop 24 = dktX1_share_1 := dk_seg dksX1_share_0 24 rfl rfl
theorem dX1_share_0 : decode cX1_share 0 = .ok (.aload_n 0, 1) := dk_42 (dk_at dksX1_share_0 0 rfl rfl)
theorem dX1_share_1 : decode cX1_share 1 = .ok (.getfield 75, 3) := dk_180 0 75 (dk_at dksX1_share_0 1 rfl rfl)
theorem dX1_share_4 : decode cX1_share 4 = .ok (.ifnonnull 9, 3) := dk_199 0 9 (dk_at dksX1_share_0 4 rfl rfl)
theorem dX1_share_7 : decode cX1_share 7 = .ok (.aload_n 0, 1) := dk_42 (dk_at dksX1_share_0 7 rfl rfl)
theorem dX1_share_8 : decode cX1_share 8 = .ok (.iconst 1, 1) := dk_4 (dk_at dksX1_share_0 8 rfl rfl)
theorem dX1_share_9 : decode cX1_share 9 = .ok (.invokevirtual 40, 3) := dk_182 0 40 (dk_at dksX1_share_0 9 rfl rfl)
theorem dX1_share_12 : decode cX1_share 12 = .ok (.ireturn, 1) := dk_172 (dk_at dksX1_share_0 12 rfl rfl)
theorem dX1_share_13 : decode cX1_share 13 = .ok (.aload_n 0, 1) := dk_42 (dk_at dksX1_share_0 13 rfl rfl)
theorem dX1_share_14 : decode cX1_share 14 = .ok (.invokevirtual 124, 3) := dk_182 0 124 (dk_at dksX1_share_0 14 rfl rfl)
theorem dX1_share_17 : decode cX1_share 17 = .ok (.lstore_n 2, 1) := dk_65 (dk_at dksX1_share_0 17 rfl rfl)
theorem dX1_share_18 : decode cX1_share 18 = .ok (.aload_n 0, 1) := dk_42 (dk_at dksX1_share_0 18 rfl rfl)
theorem dX1_share_19 : decode cX1_share 19 = .ok (.lload_n 2, 1) := dk_32 (dk_at dksX1_share_0 19 rfl rfl)
theorem dX1_share_20 : decode cX1_share 20 = .ok (.aload_n 0, 1) := dk_42 (dk_at dksX1_share_0 20 rfl rfl)
theorem dX1_share_21 : decode cX1_share 21 = .ok (.getfield 75, 3) := dk_180 0 75 (dk_at dksX1_share_0 21 rfl rfl)
theorem dX1_share_24 : decode cX1_share 24 = .ok (.getfield 113, 3) := dk_180 0 113 (dk_at dksX1_share_1 0 rfl rfl)
theorem dX1_share_27 : decode cX1_share 27 = .ok (.i2l, 1) := dk_133 (dk_at dksX1_share_1 3 rfl rfl)
theorem dX1_share_28 : decode cX1_share 28 = .ok (.aload_n 0, 1) := dk_42 (dk_at dksX1_share_1 4 rfl rfl)
theorem dX1_share_29 : decode cX1_share 29 = .ok (.getfield 20, 3) := dk_180 0 20 (dk_at dksX1_share_1 5 rfl rfl)
theorem dX1_share_32 : decode cX1_share 32 = .ok (.getfield 128, 3) := dk_180 0 128 (dk_at dksX1_share_1 8 rfl rfl)
theorem dX1_share_35 : decode cX1_share 35 = .ok (.lmul, 1) := dk_105 (dk_at dksX1_share_1 11 rfl rfl)
theorem dX1_share_36 : decode cX1_share 36 = .ok (.iload_n 1, 1) := dk_27 (dk_at dksX1_share_1 12 rfl rfl)
theorem dX1_share_37 : decode cX1_share 37 = .ok (.invokestatic 132, 3) := dk_184 0 132 (dk_at dksX1_share_1 13 rfl rfl)
theorem dX1_share_40 : decode cX1_share 40 = .ok (.invokevirtual 44, 3) := dk_182 0 44 (dk_at dksX1_share_1 16 rfl rfl)
theorem dX1_share_43 : decode cX1_share 43 = .ok (.ireturn, 1) := dk_172 (dk_at dksX1_share_1 19 rfl rfl)
abbrev cX1_measures : ByteArray := prog_1_method_18_code
def yX1_measures : MethodName := ⟨RX1, "measures", "()J"⟩
def dkwX1_measures_1 : List UInt8 := [182, 0, 116, 42, 180, 0, 20, 3, 182, 0, 120, 173]
abbrev dktX1_measures_1 : List UInt8 := dkwX1_measures_1 ++ []
def dkwX1_measures_0 : List UInt8 := [42, 180, 0, 20, 42, 180, 0, 91, 42, 180, 0, 75, 182, 0, 110, 42, 180, 0, 75, 180, 0, 113]
abbrev dktX1_measures_0 : List UInt8 := dkwX1_measures_0 ++ dktX1_measures_1
theorem dksX1_measures_0 : cX1_measures.data.toList.drop 0 = dktX1_measures_0 := by decide +kernel
theorem dksX1_measures_1 : cX1_measures.data.toList.drop 22 = dktX1_measures_1 := dk_seg dksX1_measures_0 22 rfl rfl
theorem dX1_measures_0 : decode cX1_measures 0 = .ok (.aload_n 0, 1) := dk_42 (dk_at dksX1_measures_0 0 rfl rfl)
theorem dX1_measures_1 : decode cX1_measures 1 = .ok (.getfield 20, 3) := dk_180 0 20 (dk_at dksX1_measures_0 1 rfl rfl)
theorem dX1_measures_4 : decode cX1_measures 4 = .ok (.aload_n 0, 1) := dk_42 (dk_at dksX1_measures_0 4 rfl rfl)
theorem dX1_measures_5 : decode cX1_measures 5 = .ok (.getfield 91, 3) := dk_180 0 91 (dk_at dksX1_measures_0 5 rfl rfl)
theorem dX1_measures_8 : decode cX1_measures 8 = .ok (.aload_n 0, 1) := dk_42 (dk_at dksX1_measures_0 8 rfl rfl)
theorem dX1_measures_9 : decode cX1_measures 9 = .ok (.getfield 75, 3) := dk_180 0 75 (dk_at dksX1_measures_0 9 rfl rfl)
theorem dX1_measures_12 : decode cX1_measures 12 = .ok (.invokevirtual 110, 3) := dk_182 0 110 (dk_at dksX1_measures_0 12 rfl rfl)
theorem dX1_measures_15 : decode cX1_measures 15 = .ok (.aload_n 0, 1) := dk_42 (dk_at dksX1_measures_0 15 rfl rfl)
theorem dX1_measures_16 : decode cX1_measures 16 = .ok (.getfield 75, 3) := dk_180 0 75 (dk_at dksX1_measures_0 16 rfl rfl)
theorem dX1_measures_19 : decode cX1_measures 19 = .ok (.getfield 113, 3) := dk_180 0 113 (dk_at dksX1_measures_0 19 rfl rfl)
theorem dX1_measures_22 : decode cX1_measures 22 = .ok (.invokevirtual 116, 3) := dk_182 0 116 (dk_at dksX1_measures_1 0 rfl rfl)
theorem dX1_measures_25 : decode cX1_measures 25 = .ok (.aload_n 0, 1) := dk_42 (dk_at dksX1_measures_1 3 rfl rfl)
theorem dX1_measures_26 : decode cX1_measures 26 = .ok (.getfield 20, 3) := dk_180 0 20 (dk_at dksX1_measures_1 4 rfl rfl)
theorem dX1_measures_29 : decode cX1_measures 29 = .ok (.iconst 0, 1) := dk_3 (dk_at dksX1_measures_1 7 rfl rfl)
theorem dX1_measures_30 : decode cX1_measures 30 = .ok (.invokevirtual 120, 3) := dk_182 0 120 (dk_at dksX1_measures_1 8 rfl rfl)
theorem dX1_measures_33 : decode cX1_measures 33 = .ok (.lreturn, 1) := dk_173 (dk_at dksX1_measures_1 11 rfl rfl)
abbrev cX1_lowest : ByteArray := prog_1_method_17_code
def yX1_lowest : MethodName := ⟨RX1, "lowest", "(JJZ)I"⟩
def dkwX1_lowest_0 : List UInt8 := [30, 32, 184, 0, 106, 55, 5, 21, 4, 153, 0, 7, 32, 167, 0, 4, 30, 22, 5, 109, 136, 172]
abbrev dktX1_lowest_0 : List UInt8 := dkwX1_lowest_0 ++ []
theorem dksX1_lowest_0 : cX1_lowest.data.toList.drop 0 = dktX1_lowest_0 := by decide +kernel
theorem dX1_lowest_0 : decode cX1_lowest 0 = .ok (.lload_n 0, 1) := dk_30 (dk_at dksX1_lowest_0 0 rfl rfl)
theorem dX1_lowest_1 : decode cX1_lowest 1 = .ok (.lload_n 2, 1) := dk_32 (dk_at dksX1_lowest_0 1 rfl rfl)
theorem dX1_lowest_2 : decode cX1_lowest 2 = .ok (.invokestatic 106, 3) := dk_184 0 106 (dk_at dksX1_lowest_0 2 rfl rfl)
theorem dX1_lowest_5 : decode cX1_lowest 5 = .ok (.lstore 5, 2) := dk_55 5 (dk_at dksX1_lowest_0 5 rfl rfl)
theorem dX1_lowest_7 : decode cX1_lowest 7 = .ok (.iload 4, 2) := dk_21 4 (dk_at dksX1_lowest_0 7 rfl rfl)
theorem dX1_lowest_9 : decode cX1_lowest 9 = .ok (.ifCond .eq 7, 3) := dk_153 0 7 (dk_at dksX1_lowest_0 9 rfl rfl)
theorem dX1_lowest_12 : decode cX1_lowest 12 = .ok (.lload_n 2, 1) := dk_32 (dk_at dksX1_lowest_0 12 rfl rfl)
theorem dX1_lowest_13 : decode cX1_lowest 13 = .ok (.goto 4, 3) := dk_167 0 4 (dk_at dksX1_lowest_0 13 rfl rfl)
theorem dX1_lowest_16 : decode cX1_lowest 16 = .ok (.lload_n 0, 1) := dk_30 (dk_at dksX1_lowest_0 16 rfl rfl)
theorem dX1_lowest_17 : decode cX1_lowest 17 = .ok (.lload 5, 2) := dk_22 5 (dk_at dksX1_lowest_0 17 rfl rfl)
theorem dX1_lowest_19 : decode cX1_lowest 19 = .ok (.ldiv, 1) := dk_109 (dk_at dksX1_lowest_0 19 rfl rfl)
theorem dX1_lowest_20 : decode cX1_lowest 20 = .ok (.l2i, 1) := dk_136 (dk_at dksX1_lowest_0 20 rfl rfl)
theorem dX1_lowest_21 : decode cX1_lowest 21 = .ok (.ireturn, 1) := dk_172 (dk_at dksX1_lowest_0 21 rfl rfl)
abbrev cX1_divisor : ByteArray := prog_1_method_5_code
def yX1_divisor : MethodName := ⟨RX1, "diviso\x72", "(JJ)J"⟩
def dkwX1_divisor_1 : List UInt8 := [22, 8, 55, 6, 167, 255, 234, 22, 4, 173]
abbrev dktX1_divisor_1 : List UInt8 := dkwX1_divisor_1 ++ []
def dkwX1_divisor_0 : List UInt8 := [30, 55, 4, 32, 55, 6, 22, 6, 9, 148, 153, 0, 21, 22, 4, 22, 6, 113, 55, 8, 22, 6, 55, 4]
abbrev dktX1_divisor_0 : List UInt8 := dkwX1_divisor_0 ++ dktX1_divisor_1
theorem dksX1_divisor_0 : cX1_divisor.data.toList.drop 0 = dktX1_divisor_0 := by decide +kernel
theorem dksX1_divisor_1 : cX1_divisor.data.toList.drop 24 = dktX1_divisor_1 := dk_seg dksX1_divisor_0 24 rfl rfl
theorem dX1_divisor_0 : decode cX1_divisor 0 = .ok (.lload_n 0, 1) := dk_30 (dk_at dksX1_divisor_0 0 rfl rfl)
theorem dX1_divisor_1 : decode cX1_divisor 1 = .ok (.lstore 4, 2) := dk_55 4 (dk_at dksX1_divisor_0 1 rfl rfl)
theorem dX1_divisor_3 : decode cX1_divisor 3 = .ok (.lload_n 2, 1) := dk_32 (dk_at dksX1_divisor_0 3 rfl rfl)
theorem dX1_divisor_4 : decode cX1_divisor 4 = .ok (.lstore 6, 2) := dk_55 6 (dk_at dksX1_divisor_0 4 rfl rfl)
theorem dX1_divisor_6 : decode cX1_divisor 6 = .ok (.lload 6, 2) := dk_22 6 (dk_at dksX1_divisor_0 6 rfl rfl)
theorem dX1_divisor_8 : decode cX1_divisor 8 = .ok (.lconst 0, 1) := dk_9 (dk_at dksX1_divisor_0 8 rfl rfl)
theorem dX1_divisor_9 : decode cX1_divisor 9 = .ok (.lcmp, 1) := dk_148 (dk_at dksX1_divisor_0 9 rfl rfl)
theorem dX1_divisor_10 : decode cX1_divisor 10 = .ok (.ifCond .eq 21, 3) := dk_153 0 21 (dk_at dksX1_divisor_0 10 rfl rfl)
theorem dX1_divisor_13 : decode cX1_divisor 13 = .ok (.lload 4, 2) := dk_22 4 (dk_at dksX1_divisor_0 13 rfl rfl)
theorem dX1_divisor_15 : decode cX1_divisor 15 = .ok (.lload 6, 2) := dk_22 6 (dk_at dksX1_divisor_0 15 rfl rfl)
theorem dX1_divisor_17 : decode cX1_divisor 17 = .ok (.lrem, 1) := dk_113 (dk_at dksX1_divisor_0 17 rfl rfl)
theorem dX1_divisor_18 : decode cX1_divisor 18 = .ok (.lstore 8, 2) := dk_55 8 (dk_at dksX1_divisor_0 18 rfl rfl)
theorem dX1_divisor_20 : decode cX1_divisor 20 = .ok (.lload 6, 2) := dk_22 6 (dk_at dksX1_divisor_0 20 rfl rfl)
theorem dX1_divisor_22 : decode cX1_divisor 22 = .ok (.lstore 4, 2) := dk_55 4 (dk_at dksX1_divisor_0 22 rfl rfl)
theorem dX1_divisor_24 : decode cX1_divisor 24 = .ok (.lload 8, 2) := dk_22 8 (dk_at dksX1_divisor_1 0 rfl rfl)
theorem dX1_divisor_26 : decode cX1_divisor 26 = .ok (.lstore 6, 2) := dk_55 6 (dk_at dksX1_divisor_1 2 rfl rfl)
theorem dX1_divisor_28 : decode cX1_divisor 28 = .ok (.goto (-22), 3) := dk_167 255 234 (dk_at dksX1_divisor_1 4 rfl rfl)
theorem dX1_divisor_31 : decode cX1_divisor 31 = .ok (.lload 4, 2) := dk_22 4 (dk_at dksX1_divisor_1 7 rfl rfl)
theorem dX1_divisor_33 : decode cX1_divisor 33 = .ok (.lreturn, 1) := dk_173 (dk_at dksX1_divisor_1 9 rfl rfl)
abbrev cX1_together : ByteArray := prog_1_method_21_code
def yX1_together : MethodName := ⟨RX1, "togethe\x72", "(IIIIZZ)I"⟩
def dkwX1_together_9 : List UInt8 := [184, 0, 132, 182, 0, 44, 172]
abbrev dktX1_together_9 : List UInt8 := dkwX1_together_9 ++ []
def dkwX1_together_8 : List UInt8 := [167, 0, 6, 22, 7, 117, 42, 180, 0, 75, 180, 0, 113, 133, 42, 180, 0, 20, 180, 0, 128, 105, 21, 6]
abbrev dktX1_together_8 : List UInt8 := dkwX1_together_8 ++ dktX1_together_9
def dkwX1_together_7 : List UInt8 := [16, 6, 182, 0, 40, 172, 42, 180, 0, 20, 4, 182, 0, 120, 55, 7, 42, 21, 5, 153, 0, 8, 22, 7]
abbrev dktX1_together_7 : List UInt8 := dkwX1_together_7 ++ dktX1_together_8
def dkwX1_together_6 : List UInt8 := [182, 0, 120, 42, 180, 0, 75, 180, 0, 113, 133, 42, 180, 0, 20, 180, 0, 128, 105, 148, 153, 0, 10, 42]
abbrev dktX1_together_6 : List UInt8 := dkwX1_together_6 ++ dktX1_together_7
def dkwX1_together_5 : List UInt8 := [153, 0, 7, 10, 167, 0, 6, 20, 0, 140, 182, 0, 142, 132, 7, 1, 167, 255, 199, 42, 180, 0, 20, 3]
abbrev dktX1_together_5 : List UInt8 := dkwX1_together_5 ++ dktX1_together_6
def dkwX1_together_4 : List UInt8 := [160, 0, 35, 21, 7, 29, 122, 4, 126, 21, 4, 160, 0, 24, 42, 180, 0, 20, 21, 7, 21, 5]
abbrev dktX1_together_4 : List UInt8 := dkwX1_together_4 ++ dktX1_together_5
def dkwX1_together_3 : List UInt8 := [3, 54, 7, 21, 7, 42, 180, 0, 75, 182, 0, 110, 162, 0, 51, 21, 7, 27, 122, 4, 126, 28]
abbrev dktX1_together_3 : List UInt8 := dkwX1_together_3 ++ dktX1_together_4
def dkwX1_together_2 : List UInt8 := [180, 0, 20, 42, 180, 0, 91, 42, 180, 0, 75, 182, 0, 110, 42, 180, 0, 75, 180, 0, 113, 182, 0, 116]
abbrev dktX1_together_2 : List UInt8 := dkwX1_together_2 ++ dktX1_together_3
def dkwX1_together_1 : List UInt8 := [184, 0, 50, 153, 0, 13, 21, 4, 3, 4, 184, 0, 50, 154, 0, 9, 42, 4, 182, 0, 40, 172, 42]
abbrev dktX1_together_1 : List UInt8 := dkwX1_together_1 ++ dktX1_together_2
def dkwX1_together_0 : List UInt8 := [42, 27, 182, 0, 136, 153, 0, 35, 42, 29, 182, 0, 136, 153, 0, 27, 27, 29, 159, 0, 22, 28, 3, 4]
abbrev dktX1_together_0 : List UInt8 := dkwX1_together_0 ++ dktX1_together_1
theorem dksX1_together_0 : cX1_together.data.toList.drop 0 = dktX1_together_0 := by decide +kernel
theorem dksX1_together_1 : cX1_together.data.toList.drop 24 = dktX1_together_1 := dk_seg dksX1_together_0 24 rfl rfl
theorem dksX1_together_2 : cX1_together.data.toList.drop 47 = dktX1_together_2 := dk_seg dksX1_together_1 23 rfl rfl
theorem dksX1_together_3 : cX1_together.data.toList.drop 71 = dktX1_together_3 := dk_seg dksX1_together_2 24 rfl rfl
theorem dksX1_together_4 : cX1_together.data.toList.drop 93 = dktX1_together_4 := dk_seg dksX1_together_3 22 rfl rfl
theorem dksX1_together_5 : cX1_together.data.toList.drop 115 = dktX1_together_5 := dk_seg dksX1_together_4 22 rfl rfl
theorem dksX1_together_6 : cX1_together.data.toList.drop 139 = dktX1_together_6 := dk_seg dksX1_together_5 24 rfl rfl
theorem dksX1_together_7 : cX1_together.data.toList.drop 163 = dktX1_together_7 := dk_seg dksX1_together_6 24 rfl rfl
theorem dksX1_together_8 : cX1_together.data.toList.drop 187 = dktX1_together_8 := dk_seg dksX1_together_7 24 rfl rfl
theorem dksX1_together_9 : cX1_together.data.toList.drop 211 = dktX1_together_9 := dk_seg dksX1_together_8 24 rfl rfl
theorem dX1_together_0 : decode cX1_together 0 = .ok (.aload_n 0, 1) := dk_42 (dk_at dksX1_together_0 0 rfl rfl)
theorem dX1_together_1 : decode cX1_together 1 = .ok (.iload_n 1, 1) := dk_27 (dk_at dksX1_together_0 1 rfl rfl)
theorem dX1_together_2 : decode cX1_together 2 = .ok (.invokevirtual 136, 3) := dk_182 0 136 (dk_at dksX1_together_0 2 rfl rfl)
theorem dX1_together_5 : decode cX1_together 5 = .ok (.ifCond .eq 35, 3) := dk_153 0 35 (dk_at dksX1_together_0 5 rfl rfl)
theorem dX1_together_8 : decode cX1_together 8 = .ok (.aload_n 0, 1) := dk_42 (dk_at dksX1_together_0 8 rfl rfl)
theorem dX1_together_9 : decode cX1_together 9 = .ok (.iload_n 3, 1) := dk_29 (dk_at dksX1_together_0 9 rfl rfl)
theorem dX1_together_10 : decode cX1_together 10 = .ok (.invokevirtual 136, 3) := dk_182 0 136 (dk_at dksX1_together_0 10 rfl rfl)
theorem dX1_together_13 : decode cX1_together 13 = .ok (.ifCond .eq 27, 3) := dk_153 0 27 (dk_at dksX1_together_0 13 rfl rfl)
theorem dX1_together_16 : decode cX1_together 16 = .ok (.iload_n 1, 1) := dk_27 (dk_at dksX1_together_0 16 rfl rfl)
theorem dX1_together_17 : decode cX1_together 17 = .ok (.iload_n 3, 1) := dk_29 (dk_at dksX1_together_0 17 rfl rfl)
theorem dX1_together_18 : decode cX1_together 18 = .ok (.if_icmp .eq 22, 3) := dk_159 0 22 (dk_at dksX1_together_0 18 rfl rfl)
theorem dX1_together_21 : decode cX1_together 21 = .ok (.iload_n 2, 1) := dk_28 (dk_at dksX1_together_0 21 rfl rfl)
theorem dX1_together_22 : decode cX1_together 22 = .ok (.iconst 0, 1) := dk_3 (dk_at dksX1_together_0 22 rfl rfl)
theorem dX1_together_23 : decode cX1_together 23 = .ok (.iconst 1, 1) := dk_4 (dk_at dksX1_together_0 23 rfl rfl)
theorem dX1_together_24 : decode cX1_together 24 = .ok (.invokestatic 50, 3) := dk_184 0 50 (dk_at dksX1_together_1 0 rfl rfl)
theorem dX1_together_27 : decode cX1_together 27 = .ok (.ifCond .eq 13, 3) := dk_153 0 13 (dk_at dksX1_together_1 3 rfl rfl)
theorem dX1_together_30 : decode cX1_together 30 = .ok (.iload 4, 2) := dk_21 4 (dk_at dksX1_together_1 6 rfl rfl)
theorem dX1_together_32 : decode cX1_together 32 = .ok (.iconst 0, 1) := dk_3 (dk_at dksX1_together_1 8 rfl rfl)
theorem dX1_together_33 : decode cX1_together 33 = .ok (.iconst 1, 1) := dk_4 (dk_at dksX1_together_1 9 rfl rfl)
theorem dX1_together_34 : decode cX1_together 34 = .ok (.invokestatic 50, 3) := dk_184 0 50 (dk_at dksX1_together_1 10 rfl rfl)
theorem dX1_together_37 : decode cX1_together 37 = .ok (.ifCond .ne 9, 3) := dk_154 0 9 (dk_at dksX1_together_1 13 rfl rfl)
theorem dX1_together_40 : decode cX1_together 40 = .ok (.aload_n 0, 1) := dk_42 (dk_at dksX1_together_1 16 rfl rfl)
theorem dX1_together_41 : decode cX1_together 41 = .ok (.iconst 1, 1) := dk_4 (dk_at dksX1_together_1 17 rfl rfl)
theorem dX1_together_42 : decode cX1_together 42 = .ok (.invokevirtual 40, 3) := dk_182 0 40 (dk_at dksX1_together_1 18 rfl rfl)
theorem dX1_together_45 : decode cX1_together 45 = .ok (.ireturn, 1) := dk_172 (dk_at dksX1_together_1 21 rfl rfl)
theorem dX1_together_46 : decode cX1_together 46 = .ok (.aload_n 0, 1) := dk_42 (dk_at dksX1_together_1 22 rfl rfl)
theorem dX1_together_47 : decode cX1_together 47 = .ok (.getfield 20, 3) := dk_180 0 20 (dk_at dksX1_together_2 0 rfl rfl)
theorem dX1_together_50 : decode cX1_together 50 = .ok (.aload_n 0, 1) := dk_42 (dk_at dksX1_together_2 3 rfl rfl)
theorem dX1_together_51 : decode cX1_together 51 = .ok (.getfield 91, 3) := dk_180 0 91 (dk_at dksX1_together_2 4 rfl rfl)
theorem dX1_together_54 : decode cX1_together 54 = .ok (.aload_n 0, 1) := dk_42 (dk_at dksX1_together_2 7 rfl rfl)
theorem dX1_together_55 : decode cX1_together 55 = .ok (.getfield 75, 3) := dk_180 0 75 (dk_at dksX1_together_2 8 rfl rfl)
theorem dX1_together_58 : decode cX1_together 58 = .ok (.invokevirtual 110, 3) := dk_182 0 110 (dk_at dksX1_together_2 11 rfl rfl)
theorem dX1_together_61 : decode cX1_together 61 = .ok (.aload_n 0, 1) := dk_42 (dk_at dksX1_together_2 14 rfl rfl)
theorem dX1_together_62 : decode cX1_together 62 = .ok (.getfield 75, 3) := dk_180 0 75 (dk_at dksX1_together_2 15 rfl rfl)
theorem dX1_together_65 : decode cX1_together 65 = .ok (.getfield 113, 3) := dk_180 0 113 (dk_at dksX1_together_2 18 rfl rfl)
theorem dX1_together_68 : decode cX1_together 68 = .ok (.invokevirtual 116, 3) := dk_182 0 116 (dk_at dksX1_together_2 21 rfl rfl)
theorem dX1_together_71 : decode cX1_together 71 = .ok (.iconst 0, 1) := dk_3 (dk_at dksX1_together_3 0 rfl rfl)
theorem dX1_together_72 : decode cX1_together 72 = .ok (.istore 7, 2) := dk_54 7 (dk_at dksX1_together_3 1 rfl rfl)
theorem dX1_together_74 : decode cX1_together 74 = .ok (.iload 7, 2) := dk_21 7 (dk_at dksX1_together_3 3 rfl rfl)
theorem dX1_together_76 : decode cX1_together 76 = .ok (.aload_n 0, 1) := dk_42 (dk_at dksX1_together_3 5 rfl rfl)
theorem dX1_together_77 : decode cX1_together 77 = .ok (.getfield 75, 3) := dk_180 0 75 (dk_at dksX1_together_3 6 rfl rfl)
theorem dX1_together_80 : decode cX1_together 80 = .ok (.invokevirtual 110, 3) := dk_182 0 110 (dk_at dksX1_together_3 9 rfl rfl)
theorem dX1_together_83 : decode cX1_together 83 = .ok (.if_icmp .ge 51, 3) := dk_162 0 51 (dk_at dksX1_together_3 12 rfl rfl)
theorem dX1_together_86 : decode cX1_together 86 = .ok (.iload 7, 2) := dk_21 7 (dk_at dksX1_together_3 15 rfl rfl)
theorem dX1_together_88 : decode cX1_together 88 = .ok (.iload_n 1, 1) := dk_27 (dk_at dksX1_together_3 17 rfl rfl)
theorem dX1_together_89 : decode cX1_together 89 = .ok (.ishr, 1) := dk_122 (dk_at dksX1_together_3 18 rfl rfl)
theorem dX1_together_90 : decode cX1_together 90 = .ok (.iconst 1, 1) := dk_4 (dk_at dksX1_together_3 19 rfl rfl)
theorem dX1_together_91 : decode cX1_together 91 = .ok (.iand, 1) := dk_126 (dk_at dksX1_together_3 20 rfl rfl)
theorem dX1_together_92 : decode cX1_together 92 = .ok (.iload_n 2, 1) := dk_28 (dk_at dksX1_together_3 21 rfl rfl)
theorem dX1_together_93 : decode cX1_together 93 = .ok (.if_icmp .ne 35, 3) := dk_160 0 35 (dk_at dksX1_together_4 0 rfl rfl)
theorem dX1_together_96 : decode cX1_together 96 = .ok (.iload 7, 2) := dk_21 7 (dk_at dksX1_together_4 3 rfl rfl)
theorem dX1_together_98 : decode cX1_together 98 = .ok (.iload_n 3, 1) := dk_29 (dk_at dksX1_together_4 5 rfl rfl)
theorem dX1_together_99 : decode cX1_together 99 = .ok (.ishr, 1) := dk_122 (dk_at dksX1_together_4 6 rfl rfl)
theorem dX1_together_100 : decode cX1_together 100 = .ok (.iconst 1, 1) := dk_4 (dk_at dksX1_together_4 7 rfl rfl)
theorem dX1_together_101 : decode cX1_together 101 = .ok (.iand, 1) := dk_126 (dk_at dksX1_together_4 8 rfl rfl)
theorem dX1_together_102 : decode cX1_together 102 = .ok (.iload 4, 2) := dk_21 4 (dk_at dksX1_together_4 9 rfl rfl)
theorem dX1_together_104 : decode cX1_together 104 = .ok (.if_icmp .ne 24, 3) := dk_160 0 24 (dk_at dksX1_together_4 11 rfl rfl)
theorem dX1_together_107 : decode cX1_together 107 = .ok (.aload_n 0, 1) := dk_42 (dk_at dksX1_together_4 14 rfl rfl)
theorem dX1_together_108 : decode cX1_together 108 = .ok (.getfield 20, 3) := dk_180 0 20 (dk_at dksX1_together_4 15 rfl rfl)
theorem dX1_together_111 : decode cX1_together 111 = .ok (.iload 7, 2) := dk_21 7 (dk_at dksX1_together_4 18 rfl rfl)
theorem dX1_together_113 : decode cX1_together 113 = .ok (.iload 5, 2) := dk_21 5 (dk_at dksX1_together_4 20 rfl rfl)
theorem dX1_together_115 : decode cX1_together 115 = .ok (.ifCond .eq 7, 3) := dk_153 0 7 (dk_at dksX1_together_5 0 rfl rfl)
theorem dX1_together_118 : decode cX1_together 118 = .ok (.lconst 1, 1) := dk_10 (dk_at dksX1_together_5 3 rfl rfl)
theorem dX1_together_119 : decode cX1_together 119 = .ok (.goto 6, 3) := dk_167 0 6 (dk_at dksX1_together_5 4 rfl rfl)
theorem dX1_together_122 : decode cX1_together 122 = .ok (.ldc2_w 140, 3) := dk_20 0 140 (dk_at dksX1_together_5 7 rfl rfl)
theorem dX1_together_125 : decode cX1_together 125 = .ok (.invokevirtual 142, 3) := dk_182 0 142 (dk_at dksX1_together_5 10 rfl rfl)
theorem dX1_together_128 : decode cX1_together 128 = .ok (.iinc 7 1, 3) := dk_132 7 1 (dk_at dksX1_together_5 13 rfl rfl)
theorem dX1_together_131 : decode cX1_together 131 = .ok (.goto (-57), 3) := dk_167 255 199 (dk_at dksX1_together_5 16 rfl rfl)
theorem dX1_together_134 : decode cX1_together 134 = .ok (.aload_n 0, 1) := dk_42 (dk_at dksX1_together_5 19 rfl rfl)
theorem dX1_together_135 : decode cX1_together 135 = .ok (.getfield 20, 3) := dk_180 0 20 (dk_at dksX1_together_5 20 rfl rfl)
theorem dX1_together_138 : decode cX1_together 138 = .ok (.iconst 0, 1) := dk_3 (dk_at dksX1_together_5 23 rfl rfl)
theorem dX1_together_139 : decode cX1_together 139 = .ok (.invokevirtual 120, 3) := dk_182 0 120 (dk_at dksX1_together_6 0 rfl rfl)
theorem dX1_together_142 : decode cX1_together 142 = .ok (.aload_n 0, 1) := dk_42 (dk_at dksX1_together_6 3 rfl rfl)
theorem dX1_together_143 : decode cX1_together 143 = .ok (.getfield 75, 3) := dk_180 0 75 (dk_at dksX1_together_6 4 rfl rfl)
theorem dX1_together_146 : decode cX1_together 146 = .ok (.getfield 113, 3) := dk_180 0 113 (dk_at dksX1_together_6 7 rfl rfl)
theorem dX1_together_149 : decode cX1_together 149 = .ok (.i2l, 1) := dk_133 (dk_at dksX1_together_6 10 rfl rfl)
theorem dX1_together_150 : decode cX1_together 150 = .ok (.aload_n 0, 1) := dk_42 (dk_at dksX1_together_6 11 rfl rfl)
theorem dX1_together_151 : decode cX1_together 151 = .ok (.getfield 20, 3) := dk_180 0 20 (dk_at dksX1_together_6 12 rfl rfl)
theorem dX1_together_154 : decode cX1_together 154 = .ok (.getfield 128, 3) := dk_180 0 128 (dk_at dksX1_together_6 15 rfl rfl)
theorem dX1_together_157 : decode cX1_together 157 = .ok (.lmul, 1) := dk_105 (dk_at dksX1_together_6 18 rfl rfl)
theorem dX1_together_158 : decode cX1_together 158 = .ok (.lcmp, 1) := dk_148 (dk_at dksX1_together_6 19 rfl rfl)
theorem dX1_together_159 : decode cX1_together 159 = .ok (.ifCond .eq 10, 3) := dk_153 0 10 (dk_at dksX1_together_6 20 rfl rfl)
theorem dX1_together_162 : decode cX1_together 162 = .ok (.aload_n 0, 1) := dk_42 (dk_at dksX1_together_6 23 rfl rfl)
theorem dX1_together_163 : decode cX1_together 163 = .ok (.bipush 6, 2) := dk_16 6 (dk_at dksX1_together_7 0 rfl rfl)
theorem dX1_together_165 : decode cX1_together 165 = .ok (.invokevirtual 40, 3) := dk_182 0 40 (dk_at dksX1_together_7 2 rfl rfl)
theorem dX1_together_168 : decode cX1_together 168 = .ok (.ireturn, 1) := dk_172 (dk_at dksX1_together_7 5 rfl rfl)
theorem dX1_together_169 : decode cX1_together 169 = .ok (.aload_n 0, 1) := dk_42 (dk_at dksX1_together_7 6 rfl rfl)
theorem dX1_together_170 : decode cX1_together 170 = .ok (.getfield 20, 3) := dk_180 0 20 (dk_at dksX1_together_7 7 rfl rfl)
theorem dX1_together_173 : decode cX1_together 173 = .ok (.iconst 1, 1) := dk_4 (dk_at dksX1_together_7 10 rfl rfl)
theorem dX1_together_174 : decode cX1_together 174 = .ok (.invokevirtual 120, 3) := dk_182 0 120 (dk_at dksX1_together_7 11 rfl rfl)
theorem dX1_together_177 : decode cX1_together 177 = .ok (.lstore 7, 2) := dk_55 7 (dk_at dksX1_together_7 14 rfl rfl)
theorem dX1_together_179 : decode cX1_together 179 = .ok (.aload_n 0, 1) := dk_42 (dk_at dksX1_together_7 16 rfl rfl)
theorem dX1_together_180 : decode cX1_together 180 = .ok (.iload 5, 2) := dk_21 5 (dk_at dksX1_together_7 17 rfl rfl)
theorem dX1_together_182 : decode cX1_together 182 = .ok (.ifCond .eq 8, 3) := dk_153 0 8 (dk_at dksX1_together_7 19 rfl rfl)
theorem dX1_together_185 : decode cX1_together 185 = .ok (.lload 7, 2) := dk_22 7 (dk_at dksX1_together_7 22 rfl rfl)
theorem dX1_together_187 : decode cX1_together 187 = .ok (.goto 6, 3) := dk_167 0 6 (dk_at dksX1_together_8 0 rfl rfl)
theorem dX1_together_190 : decode cX1_together 190 = .ok (.lload 7, 2) := dk_22 7 (dk_at dksX1_together_8 3 rfl rfl)
theorem dX1_together_192 : decode cX1_together 192 = .ok (.lneg, 1) := dk_117 (dk_at dksX1_together_8 5 rfl rfl)
theorem dX1_together_193 : decode cX1_together 193 = .ok (.aload_n 0, 1) := dk_42 (dk_at dksX1_together_8 6 rfl rfl)
theorem dX1_together_194 : decode cX1_together 194 = .ok (.getfield 75, 3) := dk_180 0 75 (dk_at dksX1_together_8 7 rfl rfl)
theorem dX1_together_197 : decode cX1_together 197 = .ok (.getfield 113, 3) := dk_180 0 113 (dk_at dksX1_together_8 10 rfl rfl)
theorem dX1_together_200 : decode cX1_together 200 = .ok (.i2l, 1) := dk_133 (dk_at dksX1_together_8 13 rfl rfl)
theorem dX1_together_201 : decode cX1_together 201 = .ok (.aload_n 0, 1) := dk_42 (dk_at dksX1_together_8 14 rfl rfl)
theorem dX1_together_202 : decode cX1_together 202 = .ok (.getfield 20, 3) := dk_180 0 20 (dk_at dksX1_together_8 15 rfl rfl)
theorem dX1_together_205 : decode cX1_together 205 = .ok (.getfield 128, 3) := dk_180 0 128 (dk_at dksX1_together_8 18 rfl rfl)
theorem dX1_together_208 : decode cX1_together 208 = .ok (.lmul, 1) := dk_105 (dk_at dksX1_together_8 21 rfl rfl)
theorem dX1_together_209 : decode cX1_together 209 = .ok (.iload 6, 2) := dk_21 6 (dk_at dksX1_together_8 22 rfl rfl)
theorem dX1_together_211 : decode cX1_together 211 = .ok (.invokestatic 132, 3) := dk_184 0 132 (dk_at dksX1_together_9 0 rfl rfl)
theorem dX1_together_214 : decode cX1_together 214 = .ok (.invokevirtual 44, 3) := dk_182 0 44 (dk_at dksX1_together_9 3 rfl rfl)
theorem dX1_together_217 : decode cX1_together 217 = .ok (.ireturn, 1) := dk_172 (dk_at dksX1_together_9 6 rfl rfl)
abbrev cX1_isLook : ByteArray := prog_1_method_14_code
def yX1_isLook : MethodName := ⟨RX1, "isLook", "(I)Z"⟩
def dkwX1_isLook_1 : List UInt8 := [4, 167, 0, 4, 3, 172]
abbrev dktX1_isLook_1 : List UInt8 := dkwX1_isLook_1 ++ []
def dkwX1_isLook_0 : List UInt8 := [42, 180, 0, 75, 198, 0, 24, 27, 3, 42, 180, 0, 75, 180, 0, 95, 4, 100, 184, 0, 50, 153, 0, 7]
abbrev dktX1_isLook_0 : List UInt8 := dkwX1_isLook_0 ++ dktX1_isLook_1
theorem dksX1_isLook_0 : cX1_isLook.data.toList.drop 0 = dktX1_isLook_0 := by decide +kernel
theorem dksX1_isLook_1 : cX1_isLook.data.toList.drop 24 = dktX1_isLook_1 := dk_seg dksX1_isLook_0 24 rfl rfl
theorem dX1_isLook_0 : decode cX1_isLook 0 = .ok (.aload_n 0, 1) := dk_42 (dk_at dksX1_isLook_0 0 rfl rfl)
theorem dX1_isLook_1 : decode cX1_isLook 1 = .ok (.getfield 75, 3) := dk_180 0 75 (dk_at dksX1_isLook_0 1 rfl rfl)
theorem dX1_isLook_4 : decode cX1_isLook 4 = .ok (.ifnull 24, 3) := dk_198 0 24 (dk_at dksX1_isLook_0 4 rfl rfl)
theorem dX1_isLook_7 : decode cX1_isLook 7 = .ok (.iload_n 1, 1) := dk_27 (dk_at dksX1_isLook_0 7 rfl rfl)
theorem dX1_isLook_8 : decode cX1_isLook 8 = .ok (.iconst 0, 1) := dk_3 (dk_at dksX1_isLook_0 8 rfl rfl)
theorem dX1_isLook_9 : decode cX1_isLook 9 = .ok (.aload_n 0, 1) := dk_42 (dk_at dksX1_isLook_0 9 rfl rfl)
theorem dX1_isLook_10 : decode cX1_isLook 10 = .ok (.getfield 75, 3) := dk_180 0 75 (dk_at dksX1_isLook_0 10 rfl rfl)
theorem dX1_isLook_13 : decode cX1_isLook 13 = .ok (.getfield 95, 3) := dk_180 0 95 (dk_at dksX1_isLook_0 13 rfl rfl)
theorem dX1_isLook_16 : decode cX1_isLook 16 = .ok (.iconst 1, 1) := dk_4 (dk_at dksX1_isLook_0 16 rfl rfl)
theorem dX1_isLook_17 : decode cX1_isLook 17 = .ok (.isub, 1) := dk_100 (dk_at dksX1_isLook_0 17 rfl rfl)
theorem dX1_isLook_18 : decode cX1_isLook 18 = .ok (.invokestatic 50, 3) := dk_184 0 50 (dk_at dksX1_isLook_0 18 rfl rfl)
theorem dX1_isLook_21 : decode cX1_isLook 21 = .ok (.ifCond .eq 7, 3) := dk_153 0 7 (dk_at dksX1_isLook_0 21 rfl rfl)
theorem dX1_isLook_24 : decode cX1_isLook 24 = .ok (.iconst 1, 1) := dk_4 (dk_at dksX1_isLook_1 0 rfl rfl)
theorem dX1_isLook_25 : decode cX1_isLook 25 = .ok (.goto 4, 3) := dk_167 0 4 (dk_at dksX1_isLook_1 1 rfl rfl)
theorem dX1_isLook_28 : decode cX1_isLook 28 = .ok (.iconst 0, 1) := dk_3 (dk_at dksX1_isLook_1 4 rfl rfl)
theorem dX1_isLook_29 : decode cX1_isLook 29 = .ok (.ireturn, 1) := dk_172 (dk_at dksX1_isLook_1 5 rfl rfl)
abbrev cX1_extend : ByteArray := prog_1_method_23_code
def yX1_extend : MethodName := ⟨RX1, "extend", "(II)I"⟩
def dkwX1_extend_1 : List UInt8 := [182, 0, 44, 167, 0, 8, 42, 4, 182, 0, 40, 172]
abbrev dktX1_extend_1 : List UInt8 := dkwX1_extend_1 ++ []
def dkwX1_extend_0 : List UInt8 := [42, 27, 28, 182, 0, 149, 153, 0, 24, 42, 42, 27, 28, 182, 0, 150, 153, 0, 7, 4, 167, 0, 4, 3]
abbrev dktX1_extend_0 : List UInt8 := dkwX1_extend_0 ++ dktX1_extend_1
theorem dksX1_extend_0 : cX1_extend.data.toList.drop 0 = dktX1_extend_0 := by decide +kernel
theorem dksX1_extend_1 : cX1_extend.data.toList.drop 24 = dktX1_extend_1 := dk_seg dksX1_extend_0 24 rfl rfl
theorem dX1_extend_0 : decode cX1_extend 0 = .ok (.aload_n 0, 1) := dk_42 (dk_at dksX1_extend_0 0 rfl rfl)
theorem dX1_extend_1 : decode cX1_extend 1 = .ok (.iload_n 1, 1) := dk_27 (dk_at dksX1_extend_0 1 rfl rfl)
theorem dX1_extend_2 : decode cX1_extend 2 = .ok (.iload_n 2, 1) := dk_28 (dk_at dksX1_extend_0 2 rfl rfl)
theorem dX1_extend_3 : decode cX1_extend 3 = .ok (.invokevirtual 149, 3) := dk_182 0 149 (dk_at dksX1_extend_0 3 rfl rfl)
theorem dX1_extend_6 : decode cX1_extend 6 = .ok (.ifCond .eq 24, 3) := dk_153 0 24 (dk_at dksX1_extend_0 6 rfl rfl)
theorem dX1_extend_9 : decode cX1_extend 9 = .ok (.aload_n 0, 1) := dk_42 (dk_at dksX1_extend_0 9 rfl rfl)
theorem dX1_extend_10 : decode cX1_extend 10 = .ok (.aload_n 0, 1) := dk_42 (dk_at dksX1_extend_0 10 rfl rfl)
theorem dX1_extend_11 : decode cX1_extend 11 = .ok (.iload_n 1, 1) := dk_27 (dk_at dksX1_extend_0 11 rfl rfl)
theorem dX1_extend_12 : decode cX1_extend 12 = .ok (.iload_n 2, 1) := dk_28 (dk_at dksX1_extend_0 12 rfl rfl)
theorem dX1_extend_13 : decode cX1_extend 13 = .ok (.invokevirtual 150, 3) := dk_182 0 150 (dk_at dksX1_extend_0 13 rfl rfl)
theorem dX1_extend_16 : decode cX1_extend 16 = .ok (.ifCond .eq 7, 3) := dk_153 0 7 (dk_at dksX1_extend_0 16 rfl rfl)
theorem dX1_extend_19 : decode cX1_extend 19 = .ok (.iconst 1, 1) := dk_4 (dk_at dksX1_extend_0 19 rfl rfl)
theorem dX1_extend_20 : decode cX1_extend 20 = .ok (.goto 4, 3) := dk_167 0 4 (dk_at dksX1_extend_0 20 rfl rfl)
theorem dX1_extend_23 : decode cX1_extend 23 = .ok (.iconst 0, 1) := dk_3 (dk_at dksX1_extend_0 23 rfl rfl)
theorem dX1_extend_24 : decode cX1_extend 24 = .ok (.invokevirtual 44, 3) := dk_182 0 44 (dk_at dksX1_extend_1 0 rfl rfl)
theorem dX1_extend_27 : decode cX1_extend 27 = .ok (.goto 8, 3) := dk_167 0 8 (dk_at dksX1_extend_1 3 rfl rfl)
theorem dX1_extend_30 : decode cX1_extend 30 = .ok (.aload_n 0, 1) := dk_42 (dk_at dksX1_extend_1 6 rfl rfl)
theorem dX1_extend_31 : decode cX1_extend 31 = .ok (.iconst 1, 1) := dk_4 (dk_at dksX1_extend_1 7 rfl rfl)
theorem dX1_extend_32 : decode cX1_extend 32 = .ok (.invokevirtual 40, 3) := dk_182 0 40 (dk_at dksX1_extend_1 8 rfl rfl)
theorem dX1_extend_35 : decode cX1_extend 35 = .ok (.ireturn, 1) := dk_172 (dk_at dksX1_extend_1 11 rfl rfl)
abbrev cX1_isOutcome : ByteArray := prog_1_method_16_code
def yX1_isOutcome : MethodName := ⟨RX1, "isOutcome", "(II)Z"⟩
def dkwX1_isOutcome_1 : List UInt8 := [172]
abbrev dktX1_isOutcome_1 : List UInt8 := dkwX1_isOutcome_1 ++ []
def dkwX1_isOutcome_0 : List UInt8 := [42, 180, 0, 75, 198, 0, 19, 42, 180, 0, 91, 27, 28, 182, 0, 102, 153, 0, 7, 4, 167, 0, 4, 3]
abbrev dktX1_isOutcome_0 : List UInt8 := dkwX1_isOutcome_0 ++ dktX1_isOutcome_1
theorem dksX1_isOutcome_0 : cX1_isOutcome.data.toList.drop 0 = dktX1_isOutcome_0 := by decide +kernel
theorem dksX1_isOutcome_1 : cX1_isOutcome.data.toList.drop 24 = dktX1_isOutcome_1 := dk_seg dksX1_isOutcome_0 24 rfl rfl
theorem dX1_isOutcome_0 : decode cX1_isOutcome 0 = .ok (.aload_n 0, 1) := dk_42 (dk_at dksX1_isOutcome_0 0 rfl rfl)
theorem dX1_isOutcome_1 : decode cX1_isOutcome 1 = .ok (.getfield 75, 3) := dk_180 0 75 (dk_at dksX1_isOutcome_0 1 rfl rfl)
theorem dX1_isOutcome_4 : decode cX1_isOutcome 4 = .ok (.ifnull 19, 3) := dk_198 0 19 (dk_at dksX1_isOutcome_0 4 rfl rfl)
theorem dX1_isOutcome_7 : decode cX1_isOutcome 7 = .ok (.aload_n 0, 1) := dk_42 (dk_at dksX1_isOutcome_0 7 rfl rfl)
theorem dX1_isOutcome_8 : decode cX1_isOutcome 8 = .ok (.getfield 91, 3) := dk_180 0 91 (dk_at dksX1_isOutcome_0 8 rfl rfl)
theorem dX1_isOutcome_11 : decode cX1_isOutcome 11 = .ok (.iload_n 1, 1) := dk_27 (dk_at dksX1_isOutcome_0 11 rfl rfl)
theorem dX1_isOutcome_12 : decode cX1_isOutcome 12 = .ok (.iload_n 2, 1) := dk_28 (dk_at dksX1_isOutcome_0 12 rfl rfl)
theorem dX1_isOutcome_13 : decode cX1_isOutcome 13 = .ok (.invokevirtual 102, 3) := dk_182 0 102 (dk_at dksX1_isOutcome_0 13 rfl rfl)
theorem dX1_isOutcome_16 : decode cX1_isOutcome 16 = .ok (.ifCond .eq 7, 3) := dk_153 0 7 (dk_at dksX1_isOutcome_0 16 rfl rfl)
theorem dX1_isOutcome_19 : decode cX1_isOutcome 19 = .ok (.iconst 1, 1) := dk_4 (dk_at dksX1_isOutcome_0 19 rfl rfl)
theorem dX1_isOutcome_20 : decode cX1_isOutcome 20 = .ok (.goto 4, 3) := dk_167 0 4 (dk_at dksX1_isOutcome_0 20 rfl rfl)
theorem dX1_isOutcome_23 : decode cX1_isOutcome 23 = .ok (.iconst 0, 1) := dk_3 (dk_at dksX1_isOutcome_0 23 rfl rfl)
theorem dX1_isOutcome_24 : decode cX1_isOutcome 24 = .ok (.ireturn, 1) := dk_172 (dk_at dksX1_isOutcome_1 0 rfl rfl)
abbrev cX1_extended : ByteArray := prog_1_method_22_code
def yX1_extended : MethodName := ⟨RX1, "extended", "(II)Z"⟩
def dkwX1_extended_0 : List UInt8 := [42, 180, 0, 91, 27, 28, 42, 180, 0, 75, 182, 0, 110, 182, 0, 146, 172]
abbrev dktX1_extended_0 : List UInt8 := dkwX1_extended_0 ++ []
theorem dksX1_extended_0 : cX1_extended.data.toList.drop 0 = dktX1_extended_0 := by decide +kernel
theorem dX1_extended_0 : decode cX1_extended 0 = .ok (.aload_n 0, 1) := dk_42 (dk_at dksX1_extended_0 0 rfl rfl)
theorem dX1_extended_1 : decode cX1_extended 1 = .ok (.getfield 91, 3) := dk_180 0 91 (dk_at dksX1_extended_0 1 rfl rfl)
theorem dX1_extended_4 : decode cX1_extended 4 = .ok (.iload_n 1, 1) := dk_27 (dk_at dksX1_extended_0 4 rfl rfl)
theorem dX1_extended_5 : decode cX1_extended 5 = .ok (.iload_n 2, 1) := dk_28 (dk_at dksX1_extended_0 5 rfl rfl)
theorem dX1_extended_6 : decode cX1_extended 6 = .ok (.aload_n 0, 1) := dk_42 (dk_at dksX1_extended_0 6 rfl rfl)
theorem dX1_extended_7 : decode cX1_extended 7 = .ok (.getfield 75, 3) := dk_180 0 75 (dk_at dksX1_extended_0 7 rfl rfl)
theorem dX1_extended_10 : decode cX1_extended 10 = .ok (.invokevirtual 110, 3) := dk_182 0 110 (dk_at dksX1_extended_0 10 rfl rfl)
theorem dX1_extended_13 : decode cX1_extended 13 = .ok (.invokevirtual 146, 3) := dk_182 0 146 (dk_at dksX1_extended_0 13 rfl rfl)
theorem dX1_extended_16 : decode cX1_extended 16 = .ok (.ireturn, 1) := dk_172 (dk_at dksX1_extended_0 16 rfl rfl)
abbrev cX1_level : ByteArray := prog_1_method_25_code
def yX1_level : MethodName := ⟨RX1, "level", "()I"⟩
def dkwX1_level_2 : List UInt8 := [158, 0, 7, 5, 167, 0, 4, 6, 182, 0, 44, 172]
abbrev dktX1_level_2 : List UInt8 := dkwX1_level_2 ++ []
def dkwX1_level_1 : List UInt8 := [182, 0, 44, 172, 42, 42, 3, 182, 0, 169, 154, 0, 7, 4, 167, 0, 16, 42, 4, 182, 0, 169]
abbrev dktX1_level_1 : List UInt8 := dkwX1_level_1 ++ dktX1_level_2
def dkwX1_level_0 : List UInt8 := [42, 180, 0, 75, 199, 0, 9, 42, 4, 182, 0, 40, 172, 42, 182, 0, 165, 153, 0, 9, 42, 3]
abbrev dktX1_level_0 : List UInt8 := dkwX1_level_0 ++ dktX1_level_1
theorem dksX1_level_0 : cX1_level.data.toList.drop 0 = dktX1_level_0 := by decide +kernel
theorem dksX1_level_1 : cX1_level.data.toList.drop 22 = dktX1_level_1 := dk_seg dksX1_level_0 22 rfl rfl
theorem dksX1_level_2 : cX1_level.data.toList.drop 44 = dktX1_level_2 := dk_seg dksX1_level_1 22 rfl rfl
theorem dX1_level_0 : decode cX1_level 0 = .ok (.aload_n 0, 1) := dk_42 (dk_at dksX1_level_0 0 rfl rfl)
theorem dX1_level_1 : decode cX1_level 1 = .ok (.getfield 75, 3) := dk_180 0 75 (dk_at dksX1_level_0 1 rfl rfl)
theorem dX1_level_4 : decode cX1_level 4 = .ok (.ifnonnull 9, 3) := dk_199 0 9 (dk_at dksX1_level_0 4 rfl rfl)
theorem dX1_level_7 : decode cX1_level 7 = .ok (.aload_n 0, 1) := dk_42 (dk_at dksX1_level_0 7 rfl rfl)
theorem dX1_level_8 : decode cX1_level 8 = .ok (.iconst 1, 1) := dk_4 (dk_at dksX1_level_0 8 rfl rfl)
theorem dX1_level_9 : decode cX1_level 9 = .ok (.invokevirtual 40, 3) := dk_182 0 40 (dk_at dksX1_level_0 9 rfl rfl)
theorem dX1_level_12 : decode cX1_level 12 = .ok (.ireturn, 1) := dk_172 (dk_at dksX1_level_0 12 rfl rfl)
theorem dX1_level_13 : decode cX1_level 13 = .ok (.aload_n 0, 1) := dk_42 (dk_at dksX1_level_0 13 rfl rfl)
theorem dX1_level_14 : decode cX1_level 14 = .ok (.invokevirtual 165, 3) := dk_182 0 165 (dk_at dksX1_level_0 14 rfl rfl)
theorem dX1_level_17 : decode cX1_level 17 = .ok (.ifCond .eq 9, 3) := dk_153 0 9 (dk_at dksX1_level_0 17 rfl rfl)
theorem dX1_level_20 : decode cX1_level 20 = .ok (.aload_n 0, 1) := dk_42 (dk_at dksX1_level_0 20 rfl rfl)
theorem dX1_level_21 : decode cX1_level 21 = .ok (.iconst 0, 1) := dk_3 (dk_at dksX1_level_0 21 rfl rfl)
theorem dX1_level_22 : decode cX1_level 22 = .ok (.invokevirtual 44, 3) := dk_182 0 44 (dk_at dksX1_level_1 0 rfl rfl)
theorem dX1_level_25 : decode cX1_level 25 = .ok (.ireturn, 1) := dk_172 (dk_at dksX1_level_1 3 rfl rfl)
theorem dX1_level_26 : decode cX1_level 26 = .ok (.aload_n 0, 1) := dk_42 (dk_at dksX1_level_1 4 rfl rfl)
theorem dX1_level_27 : decode cX1_level 27 = .ok (.aload_n 0, 1) := dk_42 (dk_at dksX1_level_1 5 rfl rfl)
theorem dX1_level_28 : decode cX1_level 28 = .ok (.iconst 0, 1) := dk_3 (dk_at dksX1_level_1 6 rfl rfl)
theorem dX1_level_29 : decode cX1_level 29 = .ok (.invokevirtual 169, 3) := dk_182 0 169 (dk_at dksX1_level_1 7 rfl rfl)
theorem dX1_level_32 : decode cX1_level 32 = .ok (.ifCond .ne 7, 3) := dk_154 0 7 (dk_at dksX1_level_1 10 rfl rfl)
theorem dX1_level_35 : decode cX1_level 35 = .ok (.iconst 1, 1) := dk_4 (dk_at dksX1_level_1 13 rfl rfl)
theorem dX1_level_36 : decode cX1_level 36 = .ok (.goto 16, 3) := dk_167 0 16 (dk_at dksX1_level_1 14 rfl rfl)
theorem dX1_level_39 : decode cX1_level 39 = .ok (.aload_n 0, 1) := dk_42 (dk_at dksX1_level_1 17 rfl rfl)
theorem dX1_level_40 : decode cX1_level 40 = .ok (.iconst 1, 1) := dk_4 (dk_at dksX1_level_1 18 rfl rfl)
theorem dX1_level_41 : decode cX1_level 41 = .ok (.invokevirtual 169, 3) := dk_182 0 169 (dk_at dksX1_level_1 19 rfl rfl)
theorem dX1_level_44 : decode cX1_level 44 = .ok (.ifCond .le 7, 3) := dk_158 0 7 (dk_at dksX1_level_2 0 rfl rfl)
theorem dX1_level_47 : decode cX1_level 47 = .ok (.iconst 2, 1) := dk_5 (dk_at dksX1_level_2 3 rfl rfl)
theorem dX1_level_48 : decode cX1_level 48 = .ok (.goto 4, 3) := dk_167 0 4 (dk_at dksX1_level_2 4 rfl rfl)
theorem dX1_level_51 : decode cX1_level 51 = .ok (.iconst 3, 1) := dk_6 (dk_at dksX1_level_2 7 rfl rfl)
theorem dX1_level_52 : decode cX1_level 52 = .ok (.invokevirtual 44, 3) := dk_182 0 44 (dk_at dksX1_level_2 8 rfl rfl)
theorem dX1_level_55 : decode cX1_level 55 = .ok (.ireturn, 1) := dk_172 (dk_at dksX1_level_2 11 rfl rfl)
abbrev cX1_isMixed : ByteArray := prog_1_method_19_code
def yX1_isMixed : MethodName := ⟨RX1, "isMixed", "()Z"⟩
def dkwX1_isMixed_1 : List UInt8 := [4, 167, 0, 4, 3, 172]
abbrev dktX1_isMixed_1 : List UInt8 := dkwX1_isMixed_1 ++ []
def dkwX1_isMixed_0 : List UInt8 := [42, 182, 0, 124, 42, 180, 0, 75, 180, 0, 113, 133, 42, 180, 0, 20, 180, 0, 128, 105, 148, 154, 0, 7]
abbrev dktX1_isMixed_0 : List UInt8 := dkwX1_isMixed_0 ++ dktX1_isMixed_1
theorem dksX1_isMixed_0 : cX1_isMixed.data.toList.drop 0 = dktX1_isMixed_0 := by decide +kernel
theorem dksX1_isMixed_1 : cX1_isMixed.data.toList.drop 24 = dktX1_isMixed_1 := dk_seg dksX1_isMixed_0 24 rfl rfl
theorem dX1_isMixed_0 : decode cX1_isMixed 0 = .ok (.aload_n 0, 1) := dk_42 (dk_at dksX1_isMixed_0 0 rfl rfl)
theorem dX1_isMixed_1 : decode cX1_isMixed 1 = .ok (.invokevirtual 124, 3) := dk_182 0 124 (dk_at dksX1_isMixed_0 1 rfl rfl)
theorem dX1_isMixed_4 : decode cX1_isMixed 4 = .ok (.aload_n 0, 1) := dk_42 (dk_at dksX1_isMixed_0 4 rfl rfl)
theorem dX1_isMixed_5 : decode cX1_isMixed 5 = .ok (.getfield 75, 3) := dk_180 0 75 (dk_at dksX1_isMixed_0 5 rfl rfl)
theorem dX1_isMixed_8 : decode cX1_isMixed 8 = .ok (.getfield 113, 3) := dk_180 0 113 (dk_at dksX1_isMixed_0 8 rfl rfl)
theorem dX1_isMixed_11 : decode cX1_isMixed 11 = .ok (.i2l, 1) := dk_133 (dk_at dksX1_isMixed_0 11 rfl rfl)
theorem dX1_isMixed_12 : decode cX1_isMixed 12 = .ok (.aload_n 0, 1) := dk_42 (dk_at dksX1_isMixed_0 12 rfl rfl)
theorem dX1_isMixed_13 : decode cX1_isMixed 13 = .ok (.getfield 20, 3) := dk_180 0 20 (dk_at dksX1_isMixed_0 13 rfl rfl)
theorem dX1_isMixed_16 : decode cX1_isMixed 16 = .ok (.getfield 128, 3) := dk_180 0 128 (dk_at dksX1_isMixed_0 16 rfl rfl)
theorem dX1_isMixed_19 : decode cX1_isMixed 19 = .ok (.lmul, 1) := dk_105 (dk_at dksX1_isMixed_0 19 rfl rfl)
theorem dX1_isMixed_20 : decode cX1_isMixed 20 = .ok (.lcmp, 1) := dk_148 (dk_at dksX1_isMixed_0 20 rfl rfl)
theorem dX1_isMixed_21 : decode cX1_isMixed 21 = .ok (.ifCond .ne 7, 3) := dk_154 0 7 (dk_at dksX1_isMixed_0 21 rfl rfl)
theorem dX1_isMixed_24 : decode cX1_isMixed 24 = .ok (.iconst 1, 1) := dk_4 (dk_at dksX1_isMixed_1 0 rfl rfl)
theorem dX1_isMixed_25 : decode cX1_isMixed 25 = .ok (.goto 4, 3) := dk_167 0 4 (dk_at dksX1_isMixed_1 1 rfl rfl)
theorem dX1_isMixed_28 : decode cX1_isMixed 28 = .ok (.iconst 0, 1) := dk_3 (dk_at dksX1_isMixed_1 4 rfl rfl)
theorem dX1_isMixed_29 : decode cX1_isMixed 29 = .ok (.ireturn, 1) := dk_172 (dk_at dksX1_isMixed_1 5 rfl rfl)
abbrev cX1_possible : ByteArray := prog_1_method_24_code
def yX1_possible : MethodName := ⟨RX1, "possible", "(Z)I"⟩
def dkwX1_possible_3 : List UInt8 := [167, 255, 202, 132, 3, 1, 167, 255, 182, 28, 172]
abbrev dktX1_possible_3 : List UInt8 := dkwX1_possible_3 ++ []
def dkwX1_possible_2 : List UInt8 := [153, 0, 18, 42, 29, 21, 4, 182, 0, 150, 27, 160, 0, 7, 4, 167, 0, 4, 3, 96, 61, 132, 4, 1]
abbrev dktX1_possible_2 : List UInt8 := dkwX1_possible_2 ++ dktX1_possible_3
def dkwX1_possible_1 : List UInt8 := [29, 182, 0, 153, 182, 0, 157, 162, 0, 44, 28, 42, 180, 0, 91, 29, 182, 0, 153, 21, 4, 182, 0, 162]
abbrev dktX1_possible_1 : List UInt8 := dkwX1_possible_1 ++ dktX1_possible_2
def dkwX1_possible_0 : List UInt8 := [3, 61, 3, 62, 29, 42, 180, 0, 91, 182, 0, 98, 162, 0, 69, 3, 54, 4, 21, 4, 42, 180, 0, 91]
abbrev dktX1_possible_0 : List UInt8 := dkwX1_possible_0 ++ dktX1_possible_1
theorem dksX1_possible_0 : cX1_possible.data.toList.drop 0 = dktX1_possible_0 := by decide +kernel
theorem dksX1_possible_1 : cX1_possible.data.toList.drop 24 = dktX1_possible_1 := dk_seg dksX1_possible_0 24 rfl rfl
theorem dksX1_possible_2 : cX1_possible.data.toList.drop 48 = dktX1_possible_2 := dk_seg dksX1_possible_1 24 rfl rfl
theorem dksX1_possible_3 : cX1_possible.data.toList.drop 72 = dktX1_possible_3 := dk_seg dksX1_possible_2 24 rfl rfl
theorem dX1_possible_0 : decode cX1_possible 0 = .ok (.iconst 0, 1) := dk_3 (dk_at dksX1_possible_0 0 rfl rfl)
theorem dX1_possible_1 : decode cX1_possible 1 = .ok (.istore_n 2, 1) := dk_61 (dk_at dksX1_possible_0 1 rfl rfl)
theorem dX1_possible_2 : decode cX1_possible 2 = .ok (.iconst 0, 1) := dk_3 (dk_at dksX1_possible_0 2 rfl rfl)
theorem dX1_possible_3 : decode cX1_possible 3 = .ok (.istore_n 3, 1) := dk_62 (dk_at dksX1_possible_0 3 rfl rfl)
theorem dX1_possible_4 : decode cX1_possible 4 = .ok (.iload_n 3, 1) := dk_29 (dk_at dksX1_possible_0 4 rfl rfl)
theorem dX1_possible_5 : decode cX1_possible 5 = .ok (.aload_n 0, 1) := dk_42 (dk_at dksX1_possible_0 5 rfl rfl)
theorem dX1_possible_6 : decode cX1_possible 6 = .ok (.getfield 91, 3) := dk_180 0 91 (dk_at dksX1_possible_0 6 rfl rfl)
theorem dX1_possible_9 : decode cX1_possible 9 = .ok (.invokevirtual 98, 3) := dk_182 0 98 (dk_at dksX1_possible_0 9 rfl rfl)
theorem dX1_possible_12 : decode cX1_possible 12 = .ok (.if_icmp .ge 69, 3) := dk_162 0 69 (dk_at dksX1_possible_0 12 rfl rfl)
theorem dX1_possible_15 : decode cX1_possible 15 = .ok (.iconst 0, 1) := dk_3 (dk_at dksX1_possible_0 15 rfl rfl)
theorem dX1_possible_16 : decode cX1_possible 16 = .ok (.istore 4, 2) := dk_54 4 (dk_at dksX1_possible_0 16 rfl rfl)
theorem dX1_possible_18 : decode cX1_possible 18 = .ok (.iload 4, 2) := dk_21 4 (dk_at dksX1_possible_0 18 rfl rfl)
theorem dX1_possible_20 : decode cX1_possible 20 = .ok (.aload_n 0, 1) := dk_42 (dk_at dksX1_possible_0 20 rfl rfl)
theorem dX1_possible_21 : decode cX1_possible 21 = .ok (.getfield 91, 3) := dk_180 0 91 (dk_at dksX1_possible_0 21 rfl rfl)
theorem dX1_possible_24 : decode cX1_possible 24 = .ok (.iload_n 3, 1) := dk_29 (dk_at dksX1_possible_1 0 rfl rfl)
theorem dX1_possible_25 : decode cX1_possible 25 = .ok (.invokevirtual 153, 3) := dk_182 0 153 (dk_at dksX1_possible_1 1 rfl rfl)
theorem dX1_possible_28 : decode cX1_possible 28 = .ok (.invokevirtual 157, 3) := dk_182 0 157 (dk_at dksX1_possible_1 4 rfl rfl)
theorem dX1_possible_31 : decode cX1_possible 31 = .ok (.if_icmp .ge 44, 3) := dk_162 0 44 (dk_at dksX1_possible_1 7 rfl rfl)
theorem dX1_possible_34 : decode cX1_possible 34 = .ok (.iload_n 2, 1) := dk_28 (dk_at dksX1_possible_1 10 rfl rfl)
theorem dX1_possible_35 : decode cX1_possible 35 = .ok (.aload_n 0, 1) := dk_42 (dk_at dksX1_possible_1 11 rfl rfl)
theorem dX1_possible_36 : decode cX1_possible 36 = .ok (.getfield 91, 3) := dk_180 0 91 (dk_at dksX1_possible_1 12 rfl rfl)
theorem dX1_possible_39 : decode cX1_possible 39 = .ok (.iload_n 3, 1) := dk_29 (dk_at dksX1_possible_1 15 rfl rfl)
theorem dX1_possible_40 : decode cX1_possible 40 = .ok (.invokevirtual 153, 3) := dk_182 0 153 (dk_at dksX1_possible_1 16 rfl rfl)
theorem dX1_possible_43 : decode cX1_possible 43 = .ok (.iload 4, 2) := dk_21 4 (dk_at dksX1_possible_1 19 rfl rfl)
theorem dX1_possible_45 : decode cX1_possible 45 = .ok (.invokevirtual 162, 3) := dk_182 0 162 (dk_at dksX1_possible_1 21 rfl rfl)
theorem dX1_possible_48 : decode cX1_possible 48 = .ok (.ifCond .eq 18, 3) := dk_153 0 18 (dk_at dksX1_possible_2 0 rfl rfl)
theorem dX1_possible_51 : decode cX1_possible 51 = .ok (.aload_n 0, 1) := dk_42 (dk_at dksX1_possible_2 3 rfl rfl)
theorem dX1_possible_52 : decode cX1_possible 52 = .ok (.iload_n 3, 1) := dk_29 (dk_at dksX1_possible_2 4 rfl rfl)
theorem dX1_possible_53 : decode cX1_possible 53 = .ok (.iload 4, 2) := dk_21 4 (dk_at dksX1_possible_2 5 rfl rfl)
theorem dX1_possible_55 : decode cX1_possible 55 = .ok (.invokevirtual 150, 3) := dk_182 0 150 (dk_at dksX1_possible_2 7 rfl rfl)
theorem dX1_possible_58 : decode cX1_possible 58 = .ok (.iload_n 1, 1) := dk_27 (dk_at dksX1_possible_2 10 rfl rfl)
theorem dX1_possible_59 : decode cX1_possible 59 = .ok (.if_icmp .ne 7, 3) := dk_160 0 7 (dk_at dksX1_possible_2 11 rfl rfl)
theorem dX1_possible_62 : decode cX1_possible 62 = .ok (.iconst 1, 1) := dk_4 (dk_at dksX1_possible_2 14 rfl rfl)
theorem dX1_possible_63 : decode cX1_possible 63 = .ok (.goto 4, 3) := dk_167 0 4 (dk_at dksX1_possible_2 15 rfl rfl)
theorem dX1_possible_66 : decode cX1_possible 66 = .ok (.iconst 0, 1) := dk_3 (dk_at dksX1_possible_2 18 rfl rfl)
theorem dX1_possible_67 : decode cX1_possible 67 = .ok (.iadd, 1) := dk_96 (dk_at dksX1_possible_2 19 rfl rfl)
theorem dX1_possible_68 : decode cX1_possible 68 = .ok (.istore_n 2, 1) := dk_61 (dk_at dksX1_possible_2 20 rfl rfl)
theorem dX1_possible_69 : decode cX1_possible 69 = .ok (.iinc 4 1, 3) := dk_132 4 1 (dk_at dksX1_possible_2 21 rfl rfl)
theorem dX1_possible_72 : decode cX1_possible 72 = .ok (.goto (-54), 3) := dk_167 255 202 (dk_at dksX1_possible_3 0 rfl rfl)
theorem dX1_possible_75 : decode cX1_possible 75 = .ok (.iinc 3 1, 3) := dk_132 3 1 (dk_at dksX1_possible_3 3 rfl rfl)
theorem dX1_possible_78 : decode cX1_possible 78 = .ok (.goto (-74), 3) := dk_167 255 182 (dk_at dksX1_possible_3 6 rfl rfl)
theorem dX1_possible_81 : decode cX1_possible 81 = .ok (.iload_n 2, 1) := dk_28 (dk_at dksX1_possible_3 9 rfl rfl)
theorem dX1_possible_82 : decode cX1_possible 82 = .ok (.ireturn, 1) := dk_172 (dk_at dksX1_possible_3 10 rfl rfl)
abbrev cX1_hidden : ByteArray := prog_1_method_26_code
def yX1_hidden : MethodName := ⟨RX1, "hidden", "()I"⟩
def dkwX1_hidden_2 : List UInt8 := [96, 60, 132, 2, 1, 167, 255, 222, 42, 27, 182, 0, 44, 172]
abbrev dktX1_hidden_2 : List UInt8 := dkwX1_hidden_2 ++ []
def dkwX1_hidden_1 : List UInt8 := [182, 0, 110, 162, 0, 29, 27, 42, 180, 0, 91, 28, 2, 182, 0, 173, 153, 0, 7, 4, 167, 0, 4, 3]
abbrev dktX1_hidden_1 : List UInt8 := dkwX1_hidden_1 ++ dktX1_hidden_2
def dkwX1_hidden_0 : List UInt8 := [42, 180, 0, 75, 199, 0, 9, 42, 4, 182, 0, 40, 172, 3, 60, 3, 61, 28, 42, 180, 0, 75]
abbrev dktX1_hidden_0 : List UInt8 := dkwX1_hidden_0 ++ dktX1_hidden_1
theorem dksX1_hidden_0 : cX1_hidden.data.toList.drop 0 = dktX1_hidden_0 := by decide +kernel
theorem dksX1_hidden_1 : cX1_hidden.data.toList.drop 22 = dktX1_hidden_1 := dk_seg dksX1_hidden_0 22 rfl rfl
theorem dksX1_hidden_2 : cX1_hidden.data.toList.drop 46 = dktX1_hidden_2 := dk_seg dksX1_hidden_1 24 rfl rfl
theorem dX1_hidden_0 : decode cX1_hidden 0 = .ok (.aload_n 0, 1) := dk_42 (dk_at dksX1_hidden_0 0 rfl rfl)
theorem dX1_hidden_1 : decode cX1_hidden 1 = .ok (.getfield 75, 3) := dk_180 0 75 (dk_at dksX1_hidden_0 1 rfl rfl)
theorem dX1_hidden_4 : decode cX1_hidden 4 = .ok (.ifnonnull 9, 3) := dk_199 0 9 (dk_at dksX1_hidden_0 4 rfl rfl)
theorem dX1_hidden_7 : decode cX1_hidden 7 = .ok (.aload_n 0, 1) := dk_42 (dk_at dksX1_hidden_0 7 rfl rfl)
theorem dX1_hidden_8 : decode cX1_hidden 8 = .ok (.iconst 1, 1) := dk_4 (dk_at dksX1_hidden_0 8 rfl rfl)
theorem dX1_hidden_9 : decode cX1_hidden 9 = .ok (.invokevirtual 40, 3) := dk_182 0 40 (dk_at dksX1_hidden_0 9 rfl rfl)
theorem dX1_hidden_12 : decode cX1_hidden 12 = .ok (.ireturn, 1) := dk_172 (dk_at dksX1_hidden_0 12 rfl rfl)
theorem dX1_hidden_13 : decode cX1_hidden 13 = .ok (.iconst 0, 1) := dk_3 (dk_at dksX1_hidden_0 13 rfl rfl)
theorem dX1_hidden_14 : decode cX1_hidden 14 = .ok (.istore_n 1, 1) := dk_60 (dk_at dksX1_hidden_0 14 rfl rfl)
theorem dX1_hidden_15 : decode cX1_hidden 15 = .ok (.iconst 0, 1) := dk_3 (dk_at dksX1_hidden_0 15 rfl rfl)
theorem dX1_hidden_16 : decode cX1_hidden 16 = .ok (.istore_n 2, 1) := dk_61 (dk_at dksX1_hidden_0 16 rfl rfl)
theorem dX1_hidden_17 : decode cX1_hidden 17 = .ok (.iload_n 2, 1) := dk_28 (dk_at dksX1_hidden_0 17 rfl rfl)
theorem dX1_hidden_18 : decode cX1_hidden 18 = .ok (.aload_n 0, 1) := dk_42 (dk_at dksX1_hidden_0 18 rfl rfl)
theorem dX1_hidden_19 : decode cX1_hidden 19 = .ok (.getfield 75, 3) := dk_180 0 75 (dk_at dksX1_hidden_0 19 rfl rfl)
theorem dX1_hidden_22 : decode cX1_hidden 22 = .ok (.invokevirtual 110, 3) := dk_182 0 110 (dk_at dksX1_hidden_1 0 rfl rfl)
theorem dX1_hidden_25 : decode cX1_hidden 25 = .ok (.if_icmp .ge 29, 3) := dk_162 0 29 (dk_at dksX1_hidden_1 3 rfl rfl)
theorem dX1_hidden_28 : decode cX1_hidden 28 = .ok (.iload_n 1, 1) := dk_27 (dk_at dksX1_hidden_1 6 rfl rfl)
theorem dX1_hidden_29 : decode cX1_hidden 29 = .ok (.aload_n 0, 1) := dk_42 (dk_at dksX1_hidden_1 7 rfl rfl)
theorem dX1_hidden_30 : decode cX1_hidden 30 = .ok (.getfield 91, 3) := dk_180 0 91 (dk_at dksX1_hidden_1 8 rfl rfl)
theorem dX1_hidden_33 : decode cX1_hidden 33 = .ok (.iload_n 2, 1) := dk_28 (dk_at dksX1_hidden_1 11 rfl rfl)
theorem dX1_hidden_34 : decode cX1_hidden 34 = .ok (.iconst (-1), 1) := dk_2 (dk_at dksX1_hidden_1 12 rfl rfl)
theorem dX1_hidden_35 : decode cX1_hidden 35 = .ok (.invokevirtual 173, 3) := dk_182 0 173 (dk_at dksX1_hidden_1 13 rfl rfl)
theorem dX1_hidden_38 : decode cX1_hidden 38 = .ok (.ifCond .eq 7, 3) := dk_153 0 7 (dk_at dksX1_hidden_1 16 rfl rfl)
theorem dX1_hidden_41 : decode cX1_hidden 41 = .ok (.iconst 1, 1) := dk_4 (dk_at dksX1_hidden_1 19 rfl rfl)
theorem dX1_hidden_42 : decode cX1_hidden 42 = .ok (.goto 4, 3) := dk_167 0 4 (dk_at dksX1_hidden_1 20 rfl rfl)
theorem dX1_hidden_45 : decode cX1_hidden 45 = .ok (.iconst 0, 1) := dk_3 (dk_at dksX1_hidden_1 23 rfl rfl)
theorem dX1_hidden_46 : decode cX1_hidden 46 = .ok (.iadd, 1) := dk_96 (dk_at dksX1_hidden_2 0 rfl rfl)
theorem dX1_hidden_47 : decode cX1_hidden 47 = .ok (.istore_n 1, 1) := dk_60 (dk_at dksX1_hidden_2 1 rfl rfl)
theorem dX1_hidden_48 : decode cX1_hidden 48 = .ok (.iinc 2 1, 3) := dk_132 2 1 (dk_at dksX1_hidden_2 2 rfl rfl)
theorem dX1_hidden_51 : decode cX1_hidden 51 = .ok (.goto (-34), 3) := dk_167 255 222 (dk_at dksX1_hidden_2 5 rfl rfl)
theorem dX1_hidden_54 : decode cX1_hidden 54 = .ok (.aload_n 0, 1) := dk_42 (dk_at dksX1_hidden_2 8 rfl rfl)
theorem dX1_hidden_55 : decode cX1_hidden 55 = .ok (.iload_n 1, 1) := dk_27 (dk_at dksX1_hidden_2 9 rfl rfl)
theorem dX1_hidden_56 : decode cX1_hidden 56 = .ok (.invokevirtual 44, 3) := dk_182 0 44 (dk_at dksX1_hidden_2 10 rfl rfl)
theorem dX1_hidden_59 : decode cX1_hidden 59 = .ok (.ireturn, 1) := dk_172 (dk_at dksX1_hidden_2 13 rfl rfl)
abbrev cX1_answer : ByteArray := prog_1_method_27_code
def yX1_answer : MethodName := ⟨RX1, "answe\x72", "(I)I"⟩
def dkwX1_answer_2 : List UInt8 := [172, 132, 2, 1, 132, 3, 1, 167, 255, 206, 42, 4, 182, 0, 40, 172]
abbrev dktX1_answer_2 : List UInt8 := dkwX1_answer_2 ++ []
def dkwX1_answer_1 : List UInt8 := [180, 0, 91, 29, 2, 182, 0, 173, 154, 0, 6, 167, 0, 17, 28, 27, 160, 0, 9, 42, 29, 182, 0, 44]
abbrev dktX1_answer_1 : List UInt8 := dkwX1_answer_1 ++ dktX1_answer_2
def dkwX1_answer_0 : List UInt8 := [3, 61, 3, 62, 42, 180, 0, 75, 198, 0, 49, 29, 42, 180, 0, 75, 182, 0, 110, 162, 0, 38, 42]
abbrev dktX1_answer_0 : List UInt8 := dkwX1_answer_0 ++ dktX1_answer_1
theorem dksX1_answer_0 : cX1_answer.data.toList.drop 0 = dktX1_answer_0 := by decide +kernel
theorem dksX1_answer_1 : cX1_answer.data.toList.drop 23 = dktX1_answer_1 := dk_seg dksX1_answer_0 23 rfl rfl
theorem dksX1_answer_2 : cX1_answer.data.toList.drop 47 = dktX1_answer_2 := dk_seg dksX1_answer_1 24 rfl rfl
theorem dX1_answer_0 : decode cX1_answer 0 = .ok (.iconst 0, 1) := dk_3 (dk_at dksX1_answer_0 0 rfl rfl)
theorem dX1_answer_1 : decode cX1_answer 1 = .ok (.istore_n 2, 1) := dk_61 (dk_at dksX1_answer_0 1 rfl rfl)
theorem dX1_answer_2 : decode cX1_answer 2 = .ok (.iconst 0, 1) := dk_3 (dk_at dksX1_answer_0 2 rfl rfl)
theorem dX1_answer_3 : decode cX1_answer 3 = .ok (.istore_n 3, 1) := dk_62 (dk_at dksX1_answer_0 3 rfl rfl)
theorem dX1_answer_4 : decode cX1_answer 4 = .ok (.aload_n 0, 1) := dk_42 (dk_at dksX1_answer_0 4 rfl rfl)
theorem dX1_answer_5 : decode cX1_answer 5 = .ok (.getfield 75, 3) := dk_180 0 75 (dk_at dksX1_answer_0 5 rfl rfl)
theorem dX1_answer_8 : decode cX1_answer 8 = .ok (.ifnull 49, 3) := dk_198 0 49 (dk_at dksX1_answer_0 8 rfl rfl)
theorem dX1_answer_11 : decode cX1_answer 11 = .ok (.iload_n 3, 1) := dk_29 (dk_at dksX1_answer_0 11 rfl rfl)
theorem dX1_answer_12 : decode cX1_answer 12 = .ok (.aload_n 0, 1) := dk_42 (dk_at dksX1_answer_0 12 rfl rfl)
theorem dX1_answer_13 : decode cX1_answer 13 = .ok (.getfield 75, 3) := dk_180 0 75 (dk_at dksX1_answer_0 13 rfl rfl)
theorem dX1_answer_16 : decode cX1_answer 16 = .ok (.invokevirtual 110, 3) := dk_182 0 110 (dk_at dksX1_answer_0 16 rfl rfl)
theorem dX1_answer_19 : decode cX1_answer 19 = .ok (.if_icmp .ge 38, 3) := dk_162 0 38 (dk_at dksX1_answer_0 19 rfl rfl)
theorem dX1_answer_22 : decode cX1_answer 22 = .ok (.aload_n 0, 1) := dk_42 (dk_at dksX1_answer_0 22 rfl rfl)
theorem dX1_answer_23 : decode cX1_answer 23 = .ok (.getfield 91, 3) := dk_180 0 91 (dk_at dksX1_answer_1 0 rfl rfl)
theorem dX1_answer_26 : decode cX1_answer 26 = .ok (.iload_n 3, 1) := dk_29 (dk_at dksX1_answer_1 3 rfl rfl)
theorem dX1_answer_27 : decode cX1_answer 27 = .ok (.iconst (-1), 1) := dk_2 (dk_at dksX1_answer_1 4 rfl rfl)
theorem dX1_answer_28 : decode cX1_answer 28 = .ok (.invokevirtual 173, 3) := dk_182 0 173 (dk_at dksX1_answer_1 5 rfl rfl)
theorem dX1_answer_31 : decode cX1_answer 31 = .ok (.ifCond .ne 6, 3) := dk_154 0 6 (dk_at dksX1_answer_1 8 rfl rfl)
theorem dX1_answer_34 : decode cX1_answer 34 = .ok (.goto 17, 3) := dk_167 0 17 (dk_at dksX1_answer_1 11 rfl rfl)
theorem dX1_answer_37 : decode cX1_answer 37 = .ok (.iload_n 2, 1) := dk_28 (dk_at dksX1_answer_1 14 rfl rfl)
theorem dX1_answer_38 : decode cX1_answer 38 = .ok (.iload_n 1, 1) := dk_27 (dk_at dksX1_answer_1 15 rfl rfl)
theorem dX1_answer_39 : decode cX1_answer 39 = .ok (.if_icmp .ne 9, 3) := dk_160 0 9 (dk_at dksX1_answer_1 16 rfl rfl)
theorem dX1_answer_42 : decode cX1_answer 42 = .ok (.aload_n 0, 1) := dk_42 (dk_at dksX1_answer_1 19 rfl rfl)
theorem dX1_answer_43 : decode cX1_answer 43 = .ok (.iload_n 3, 1) := dk_29 (dk_at dksX1_answer_1 20 rfl rfl)
theorem dX1_answer_44 : decode cX1_answer 44 = .ok (.invokevirtual 44, 3) := dk_182 0 44 (dk_at dksX1_answer_1 21 rfl rfl)
theorem dX1_answer_47 : decode cX1_answer 47 = .ok (.ireturn, 1) := dk_172 (dk_at dksX1_answer_2 0 rfl rfl)
theorem dX1_answer_48 : decode cX1_answer 48 = .ok (.iinc 2 1, 3) := dk_132 2 1 (dk_at dksX1_answer_2 1 rfl rfl)
theorem dX1_answer_51 : decode cX1_answer 51 = .ok (.iinc 3 1, 3) := dk_132 3 1 (dk_at dksX1_answer_2 4 rfl rfl)
theorem dX1_answer_54 : decode cX1_answer 54 = .ok (.goto (-50), 3) := dk_167 255 206 (dk_at dksX1_answer_2 7 rfl rfl)
theorem dX1_answer_57 : decode cX1_answer 57 = .ok (.aload_n 0, 1) := dk_42 (dk_at dksX1_answer_2 10 rfl rfl)
theorem dX1_answer_58 : decode cX1_answer 58 = .ok (.iconst 1, 1) := dk_4 (dk_at dksX1_answer_2 11 rfl rfl)
theorem dX1_answer_59 : decode cX1_answer 59 = .ok (.invokevirtual 40, 3) := dk_182 0 40 (dk_at dksX1_answer_2 12 rfl rfl)
theorem dX1_answer_62 : decode cX1_answer 62 = .ok (.ireturn, 1) := dk_172 (dk_at dksX1_answer_2 15 rfl rfl)
abbrev cX1_disturbed : ByteArray := prog_1_method_28_code
def yX1_disturbed : MethodName := ⟨RX1, "disturbed", "()I"⟩
def dkwX1_disturbed_1 : List UInt8 := [180, 0, 95, 182, 0, 176, 182, 0, 44, 172]
abbrev dktX1_disturbed_1 : List UInt8 := dkwX1_disturbed_1 ++ []
def dkwX1_disturbed_0 : List UInt8 := [42, 180, 0, 75, 199, 0, 11, 42, 4, 182, 0, 40, 167, 0, 21, 42, 42, 180, 0, 91, 42, 180, 0, 75]
abbrev dktX1_disturbed_0 : List UInt8 := dkwX1_disturbed_0 ++ dktX1_disturbed_1
theorem dksX1_disturbed_0 : cX1_disturbed.data.toList.drop 0 = dktX1_disturbed_0 := by decide +kernel
theorem dksX1_disturbed_1 : cX1_disturbed.data.toList.drop 24 = dktX1_disturbed_1 := dk_seg dksX1_disturbed_0 24 rfl rfl
theorem dX1_disturbed_0 : decode cX1_disturbed 0 = .ok (.aload_n 0, 1) := dk_42 (dk_at dksX1_disturbed_0 0 rfl rfl)
theorem dX1_disturbed_1 : decode cX1_disturbed 1 = .ok (.getfield 75, 3) := dk_180 0 75 (dk_at dksX1_disturbed_0 1 rfl rfl)
theorem dX1_disturbed_4 : decode cX1_disturbed 4 = .ok (.ifnonnull 11, 3) := dk_199 0 11 (dk_at dksX1_disturbed_0 4 rfl rfl)
theorem dX1_disturbed_7 : decode cX1_disturbed 7 = .ok (.aload_n 0, 1) := dk_42 (dk_at dksX1_disturbed_0 7 rfl rfl)
theorem dX1_disturbed_8 : decode cX1_disturbed 8 = .ok (.iconst 1, 1) := dk_4 (dk_at dksX1_disturbed_0 8 rfl rfl)
theorem dX1_disturbed_9 : decode cX1_disturbed 9 = .ok (.invokevirtual 40, 3) := dk_182 0 40 (dk_at dksX1_disturbed_0 9 rfl rfl)
theorem dX1_disturbed_12 : decode cX1_disturbed 12 = .ok (.goto 21, 3) := dk_167 0 21 (dk_at dksX1_disturbed_0 12 rfl rfl)
theorem dX1_disturbed_15 : decode cX1_disturbed 15 = .ok (.aload_n 0, 1) := dk_42 (dk_at dksX1_disturbed_0 15 rfl rfl)
theorem dX1_disturbed_16 : decode cX1_disturbed 16 = .ok (.aload_n 0, 1) := dk_42 (dk_at dksX1_disturbed_0 16 rfl rfl)
theorem dX1_disturbed_17 : decode cX1_disturbed 17 = .ok (.getfield 91, 3) := dk_180 0 91 (dk_at dksX1_disturbed_0 17 rfl rfl)
theorem dX1_disturbed_20 : decode cX1_disturbed 20 = .ok (.aload_n 0, 1) := dk_42 (dk_at dksX1_disturbed_0 20 rfl rfl)
theorem dX1_disturbed_21 : decode cX1_disturbed 21 = .ok (.getfield 75, 3) := dk_180 0 75 (dk_at dksX1_disturbed_0 21 rfl rfl)
theorem dX1_disturbed_24 : decode cX1_disturbed 24 = .ok (.getfield 95, 3) := dk_180 0 95 (dk_at dksX1_disturbed_1 0 rfl rfl)
theorem dX1_disturbed_27 : decode cX1_disturbed 27 = .ok (.invokevirtual 176, 3) := dk_182 0 176 (dk_at dksX1_disturbed_1 3 rfl rfl)
theorem dX1_disturbed_30 : decode cX1_disturbed 30 = .ok (.invokevirtual 44, 3) := dk_182 0 44 (dk_at dksX1_disturbed_1 6 rfl rfl)
theorem dX1_disturbed_33 : decode cX1_disturbed 33 = .ok (.ireturn, 1) := dk_172 (dk_at dksX1_disturbed_1 9 rfl rfl)
abbrev cX1_same : ByteArray := prog_1_method_29_code
def yX1_same : MethodName := ⟨RX1, "same", "(I)I"⟩
def dkwX1_same_2 : List UInt8 := [172]
abbrev dktX1_same_2 : List UInt8 := dkwX1_same_2 ++ []
def dkwX1_same_1 : List UInt8 := [42, 180, 0, 91, 27, 182, 0, 153, 182, 0, 182, 182, 0, 44, 172, 42, 4, 182, 0, 40, 87, 17, 252, 24]
abbrev dktX1_same_1 : List UInt8 := dkwX1_same_1 ++ dktX1_same_2
def dkwX1_same_0 : List UInt8 := [42, 27, 182, 0, 179, 153, 0, 34, 42, 180, 0, 91, 27, 182, 0, 153, 182, 0, 157, 7, 160, 0, 19, 42]
abbrev dktX1_same_0 : List UInt8 := dkwX1_same_0 ++ dktX1_same_1
theorem dksX1_same_0 : cX1_same.data.toList.drop 0 = dktX1_same_0 := by decide +kernel
theorem dksX1_same_1 : cX1_same.data.toList.drop 24 = dktX1_same_1 := dk_seg dksX1_same_0 24 rfl rfl
theorem dksX1_same_2 : cX1_same.data.toList.drop 48 = dktX1_same_2 := dk_seg dksX1_same_1 24 rfl rfl
theorem dX1_same_0 : decode cX1_same 0 = .ok (.aload_n 0, 1) := dk_42 (dk_at dksX1_same_0 0 rfl rfl)
theorem dX1_same_1 : decode cX1_same 1 = .ok (.iload_n 1, 1) := dk_27 (dk_at dksX1_same_0 1 rfl rfl)
theorem dX1_same_2 : decode cX1_same 2 = .ok (.invokevirtual 179, 3) := dk_182 0 179 (dk_at dksX1_same_0 2 rfl rfl)
theorem dX1_same_5 : decode cX1_same 5 = .ok (.ifCond .eq 34, 3) := dk_153 0 34 (dk_at dksX1_same_0 5 rfl rfl)
theorem dX1_same_8 : decode cX1_same 8 = .ok (.aload_n 0, 1) := dk_42 (dk_at dksX1_same_0 8 rfl rfl)
theorem dX1_same_9 : decode cX1_same 9 = .ok (.getfield 91, 3) := dk_180 0 91 (dk_at dksX1_same_0 9 rfl rfl)
theorem dX1_same_12 : decode cX1_same 12 = .ok (.iload_n 1, 1) := dk_27 (dk_at dksX1_same_0 12 rfl rfl)
theorem dX1_same_13 : decode cX1_same 13 = .ok (.invokevirtual 153, 3) := dk_182 0 153 (dk_at dksX1_same_0 13 rfl rfl)
theorem dX1_same_16 : decode cX1_same 16 = .ok (.invokevirtual 157, 3) := dk_182 0 157 (dk_at dksX1_same_0 16 rfl rfl)
theorem dX1_same_19 : decode cX1_same 19 = .ok (.iconst 4, 1) := dk_7 (dk_at dksX1_same_0 19 rfl rfl)
theorem dX1_same_20 : decode cX1_same 20 = .ok (.if_icmp .ne 19, 3) := dk_160 0 19 (dk_at dksX1_same_0 20 rfl rfl)
theorem dX1_same_23 : decode cX1_same 23 = .ok (.aload_n 0, 1) := dk_42 (dk_at dksX1_same_0 23 rfl rfl)
theorem dX1_same_24 : decode cX1_same 24 = .ok (.aload_n 0, 1) := dk_42 (dk_at dksX1_same_1 0 rfl rfl)
theorem dX1_same_25 : decode cX1_same 25 = .ok (.getfield 91, 3) := dk_180 0 91 (dk_at dksX1_same_1 1 rfl rfl)
theorem dX1_same_28 : decode cX1_same 28 = .ok (.iload_n 1, 1) := dk_27 (dk_at dksX1_same_1 4 rfl rfl)
theorem dX1_same_29 : decode cX1_same 29 = .ok (.invokevirtual 153, 3) := dk_182 0 153 (dk_at dksX1_same_1 5 rfl rfl)
theorem dX1_same_32 : decode cX1_same 32 = .ok (.invokevirtual 182, 3) := dk_182 0 182 (dk_at dksX1_same_1 8 rfl rfl)
theorem dX1_same_35 : decode cX1_same 35 = .ok (.invokevirtual 44, 3) := dk_182 0 44 (dk_at dksX1_same_1 11 rfl rfl)
theorem dX1_same_38 : decode cX1_same 38 = .ok (.ireturn, 1) := dk_172 (dk_at dksX1_same_1 14 rfl rfl)
theorem dX1_same_39 : decode cX1_same 39 = .ok (.aload_n 0, 1) := dk_42 (dk_at dksX1_same_1 15 rfl rfl)
theorem dX1_same_40 : decode cX1_same 40 = .ok (.iconst 1, 1) := dk_4 (dk_at dksX1_same_1 16 rfl rfl)
theorem dX1_same_41 : decode cX1_same 41 = .ok (.invokevirtual 40, 3) := dk_182 0 40 (dk_at dksX1_same_1 17 rfl rfl)
theorem dX1_same_44 : decode cX1_same 44 = .ok (.pop, 1) := dk_87 (dk_at dksX1_same_1 20 rfl rfl)
theorem dX1_same_45 : decode cX1_same 45 = .ok (.sipush (-1000), 3) := dk_17 252 24 (dk_at dksX1_same_1 21 rfl rfl)
theorem dX1_same_48 : decode cX1_same 48 = .ok (.ireturn, 1) := dk_172 (dk_at dksX1_same_2 0 rfl rfl)
abbrev cX1_isSet : ByteArray := prog_1_method_15_code
def yX1_isSet : MethodName := ⟨RX1, "isSet", "(I)Z"⟩
def dkwX1_isSet_1 : List UInt8 := [4, 167, 0, 4, 3, 172]
abbrev dktX1_isSet_1 : List UInt8 := dkwX1_isSet_1 ++ []
def dkwX1_isSet_0 : List UInt8 := [42, 180, 0, 75, 198, 0, 24, 27, 3, 42, 180, 0, 91, 182, 0, 98, 4, 100, 184, 0, 50, 153, 0, 7]
abbrev dktX1_isSet_0 : List UInt8 := dkwX1_isSet_0 ++ dktX1_isSet_1
theorem dksX1_isSet_0 : cX1_isSet.data.toList.drop 0 = dktX1_isSet_0 := by decide +kernel
theorem dksX1_isSet_1 : cX1_isSet.data.toList.drop 24 = dktX1_isSet_1 := dk_seg dksX1_isSet_0 24 rfl rfl
theorem dX1_isSet_0 : decode cX1_isSet 0 = .ok (.aload_n 0, 1) := dk_42 (dk_at dksX1_isSet_0 0 rfl rfl)
theorem dX1_isSet_1 : decode cX1_isSet 1 = .ok (.getfield 75, 3) := dk_180 0 75 (dk_at dksX1_isSet_0 1 rfl rfl)
theorem dX1_isSet_4 : decode cX1_isSet 4 = .ok (.ifnull 24, 3) := dk_198 0 24 (dk_at dksX1_isSet_0 4 rfl rfl)
theorem dX1_isSet_7 : decode cX1_isSet 7 = .ok (.iload_n 1, 1) := dk_27 (dk_at dksX1_isSet_0 7 rfl rfl)
theorem dX1_isSet_8 : decode cX1_isSet 8 = .ok (.iconst 0, 1) := dk_3 (dk_at dksX1_isSet_0 8 rfl rfl)
theorem dX1_isSet_9 : decode cX1_isSet 9 = .ok (.aload_n 0, 1) := dk_42 (dk_at dksX1_isSet_0 9 rfl rfl)
theorem dX1_isSet_10 : decode cX1_isSet 10 = .ok (.getfield 91, 3) := dk_180 0 91 (dk_at dksX1_isSet_0 10 rfl rfl)
theorem dX1_isSet_13 : decode cX1_isSet 13 = .ok (.invokevirtual 98, 3) := dk_182 0 98 (dk_at dksX1_isSet_0 13 rfl rfl)
theorem dX1_isSet_16 : decode cX1_isSet 16 = .ok (.iconst 1, 1) := dk_4 (dk_at dksX1_isSet_0 16 rfl rfl)
theorem dX1_isSet_17 : decode cX1_isSet 17 = .ok (.isub, 1) := dk_100 (dk_at dksX1_isSet_0 17 rfl rfl)
theorem dX1_isSet_18 : decode cX1_isSet 18 = .ok (.invokestatic 50, 3) := dk_184 0 50 (dk_at dksX1_isSet_0 18 rfl rfl)
theorem dX1_isSet_21 : decode cX1_isSet 21 = .ok (.ifCond .eq 7, 3) := dk_153 0 7 (dk_at dksX1_isSet_0 21 rfl rfl)
theorem dX1_isSet_24 : decode cX1_isSet 24 = .ok (.iconst 1, 1) := dk_4 (dk_at dksX1_isSet_1 0 rfl rfl)
theorem dX1_isSet_25 : decode cX1_isSet 25 = .ok (.goto 4, 3) := dk_167 0 4 (dk_at dksX1_isSet_1 1 rfl rfl)
theorem dX1_isSet_28 : decode cX1_isSet 28 = .ok (.iconst 0, 1) := dk_3 (dk_at dksX1_isSet_1 4 rfl rfl)
theorem dX1_isSet_29 : decode cX1_isSet 29 = .ok (.ireturn, 1) := dk_172 (dk_at dksX1_isSet_1 5 rfl rfl)
abbrev cX1_cycles : ByteArray := prog_1_method_30_code
def yX1_cycles : MethodName := ⟨RX1, "cycles", "()I"⟩
def dkwX1_cycles_2 : List UInt8 := [96, 60, 132, 2, 1, 167, 255, 221, 42, 27, 182, 0, 44, 172]
abbrev dktX1_cycles_2 : List UInt8 := dkwX1_cycles_2 ++ []
def dkwX1_cycles_1 : List UInt8 := [182, 0, 98, 120, 162, 0, 28, 27, 42, 180, 0, 91, 28, 182, 0, 185, 153, 0, 7, 4, 167, 0, 4, 3]
abbrev dktX1_cycles_1 : List UInt8 := dkwX1_cycles_1 ++ dktX1_cycles_2
def dkwX1_cycles_0 : List UInt8 := [42, 180, 0, 75, 199, 0, 9, 42, 4, 182, 0, 40, 172, 3, 60, 3, 61, 28, 4, 42, 180, 0, 91]
abbrev dktX1_cycles_0 : List UInt8 := dkwX1_cycles_0 ++ dktX1_cycles_1
theorem dksX1_cycles_0 : cX1_cycles.data.toList.drop 0 = dktX1_cycles_0 := by decide +kernel
theorem dksX1_cycles_1 : cX1_cycles.data.toList.drop 23 = dktX1_cycles_1 := dk_seg dksX1_cycles_0 23 rfl rfl
theorem dksX1_cycles_2 : cX1_cycles.data.toList.drop 47 = dktX1_cycles_2 := dk_seg dksX1_cycles_1 24 rfl rfl
theorem dX1_cycles_0 : decode cX1_cycles 0 = .ok (.aload_n 0, 1) := dk_42 (dk_at dksX1_cycles_0 0 rfl rfl)
theorem dX1_cycles_1 : decode cX1_cycles 1 = .ok (.getfield 75, 3) := dk_180 0 75 (dk_at dksX1_cycles_0 1 rfl rfl)
theorem dX1_cycles_4 : decode cX1_cycles 4 = .ok (.ifnonnull 9, 3) := dk_199 0 9 (dk_at dksX1_cycles_0 4 rfl rfl)
theorem dX1_cycles_7 : decode cX1_cycles 7 = .ok (.aload_n 0, 1) := dk_42 (dk_at dksX1_cycles_0 7 rfl rfl)
theorem dX1_cycles_8 : decode cX1_cycles 8 = .ok (.iconst 1, 1) := dk_4 (dk_at dksX1_cycles_0 8 rfl rfl)
theorem dX1_cycles_9 : decode cX1_cycles 9 = .ok (.invokevirtual 40, 3) := dk_182 0 40 (dk_at dksX1_cycles_0 9 rfl rfl)
theorem dX1_cycles_12 : decode cX1_cycles 12 = .ok (.ireturn, 1) := dk_172 (dk_at dksX1_cycles_0 12 rfl rfl)
theorem dX1_cycles_13 : decode cX1_cycles 13 = .ok (.iconst 0, 1) := dk_3 (dk_at dksX1_cycles_0 13 rfl rfl)
theorem dX1_cycles_14 : decode cX1_cycles 14 = .ok (.istore_n 1, 1) := dk_60 (dk_at dksX1_cycles_0 14 rfl rfl)
theorem dX1_cycles_15 : decode cX1_cycles 15 = .ok (.iconst 0, 1) := dk_3 (dk_at dksX1_cycles_0 15 rfl rfl)
theorem dX1_cycles_16 : decode cX1_cycles 16 = .ok (.istore_n 2, 1) := dk_61 (dk_at dksX1_cycles_0 16 rfl rfl)
theorem dX1_cycles_17 : decode cX1_cycles 17 = .ok (.iload_n 2, 1) := dk_28 (dk_at dksX1_cycles_0 17 rfl rfl)
theorem dX1_cycles_18 : decode cX1_cycles 18 = .ok (.iconst 1, 1) := dk_4 (dk_at dksX1_cycles_0 18 rfl rfl)
theorem dX1_cycles_19 : decode cX1_cycles 19 = .ok (.aload_n 0, 1) := dk_42 (dk_at dksX1_cycles_0 19 rfl rfl)
theorem dX1_cycles_20 : decode cX1_cycles 20 = .ok (.getfield 91, 3) := dk_180 0 91 (dk_at dksX1_cycles_0 20 rfl rfl)
theorem dX1_cycles_23 : decode cX1_cycles 23 = .ok (.invokevirtual 98, 3) := dk_182 0 98 (dk_at dksX1_cycles_1 0 rfl rfl)
theorem dX1_cycles_26 : decode cX1_cycles 26 = .ok (.ishl, 1) := dk_120 (dk_at dksX1_cycles_1 3 rfl rfl)
theorem dX1_cycles_27 : decode cX1_cycles 27 = .ok (.if_icmp .ge 28, 3) := dk_162 0 28 (dk_at dksX1_cycles_1 4 rfl rfl)
theorem dX1_cycles_30 : decode cX1_cycles 30 = .ok (.iload_n 1, 1) := dk_27 (dk_at dksX1_cycles_1 7 rfl rfl)
theorem dX1_cycles_31 : decode cX1_cycles 31 = .ok (.aload_n 0, 1) := dk_42 (dk_at dksX1_cycles_1 8 rfl rfl)
theorem dX1_cycles_32 : decode cX1_cycles 32 = .ok (.getfield 91, 3) := dk_180 0 91 (dk_at dksX1_cycles_1 9 rfl rfl)
theorem dX1_cycles_35 : decode cX1_cycles 35 = .ok (.iload_n 2, 1) := dk_28 (dk_at dksX1_cycles_1 12 rfl rfl)
theorem dX1_cycles_36 : decode cX1_cycles 36 = .ok (.invokevirtual 185, 3) := dk_182 0 185 (dk_at dksX1_cycles_1 13 rfl rfl)
theorem dX1_cycles_39 : decode cX1_cycles 39 = .ok (.ifCond .eq 7, 3) := dk_153 0 7 (dk_at dksX1_cycles_1 16 rfl rfl)
theorem dX1_cycles_42 : decode cX1_cycles 42 = .ok (.iconst 1, 1) := dk_4 (dk_at dksX1_cycles_1 19 rfl rfl)
theorem dX1_cycles_43 : decode cX1_cycles 43 = .ok (.goto 4, 3) := dk_167 0 4 (dk_at dksX1_cycles_1 20 rfl rfl)
theorem dX1_cycles_46 : decode cX1_cycles 46 = .ok (.iconst 0, 1) := dk_3 (dk_at dksX1_cycles_1 23 rfl rfl)
theorem dX1_cycles_47 : decode cX1_cycles 47 = .ok (.iadd, 1) := dk_96 (dk_at dksX1_cycles_2 0 rfl rfl)
theorem dX1_cycles_48 : decode cX1_cycles 48 = .ok (.istore_n 1, 1) := dk_60 (dk_at dksX1_cycles_2 1 rfl rfl)
theorem dX1_cycles_49 : decode cX1_cycles 49 = .ok (.iinc 2 1, 3) := dk_132 2 1 (dk_at dksX1_cycles_2 2 rfl rfl)
theorem dX1_cycles_52 : decode cX1_cycles 52 = .ok (.goto (-35), 3) := dk_167 255 221 (dk_at dksX1_cycles_2 5 rfl rfl)
theorem dX1_cycles_55 : decode cX1_cycles 55 = .ok (.aload_n 0, 1) := dk_42 (dk_at dksX1_cycles_2 8 rfl rfl)
theorem dX1_cycles_56 : decode cX1_cycles 56 = .ok (.iload_n 1, 1) := dk_27 (dk_at dksX1_cycles_2 9 rfl rfl)
theorem dX1_cycles_57 : decode cX1_cycles 57 = .ok (.invokevirtual 44, 3) := dk_182 0 44 (dk_at dksX1_cycles_2 10 rfl rfl)
theorem dX1_cycles_60 : decode cX1_cycles 60 = .ok (.ireturn, 1) := dk_172 (dk_at dksX1_cycles_2 13 rfl rfl)
abbrev cX1_bits : ByteArray := prog_1_method_4_code
def yX1_bits : MethodName := ⟨RX1, "bits", "(I)I"⟩
def dkwX1_bits_0 : List UInt8 := [3, 60, 26, 61, 28, 153, 0, 15, 132, 1, 1, 28, 28, 4, 100, 126, 61, 167, 255, 243, 27, 172]
abbrev dktX1_bits_0 : List UInt8 := dkwX1_bits_0 ++ []
theorem dksX1_bits_0 : cX1_bits.data.toList.drop 0 = dktX1_bits_0 := by decide +kernel
theorem dX1_bits_0 : decode cX1_bits 0 = .ok (.iconst 0, 1) := dk_3 (dk_at dksX1_bits_0 0 rfl rfl)
theorem dX1_bits_1 : decode cX1_bits 1 = .ok (.istore_n 1, 1) := dk_60 (dk_at dksX1_bits_0 1 rfl rfl)
theorem dX1_bits_2 : decode cX1_bits 2 = .ok (.iload_n 0, 1) := dk_26 (dk_at dksX1_bits_0 2 rfl rfl)
theorem dX1_bits_3 : decode cX1_bits 3 = .ok (.istore_n 2, 1) := dk_61 (dk_at dksX1_bits_0 3 rfl rfl)
theorem dX1_bits_4 : decode cX1_bits 4 = .ok (.iload_n 2, 1) := dk_28 (dk_at dksX1_bits_0 4 rfl rfl)
theorem dX1_bits_5 : decode cX1_bits 5 = .ok (.ifCond .eq 15, 3) := dk_153 0 15 (dk_at dksX1_bits_0 5 rfl rfl)
theorem dX1_bits_8 : decode cX1_bits 8 = .ok (.iinc 1 1, 3) := dk_132 1 1 (dk_at dksX1_bits_0 8 rfl rfl)
theorem dX1_bits_11 : decode cX1_bits 11 = .ok (.iload_n 2, 1) := dk_28 (dk_at dksX1_bits_0 11 rfl rfl)
theorem dX1_bits_12 : decode cX1_bits 12 = .ok (.iload_n 2, 1) := dk_28 (dk_at dksX1_bits_0 12 rfl rfl)
theorem dX1_bits_13 : decode cX1_bits 13 = .ok (.iconst 1, 1) := dk_4 (dk_at dksX1_bits_0 13 rfl rfl)
theorem dX1_bits_14 : decode cX1_bits 14 = .ok (.isub, 1) := dk_100 (dk_at dksX1_bits_0 14 rfl rfl)
theorem dX1_bits_15 : decode cX1_bits 15 = .ok (.iand, 1) := dk_126 (dk_at dksX1_bits_0 15 rfl rfl)
theorem dX1_bits_16 : decode cX1_bits 16 = .ok (.istore_n 2, 1) := dk_61 (dk_at dksX1_bits_0 16 rfl rfl)
theorem dX1_bits_17 : decode cX1_bits 17 = .ok (.goto (-13), 3) := dk_167 255 243 (dk_at dksX1_bits_0 17 rfl rfl)
theorem dX1_bits_20 : decode cX1_bits 20 = .ok (.iload_n 1, 1) := dk_27 (dk_at dksX1_bits_0 20 rfl rfl)
theorem dX1_bits_21 : decode cX1_bits 21 = .ok (.ireturn, 1) := dk_172 (dk_at dksX1_bits_0 21 rfl rfl)
abbrev cX1_cycle : ByteArray := prog_1_method_31_code
def yX1_cycle : MethodName := ⟨RX1, "cycle", "(I)I"⟩
def dkwX1_cycle_2 : List UInt8 := [172, 132, 2, 1, 132, 3, 1, 167, 255, 205, 42, 4, 182, 0, 40, 172]
abbrev dktX1_cycle_2 : List UInt8 := dkwX1_cycle_2 ++ []
def dkwX1_cycle_1 : List UInt8 := [42, 180, 0, 91, 29, 182, 0, 185, 154, 0, 6, 167, 0, 17, 28, 27, 160, 0, 9, 42, 29, 182, 0, 44]
abbrev dktX1_cycle_1 : List UInt8 := dkwX1_cycle_1 ++ dktX1_cycle_2
def dkwX1_cycle_0 : List UInt8 := [3, 61, 3, 62, 42, 180, 0, 75, 198, 0, 50, 29, 4, 42, 180, 0, 91, 182, 0, 98, 120, 162, 0, 37]
abbrev dktX1_cycle_0 : List UInt8 := dkwX1_cycle_0 ++ dktX1_cycle_1
theorem dksX1_cycle_0 : cX1_cycle.data.toList.drop 0 = dktX1_cycle_0 := by decide +kernel
theorem dksX1_cycle_1 : cX1_cycle.data.toList.drop 24 = dktX1_cycle_1 := dk_seg dksX1_cycle_0 24 rfl rfl
theorem dksX1_cycle_2 : cX1_cycle.data.toList.drop 48 = dktX1_cycle_2 := dk_seg dksX1_cycle_1 24 rfl rfl
theorem dX1_cycle_0 : decode cX1_cycle 0 = .ok (.iconst 0, 1) := dk_3 (dk_at dksX1_cycle_0 0 rfl rfl)
theorem dX1_cycle_1 : decode cX1_cycle 1 = .ok (.istore_n 2, 1) := dk_61 (dk_at dksX1_cycle_0 1 rfl rfl)
theorem dX1_cycle_2 : decode cX1_cycle 2 = .ok (.iconst 0, 1) := dk_3 (dk_at dksX1_cycle_0 2 rfl rfl)
theorem dX1_cycle_3 : decode cX1_cycle 3 = .ok (.istore_n 3, 1) := dk_62 (dk_at dksX1_cycle_0 3 rfl rfl)
theorem dX1_cycle_4 : decode cX1_cycle 4 = .ok (.aload_n 0, 1) := dk_42 (dk_at dksX1_cycle_0 4 rfl rfl)
theorem dX1_cycle_5 : decode cX1_cycle 5 = .ok (.getfield 75, 3) := dk_180 0 75 (dk_at dksX1_cycle_0 5 rfl rfl)
theorem dX1_cycle_8 : decode cX1_cycle 8 = .ok (.ifnull 50, 3) := dk_198 0 50 (dk_at dksX1_cycle_0 8 rfl rfl)
theorem dX1_cycle_11 : decode cX1_cycle 11 = .ok (.iload_n 3, 1) := dk_29 (dk_at dksX1_cycle_0 11 rfl rfl)
theorem dX1_cycle_12 : decode cX1_cycle 12 = .ok (.iconst 1, 1) := dk_4 (dk_at dksX1_cycle_0 12 rfl rfl)
theorem dX1_cycle_13 : decode cX1_cycle 13 = .ok (.aload_n 0, 1) := dk_42 (dk_at dksX1_cycle_0 13 rfl rfl)
theorem dX1_cycle_14 : decode cX1_cycle 14 = .ok (.getfield 91, 3) := dk_180 0 91 (dk_at dksX1_cycle_0 14 rfl rfl)
theorem dX1_cycle_17 : decode cX1_cycle 17 = .ok (.invokevirtual 98, 3) := dk_182 0 98 (dk_at dksX1_cycle_0 17 rfl rfl)
theorem dX1_cycle_20 : decode cX1_cycle 20 = .ok (.ishl, 1) := dk_120 (dk_at dksX1_cycle_0 20 rfl rfl)
theorem dX1_cycle_21 : decode cX1_cycle 21 = .ok (.if_icmp .ge 37, 3) := dk_162 0 37 (dk_at dksX1_cycle_0 21 rfl rfl)
theorem dX1_cycle_24 : decode cX1_cycle 24 = .ok (.aload_n 0, 1) := dk_42 (dk_at dksX1_cycle_1 0 rfl rfl)
theorem dX1_cycle_25 : decode cX1_cycle 25 = .ok (.getfield 91, 3) := dk_180 0 91 (dk_at dksX1_cycle_1 1 rfl rfl)
theorem dX1_cycle_28 : decode cX1_cycle 28 = .ok (.iload_n 3, 1) := dk_29 (dk_at dksX1_cycle_1 4 rfl rfl)
theorem dX1_cycle_29 : decode cX1_cycle 29 = .ok (.invokevirtual 185, 3) := dk_182 0 185 (dk_at dksX1_cycle_1 5 rfl rfl)
theorem dX1_cycle_32 : decode cX1_cycle 32 = .ok (.ifCond .ne 6, 3) := dk_154 0 6 (dk_at dksX1_cycle_1 8 rfl rfl)
theorem dX1_cycle_35 : decode cX1_cycle 35 = .ok (.goto 17, 3) := dk_167 0 17 (dk_at dksX1_cycle_1 11 rfl rfl)
theorem dX1_cycle_38 : decode cX1_cycle 38 = .ok (.iload_n 2, 1) := dk_28 (dk_at dksX1_cycle_1 14 rfl rfl)
theorem dX1_cycle_39 : decode cX1_cycle 39 = .ok (.iload_n 1, 1) := dk_27 (dk_at dksX1_cycle_1 15 rfl rfl)
theorem dX1_cycle_40 : decode cX1_cycle 40 = .ok (.if_icmp .ne 9, 3) := dk_160 0 9 (dk_at dksX1_cycle_1 16 rfl rfl)
theorem dX1_cycle_43 : decode cX1_cycle 43 = .ok (.aload_n 0, 1) := dk_42 (dk_at dksX1_cycle_1 19 rfl rfl)
theorem dX1_cycle_44 : decode cX1_cycle 44 = .ok (.iload_n 3, 1) := dk_29 (dk_at dksX1_cycle_1 20 rfl rfl)
theorem dX1_cycle_45 : decode cX1_cycle 45 = .ok (.invokevirtual 44, 3) := dk_182 0 44 (dk_at dksX1_cycle_1 21 rfl rfl)
theorem dX1_cycle_48 : decode cX1_cycle 48 = .ok (.ireturn, 1) := dk_172 (dk_at dksX1_cycle_2 0 rfl rfl)
theorem dX1_cycle_49 : decode cX1_cycle 49 = .ok (.iinc 2 1, 3) := dk_132 2 1 (dk_at dksX1_cycle_2 1 rfl rfl)
theorem dX1_cycle_52 : decode cX1_cycle 52 = .ok (.iinc 3 1, 3) := dk_132 3 1 (dk_at dksX1_cycle_2 4 rfl rfl)
theorem dX1_cycle_55 : decode cX1_cycle 55 = .ok (.goto (-51), 3) := dk_167 255 205 (dk_at dksX1_cycle_2 7 rfl rfl)
theorem dX1_cycle_58 : decode cX1_cycle 58 = .ok (.aload_n 0, 1) := dk_42 (dk_at dksX1_cycle_2 10 rfl rfl)
theorem dX1_cycle_59 : decode cX1_cycle 59 = .ok (.iconst 1, 1) := dk_4 (dk_at dksX1_cycle_2 11 rfl rfl)
theorem dX1_cycle_60 : decode cX1_cycle 60 = .ok (.invokevirtual 40, 3) := dk_182 0 40 (dk_at dksX1_cycle_2 12 rfl rfl)
theorem dX1_cycle_63 : decode cX1_cycle 63 = .ok (.ireturn, 1) := dk_172 (dk_at dksX1_cycle_2 15 rfl rfl)
abbrev cX1_excess : ByteArray := prog_1_method_32_code
def yX1_excess : MethodName := ⟨RX1, "excess", "(I)I"⟩
def dkwX1_excess_3 : List UInt8 := [17, 252, 24, 172]
abbrev dktX1_excess_3 : List UInt8 := dkwX1_excess_3 ++ []
def dkwX1_excess_2 : List UInt8 := [182, 0, 188, 182, 0, 44, 172, 42, 42, 180, 0, 75, 199, 0, 7, 4, 167, 0, 4, 8, 182, 0, 40, 87]
abbrev dktX1_excess_2 : List UInt8 := dkwX1_excess_2 ++ dktX1_excess_3
def dkwX1_excess_1 : List UInt8 := [167, 0, 4, 3, 61, 28, 153, 0, 23, 42, 42, 180, 0, 91, 27, 42, 180, 0, 75, 180, 0, 113]
abbrev dktX1_excess_1 : List UInt8 := dkwX1_excess_1 ++ dktX1_excess_2
def dkwX1_excess_0 : List UInt8 := [42, 180, 0, 75, 198, 0, 22, 27, 155, 0, 18, 42, 180, 0, 91, 27, 182, 0, 185, 153, 0, 7, 4]
abbrev dktX1_excess_0 : List UInt8 := dkwX1_excess_0 ++ dktX1_excess_1
theorem dksX1_excess_0 : cX1_excess.data.toList.drop 0 = dktX1_excess_0 := by decide +kernel
theorem dksX1_excess_1 : cX1_excess.data.toList.drop 23 = dktX1_excess_1 := dk_seg dksX1_excess_0 23 rfl rfl
theorem dksX1_excess_2 : cX1_excess.data.toList.drop 45 = dktX1_excess_2 := dk_seg dksX1_excess_1 22 rfl rfl
theorem dksX1_excess_3 : cX1_excess.data.toList.drop 69 = dktX1_excess_3 := dk_seg dksX1_excess_2 24 rfl rfl
theorem dX1_excess_0 : decode cX1_excess 0 = .ok (.aload_n 0, 1) := dk_42 (dk_at dksX1_excess_0 0 rfl rfl)
theorem dX1_excess_1 : decode cX1_excess 1 = .ok (.getfield 75, 3) := dk_180 0 75 (dk_at dksX1_excess_0 1 rfl rfl)
theorem dX1_excess_4 : decode cX1_excess 4 = .ok (.ifnull 22, 3) := dk_198 0 22 (dk_at dksX1_excess_0 4 rfl rfl)
theorem dX1_excess_7 : decode cX1_excess 7 = .ok (.iload_n 1, 1) := dk_27 (dk_at dksX1_excess_0 7 rfl rfl)
theorem dX1_excess_8 : decode cX1_excess 8 = .ok (.ifCond .lt 18, 3) := dk_155 0 18 (dk_at dksX1_excess_0 8 rfl rfl)
theorem dX1_excess_11 : decode cX1_excess 11 = .ok (.aload_n 0, 1) := dk_42 (dk_at dksX1_excess_0 11 rfl rfl)
theorem dX1_excess_12 : decode cX1_excess 12 = .ok (.getfield 91, 3) := dk_180 0 91 (dk_at dksX1_excess_0 12 rfl rfl)
theorem dX1_excess_15 : decode cX1_excess 15 = .ok (.iload_n 1, 1) := dk_27 (dk_at dksX1_excess_0 15 rfl rfl)
theorem dX1_excess_16 : decode cX1_excess 16 = .ok (.invokevirtual 185, 3) := dk_182 0 185 (dk_at dksX1_excess_0 16 rfl rfl)
theorem dX1_excess_19 : decode cX1_excess 19 = .ok (.ifCond .eq 7, 3) := dk_153 0 7 (dk_at dksX1_excess_0 19 rfl rfl)
theorem dX1_excess_22 : decode cX1_excess 22 = .ok (.iconst 1, 1) := dk_4 (dk_at dksX1_excess_0 22 rfl rfl)
theorem dX1_excess_23 : decode cX1_excess 23 = .ok (.goto 4, 3) := dk_167 0 4 (dk_at dksX1_excess_1 0 rfl rfl)
theorem dX1_excess_26 : decode cX1_excess 26 = .ok (.iconst 0, 1) := dk_3 (dk_at dksX1_excess_1 3 rfl rfl)
theorem dX1_excess_27 : decode cX1_excess 27 = .ok (.istore_n 2, 1) := dk_61 (dk_at dksX1_excess_1 4 rfl rfl)
theorem dX1_excess_28 : decode cX1_excess 28 = .ok (.iload_n 2, 1) := dk_28 (dk_at dksX1_excess_1 5 rfl rfl)
theorem dX1_excess_29 : decode cX1_excess 29 = .ok (.ifCond .eq 23, 3) := dk_153 0 23 (dk_at dksX1_excess_1 6 rfl rfl)
theorem dX1_excess_32 : decode cX1_excess 32 = .ok (.aload_n 0, 1) := dk_42 (dk_at dksX1_excess_1 9 rfl rfl)
theorem dX1_excess_33 : decode cX1_excess 33 = .ok (.aload_n 0, 1) := dk_42 (dk_at dksX1_excess_1 10 rfl rfl)
theorem dX1_excess_34 : decode cX1_excess 34 = .ok (.getfield 91, 3) := dk_180 0 91 (dk_at dksX1_excess_1 11 rfl rfl)
theorem dX1_excess_37 : decode cX1_excess 37 = .ok (.iload_n 1, 1) := dk_27 (dk_at dksX1_excess_1 14 rfl rfl)
theorem dX1_excess_38 : decode cX1_excess 38 = .ok (.aload_n 0, 1) := dk_42 (dk_at dksX1_excess_1 15 rfl rfl)
theorem dX1_excess_39 : decode cX1_excess 39 = .ok (.getfield 75, 3) := dk_180 0 75 (dk_at dksX1_excess_1 16 rfl rfl)
theorem dX1_excess_42 : decode cX1_excess 42 = .ok (.getfield 113, 3) := dk_180 0 113 (dk_at dksX1_excess_1 19 rfl rfl)
theorem dX1_excess_45 : decode cX1_excess 45 = .ok (.invokevirtual 188, 3) := dk_182 0 188 (dk_at dksX1_excess_2 0 rfl rfl)
theorem dX1_excess_48 : decode cX1_excess 48 = .ok (.invokevirtual 44, 3) := dk_182 0 44 (dk_at dksX1_excess_2 3 rfl rfl)
theorem dX1_excess_51 : decode cX1_excess 51 = .ok (.ireturn, 1) := dk_172 (dk_at dksX1_excess_2 6 rfl rfl)
theorem dX1_excess_52 : decode cX1_excess 52 = .ok (.aload_n 0, 1) := dk_42 (dk_at dksX1_excess_2 7 rfl rfl)
theorem dX1_excess_53 : decode cX1_excess 53 = .ok (.aload_n 0, 1) := dk_42 (dk_at dksX1_excess_2 8 rfl rfl)
theorem dX1_excess_54 : decode cX1_excess 54 = .ok (.getfield 75, 3) := dk_180 0 75 (dk_at dksX1_excess_2 9 rfl rfl)
theorem dX1_excess_57 : decode cX1_excess 57 = .ok (.ifnonnull 7, 3) := dk_199 0 7 (dk_at dksX1_excess_2 12 rfl rfl)
theorem dX1_excess_60 : decode cX1_excess 60 = .ok (.iconst 1, 1) := dk_4 (dk_at dksX1_excess_2 15 rfl rfl)
theorem dX1_excess_61 : decode cX1_excess 61 = .ok (.goto 4, 3) := dk_167 0 4 (dk_at dksX1_excess_2 16 rfl rfl)
theorem dX1_excess_64 : decode cX1_excess 64 = .ok (.iconst 5, 1) := dk_8 (dk_at dksX1_excess_2 19 rfl rfl)
theorem dX1_excess_65 : decode cX1_excess 65 = .ok (.invokevirtual 40, 3) := dk_182 0 40 (dk_at dksX1_excess_2 20 rfl rfl)
theorem dX1_excess_68 : decode cX1_excess 68 = .ok (.pop, 1) := dk_87 (dk_at dksX1_excess_2 23 rfl rfl)
theorem dX1_excess_69 : decode cX1_excess 69 = .ok (.sipush (-1000), 3) := dk_17 252 24 (dk_at dksX1_excess_3 0 rfl rfl)
theorem dX1_excess_72 : decode cX1_excess 72 = .ok (.ireturn, 1) := dk_172 (dk_at dksX1_excess_3 3 rfl rfl)
abbrev cX1_widest : ByteArray := prog_1_method_33_code
def yX1_widest : MethodName := ⟨RX1, "widest", "()I"⟩
def dkwX1_widest_3 : List UInt8 := [180, 0, 113, 182, 0, 188, 164, 0, 5, 28, 60, 132, 2, 1, 167, 255, 188, 42, 27, 182, 0, 44, 172]
abbrev dktX1_widest_3 : List UInt8 := dkwX1_widest_3 ++ []
def dkwX1_widest_2 : List UInt8 := [42, 180, 0, 91, 28, 42, 180, 0, 75, 180, 0, 113, 182, 0, 188, 42, 180, 0, 91, 27, 42, 180, 0, 75]
abbrev dktX1_widest_2 : List UInt8 := dkwX1_widest_2 ++ dktX1_widest_3
def dkwX1_widest_1 : List UInt8 := [182, 0, 98, 120, 162, 0, 61, 42, 180, 0, 91, 28, 182, 0, 185, 153, 0, 44, 27, 16, 254, 159, 0, 36]
abbrev dktX1_widest_1 : List UInt8 := dkwX1_widest_1 ++ dktX1_widest_2
def dkwX1_widest_0 : List UInt8 := [42, 180, 0, 75, 199, 0, 9, 42, 4, 182, 0, 40, 172, 16, 254, 60, 3, 61, 28, 4, 42, 180, 0, 91]
abbrev dktX1_widest_0 : List UInt8 := dkwX1_widest_0 ++ dktX1_widest_1
theorem dksX1_widest_0 : cX1_widest.data.toList.drop 0 = dktX1_widest_0 := by decide +kernel
theorem dksX1_widest_1 : cX1_widest.data.toList.drop 24 = dktX1_widest_1 := dk_seg dksX1_widest_0 24 rfl rfl
theorem dksX1_widest_2 : cX1_widest.data.toList.drop 48 = dktX1_widest_2 := dk_seg dksX1_widest_1 24 rfl rfl
theorem dksX1_widest_3 : cX1_widest.data.toList.drop 72 = dktX1_widest_3 := dk_seg dksX1_widest_2 24 rfl rfl
theorem dX1_widest_0 : decode cX1_widest 0 = .ok (.aload_n 0, 1) := dk_42 (dk_at dksX1_widest_0 0 rfl rfl)
theorem dX1_widest_1 : decode cX1_widest 1 = .ok (.getfield 75, 3) := dk_180 0 75 (dk_at dksX1_widest_0 1 rfl rfl)
theorem dX1_widest_4 : decode cX1_widest 4 = .ok (.ifnonnull 9, 3) := dk_199 0 9 (dk_at dksX1_widest_0 4 rfl rfl)
theorem dX1_widest_7 : decode cX1_widest 7 = .ok (.aload_n 0, 1) := dk_42 (dk_at dksX1_widest_0 7 rfl rfl)
theorem dX1_widest_8 : decode cX1_widest 8 = .ok (.iconst 1, 1) := dk_4 (dk_at dksX1_widest_0 8 rfl rfl)
theorem dX1_widest_9 : decode cX1_widest 9 = .ok (.invokevirtual 40, 3) := dk_182 0 40 (dk_at dksX1_widest_0 9 rfl rfl)
theorem dX1_widest_12 : decode cX1_widest 12 = .ok (.ireturn, 1) := dk_172 (dk_at dksX1_widest_0 12 rfl rfl)
theorem dX1_widest_13 : decode cX1_widest 13 = .ok (.bipush (-2), 2) := dk_16 254 (dk_at dksX1_widest_0 13 rfl rfl)
theorem dX1_widest_15 : decode cX1_widest 15 = .ok (.istore_n 1, 1) := dk_60 (dk_at dksX1_widest_0 15 rfl rfl)
theorem dX1_widest_16 : decode cX1_widest 16 = .ok (.iconst 0, 1) := dk_3 (dk_at dksX1_widest_0 16 rfl rfl)
theorem dX1_widest_17 : decode cX1_widest 17 = .ok (.istore_n 2, 1) := dk_61 (dk_at dksX1_widest_0 17 rfl rfl)
theorem dX1_widest_18 : decode cX1_widest 18 = .ok (.iload_n 2, 1) := dk_28 (dk_at dksX1_widest_0 18 rfl rfl)
theorem dX1_widest_19 : decode cX1_widest 19 = .ok (.iconst 1, 1) := dk_4 (dk_at dksX1_widest_0 19 rfl rfl)
theorem dX1_widest_20 : decode cX1_widest 20 = .ok (.aload_n 0, 1) := dk_42 (dk_at dksX1_widest_0 20 rfl rfl)
theorem dX1_widest_21 : decode cX1_widest 21 = .ok (.getfield 91, 3) := dk_180 0 91 (dk_at dksX1_widest_0 21 rfl rfl)
theorem dX1_widest_24 : decode cX1_widest 24 = .ok (.invokevirtual 98, 3) := dk_182 0 98 (dk_at dksX1_widest_1 0 rfl rfl)
theorem dX1_widest_27 : decode cX1_widest 27 = .ok (.ishl, 1) := dk_120 (dk_at dksX1_widest_1 3 rfl rfl)
theorem dX1_widest_28 : decode cX1_widest 28 = .ok (.if_icmp .ge 61, 3) := dk_162 0 61 (dk_at dksX1_widest_1 4 rfl rfl)
theorem dX1_widest_31 : decode cX1_widest 31 = .ok (.aload_n 0, 1) := dk_42 (dk_at dksX1_widest_1 7 rfl rfl)
theorem dX1_widest_32 : decode cX1_widest 32 = .ok (.getfield 91, 3) := dk_180 0 91 (dk_at dksX1_widest_1 8 rfl rfl)
theorem dX1_widest_35 : decode cX1_widest 35 = .ok (.iload_n 2, 1) := dk_28 (dk_at dksX1_widest_1 11 rfl rfl)
theorem dX1_widest_36 : decode cX1_widest 36 = .ok (.invokevirtual 185, 3) := dk_182 0 185 (dk_at dksX1_widest_1 12 rfl rfl)
theorem dX1_widest_39 : decode cX1_widest 39 = .ok (.ifCond .eq 44, 3) := dk_153 0 44 (dk_at dksX1_widest_1 15 rfl rfl)
theorem dX1_widest_42 : decode cX1_widest 42 = .ok (.iload_n 1, 1) := dk_27 (dk_at dksX1_widest_1 18 rfl rfl)
theorem dX1_widest_43 : decode cX1_widest 43 = .ok (.bipush (-2), 2) := dk_16 254 (dk_at dksX1_widest_1 19 rfl rfl)
theorem dX1_widest_45 : decode cX1_widest 45 = .ok (.if_icmp .eq 36, 3) := dk_159 0 36 (dk_at dksX1_widest_1 21 rfl rfl)
theorem dX1_widest_48 : decode cX1_widest 48 = .ok (.aload_n 0, 1) := dk_42 (dk_at dksX1_widest_2 0 rfl rfl)
theorem dX1_widest_49 : decode cX1_widest 49 = .ok (.getfield 91, 3) := dk_180 0 91 (dk_at dksX1_widest_2 1 rfl rfl)
theorem dX1_widest_52 : decode cX1_widest 52 = .ok (.iload_n 2, 1) := dk_28 (dk_at dksX1_widest_2 4 rfl rfl)
theorem dX1_widest_53 : decode cX1_widest 53 = .ok (.aload_n 0, 1) := dk_42 (dk_at dksX1_widest_2 5 rfl rfl)
theorem dX1_widest_54 : decode cX1_widest 54 = .ok (.getfield 75, 3) := dk_180 0 75 (dk_at dksX1_widest_2 6 rfl rfl)
theorem dX1_widest_57 : decode cX1_widest 57 = .ok (.getfield 113, 3) := dk_180 0 113 (dk_at dksX1_widest_2 9 rfl rfl)
theorem dX1_widest_60 : decode cX1_widest 60 = .ok (.invokevirtual 188, 3) := dk_182 0 188 (dk_at dksX1_widest_2 12 rfl rfl)
theorem dX1_widest_63 : decode cX1_widest 63 = .ok (.aload_n 0, 1) := dk_42 (dk_at dksX1_widest_2 15 rfl rfl)
theorem dX1_widest_64 : decode cX1_widest 64 = .ok (.getfield 91, 3) := dk_180 0 91 (dk_at dksX1_widest_2 16 rfl rfl)
theorem dX1_widest_67 : decode cX1_widest 67 = .ok (.iload_n 1, 1) := dk_27 (dk_at dksX1_widest_2 19 rfl rfl)
theorem dX1_widest_68 : decode cX1_widest 68 = .ok (.aload_n 0, 1) := dk_42 (dk_at dksX1_widest_2 20 rfl rfl)
theorem dX1_widest_69 : decode cX1_widest 69 = .ok (.getfield 75, 3) := dk_180 0 75 (dk_at dksX1_widest_2 21 rfl rfl)
theorem dX1_widest_72 : decode cX1_widest 72 = .ok (.getfield 113, 3) := dk_180 0 113 (dk_at dksX1_widest_3 0 rfl rfl)
theorem dX1_widest_75 : decode cX1_widest 75 = .ok (.invokevirtual 188, 3) := dk_182 0 188 (dk_at dksX1_widest_3 3 rfl rfl)
theorem dX1_widest_78 : decode cX1_widest 78 = .ok (.if_icmp .le 5, 3) := dk_164 0 5 (dk_at dksX1_widest_3 6 rfl rfl)
theorem dX1_widest_81 : decode cX1_widest 81 = .ok (.iload_n 2, 1) := dk_28 (dk_at dksX1_widest_3 9 rfl rfl)
theorem dX1_widest_82 : decode cX1_widest 82 = .ok (.istore_n 1, 1) := dk_60 (dk_at dksX1_widest_3 10 rfl rfl)
theorem dX1_widest_83 : decode cX1_widest 83 = .ok (.iinc 2 1, 3) := dk_132 2 1 (dk_at dksX1_widest_3 11 rfl rfl)
theorem dX1_widest_86 : decode cX1_widest 86 = .ok (.goto (-68), 3) := dk_167 255 188 (dk_at dksX1_widest_3 14 rfl rfl)
theorem dX1_widest_89 : decode cX1_widest 89 = .ok (.aload_n 0, 1) := dk_42 (dk_at dksX1_widest_3 17 rfl rfl)
theorem dX1_widest_90 : decode cX1_widest 90 = .ok (.iload_n 1, 1) := dk_27 (dk_at dksX1_widest_3 18 rfl rfl)
theorem dX1_widest_91 : decode cX1_widest 91 = .ok (.invokevirtual 44, 3) := dk_182 0 44 (dk_at dksX1_widest_3 19 rfl rfl)
theorem dX1_widest_94 : decode cX1_widest 94 = .ok (.ireturn, 1) := dk_172 (dk_at dksX1_widest_3 22 rfl rfl)
abbrev cX1_stake : ByteArray := prog_1_method_34_code
def yX1_stake : MethodName := ⟨RX1, "stake", "(III)Z"⟩
def dkwX1_stake_2 : List UInt8 := [182, 0, 199, 172]
abbrev dktX1_stake_2 : List UInt8 := dkwX1_stake_2 ++ []
def dkwX1_stake_1 : List UInt8 := [154, 0, 9, 42, 5, 182, 0, 192, 172, 42, 180, 0, 91, 27, 182, 0, 153, 180, 0, 195, 28, 29, 79, 42]
abbrev dktX1_stake_1 : List UInt8 := dkwX1_stake_1 ++ dktX1_stake_2
def dkwX1_stake_0 : List UInt8 := [42, 27, 28, 182, 0, 149, 154, 0, 9, 42, 4, 182, 0, 192, 172, 29, 3, 16, 99, 184, 0, 50]
abbrev dktX1_stake_0 : List UInt8 := dkwX1_stake_0 ++ dktX1_stake_1
theorem dksX1_stake_0 : cX1_stake.data.toList.drop 0 = dktX1_stake_0 := by decide +kernel
theorem dksX1_stake_1 : cX1_stake.data.toList.drop 22 = dktX1_stake_1 := dk_seg dksX1_stake_0 22 rfl rfl
theorem dksX1_stake_2 : cX1_stake.data.toList.drop 46 = dktX1_stake_2 := dk_seg dksX1_stake_1 24 rfl rfl
theorem dX1_stake_0 : decode cX1_stake 0 = .ok (.aload_n 0, 1) := dk_42 (dk_at dksX1_stake_0 0 rfl rfl)
theorem dX1_stake_1 : decode cX1_stake 1 = .ok (.iload_n 1, 1) := dk_27 (dk_at dksX1_stake_0 1 rfl rfl)
theorem dX1_stake_2 : decode cX1_stake 2 = .ok (.iload_n 2, 1) := dk_28 (dk_at dksX1_stake_0 2 rfl rfl)
theorem dX1_stake_3 : decode cX1_stake 3 = .ok (.invokevirtual 149, 3) := dk_182 0 149 (dk_at dksX1_stake_0 3 rfl rfl)
theorem dX1_stake_6 : decode cX1_stake 6 = .ok (.ifCond .ne 9, 3) := dk_154 0 9 (dk_at dksX1_stake_0 6 rfl rfl)
theorem dX1_stake_9 : decode cX1_stake 9 = .ok (.aload_n 0, 1) := dk_42 (dk_at dksX1_stake_0 9 rfl rfl)
theorem dX1_stake_10 : decode cX1_stake 10 = .ok (.iconst 1, 1) := dk_4 (dk_at dksX1_stake_0 10 rfl rfl)
theorem dX1_stake_11 : decode cX1_stake 11 = .ok (.invokevirtual 192, 3) := dk_182 0 192 (dk_at dksX1_stake_0 11 rfl rfl)
theorem dX1_stake_14 : decode cX1_stake 14 = .ok (.ireturn, 1) := dk_172 (dk_at dksX1_stake_0 14 rfl rfl)
theorem dX1_stake_15 : decode cX1_stake 15 = .ok (.iload_n 3, 1) := dk_29 (dk_at dksX1_stake_0 15 rfl rfl)
theorem dX1_stake_16 : decode cX1_stake 16 = .ok (.iconst 0, 1) := dk_3 (dk_at dksX1_stake_0 16 rfl rfl)
theorem dX1_stake_17 : decode cX1_stake 17 = .ok (.bipush 99, 2) := dk_16 99 (dk_at dksX1_stake_0 17 rfl rfl)
theorem dX1_stake_19 : decode cX1_stake 19 = .ok (.invokestatic 50, 3) := dk_184 0 50 (dk_at dksX1_stake_0 19 rfl rfl)
theorem dX1_stake_22 : decode cX1_stake 22 = .ok (.ifCond .ne 9, 3) := dk_154 0 9 (dk_at dksX1_stake_1 0 rfl rfl)
theorem dX1_stake_25 : decode cX1_stake 25 = .ok (.aload_n 0, 1) := dk_42 (dk_at dksX1_stake_1 3 rfl rfl)
theorem dX1_stake_26 : decode cX1_stake 26 = .ok (.iconst 2, 1) := dk_5 (dk_at dksX1_stake_1 4 rfl rfl)
theorem dX1_stake_27 : decode cX1_stake 27 = .ok (.invokevirtual 192, 3) := dk_182 0 192 (dk_at dksX1_stake_1 5 rfl rfl)
theorem dX1_stake_30 : decode cX1_stake 30 = .ok (.ireturn, 1) := dk_172 (dk_at dksX1_stake_1 8 rfl rfl)
theorem dX1_stake_31 : decode cX1_stake 31 = .ok (.aload_n 0, 1) := dk_42 (dk_at dksX1_stake_1 9 rfl rfl)
theorem dX1_stake_32 : decode cX1_stake 32 = .ok (.getfield 91, 3) := dk_180 0 91 (dk_at dksX1_stake_1 10 rfl rfl)
theorem dX1_stake_35 : decode cX1_stake 35 = .ok (.iload_n 1, 1) := dk_27 (dk_at dksX1_stake_1 13 rfl rfl)
theorem dX1_stake_36 : decode cX1_stake 36 = .ok (.invokevirtual 153, 3) := dk_182 0 153 (dk_at dksX1_stake_1 14 rfl rfl)
theorem dX1_stake_39 : decode cX1_stake 39 = .ok (.getfield 195, 3) := dk_180 0 195 (dk_at dksX1_stake_1 17 rfl rfl)
theorem dX1_stake_42 : decode cX1_stake 42 = .ok (.iload_n 2, 1) := dk_28 (dk_at dksX1_stake_1 20 rfl rfl)
theorem dX1_stake_43 : decode cX1_stake 43 = .ok (.iload_n 3, 1) := dk_29 (dk_at dksX1_stake_1 21 rfl rfl)
theorem dX1_stake_44 : decode cX1_stake 44 = .ok (.iastore, 1) := dk_79 (dk_at dksX1_stake_1 22 rfl rfl)
theorem dX1_stake_45 : decode cX1_stake 45 = .ok (.aload_n 0, 1) := dk_42 (dk_at dksX1_stake_1 23 rfl rfl)
theorem dX1_stake_46 : decode cX1_stake 46 = .ok (.invokevirtual 199, 3) := dk_182 0 199 (dk_at dksX1_stake_2 0 rfl rfl)
theorem dX1_stake_49 : decode cX1_stake 49 = .ok (.ireturn, 1) := dk_172 (dk_at dksX1_stake_2 3 rfl rfl)
abbrev cX1_denied : ByteArray := prog_1_method_7_code
def yX1_denied : MethodName := ⟨RX1, "denied", "(I)Z"⟩
def dkwX1_denied_0 : List UInt8 := [42, 27, 182, 0, 40, 87, 3, 172]
abbrev dktX1_denied_0 : List UInt8 := dkwX1_denied_0 ++ []
theorem dksX1_denied_0 : cX1_denied.data.toList.drop 0 = dktX1_denied_0 := by decide +kernel
theorem dX1_denied_0 : decode cX1_denied 0 = .ok (.aload_n 0, 1) := dk_42 (dk_at dksX1_denied_0 0 rfl rfl)
theorem dX1_denied_1 : decode cX1_denied 1 = .ok (.iload_n 1, 1) := dk_27 (dk_at dksX1_denied_0 1 rfl rfl)
theorem dX1_denied_2 : decode cX1_denied 2 = .ok (.invokevirtual 40, 3) := dk_182 0 40 (dk_at dksX1_denied_0 2 rfl rfl)
theorem dX1_denied_5 : decode cX1_denied 5 = .ok (.pop, 1) := dk_87 (dk_at dksX1_denied_0 5 rfl rfl)
theorem dX1_denied_6 : decode cX1_denied 6 = .ok (.iconst 0, 1) := dk_3 (dk_at dksX1_denied_0 6 rfl rfl)
theorem dX1_denied_7 : decode cX1_denied 7 = .ok (.ireturn, 1) := dk_172 (dk_at dksX1_denied_0 7 rfl rfl)
abbrev cX1_granted : ByteArray := prog_1_method_9_code
def yX1_granted : MethodName := ⟨RX1, "granted", "()Z"⟩
def dkwX1_granted_0 : List UInt8 := [42, 3, 182, 0, 44, 87, 4, 172]
abbrev dktX1_granted_0 : List UInt8 := dkwX1_granted_0 ++ []
theorem dksX1_granted_0 : cX1_granted.data.toList.drop 0 = dktX1_granted_0 := by decide +kernel
theorem dX1_granted_0 : decode cX1_granted 0 = .ok (.aload_n 0, 1) := dk_42 (dk_at dksX1_granted_0 0 rfl rfl)
theorem dX1_granted_1 : decode cX1_granted 1 = .ok (.iconst 0, 1) := dk_3 (dk_at dksX1_granted_0 1 rfl rfl)
theorem dX1_granted_2 : decode cX1_granted 2 = .ok (.invokevirtual 44, 3) := dk_182 0 44 (dk_at dksX1_granted_0 2 rfl rfl)
theorem dX1_granted_5 : decode cX1_granted 5 = .ok (.pop, 1) := dk_87 (dk_at dksX1_granted_0 5 rfl rfl)
theorem dX1_granted_6 : decode cX1_granted 6 = .ok (.iconst 1, 1) := dk_4 (dk_at dksX1_granted_0 6 rfl rfl)
theorem dX1_granted_7 : decode cX1_granted 7 = .ok (.ireturn, 1) := dk_172 (dk_at dksX1_granted_0 7 rfl rfl)
abbrev cX1_wins : ByteArray := prog_1_method_35_code
def yX1_wins : MethodName := ⟨RX1, "wins", "()I"⟩
def dkwX1_wins_1 : List UInt8 := [182, 0, 44, 172]
abbrev dktX1_wins_1 : List UInt8 := dkwX1_wins_1 ++ []
def dkwX1_wins_0 : List UInt8 := [42, 180, 0, 75, 199, 0, 11, 42, 4, 182, 0, 40, 167, 0, 14, 42, 42, 180, 0, 91, 182, 0, 202]
abbrev dktX1_wins_0 : List UInt8 := dkwX1_wins_0 ++ dktX1_wins_1
theorem dksX1_wins_0 : cX1_wins.data.toList.drop 0 = dktX1_wins_0 := by decide +kernel
theorem dksX1_wins_1 : cX1_wins.data.toList.drop 23 = dktX1_wins_1 := dk_seg dksX1_wins_0 23 rfl rfl
theorem dX1_wins_0 : decode cX1_wins 0 = .ok (.aload_n 0, 1) := dk_42 (dk_at dksX1_wins_0 0 rfl rfl)
theorem dX1_wins_1 : decode cX1_wins 1 = .ok (.getfield 75, 3) := dk_180 0 75 (dk_at dksX1_wins_0 1 rfl rfl)
theorem dX1_wins_4 : decode cX1_wins 4 = .ok (.ifnonnull 11, 3) := dk_199 0 11 (dk_at dksX1_wins_0 4 rfl rfl)
theorem dX1_wins_7 : decode cX1_wins 7 = .ok (.aload_n 0, 1) := dk_42 (dk_at dksX1_wins_0 7 rfl rfl)
theorem dX1_wins_8 : decode cX1_wins 8 = .ok (.iconst 1, 1) := dk_4 (dk_at dksX1_wins_0 8 rfl rfl)
theorem dX1_wins_9 : decode cX1_wins 9 = .ok (.invokevirtual 40, 3) := dk_182 0 40 (dk_at dksX1_wins_0 9 rfl rfl)
theorem dX1_wins_12 : decode cX1_wins 12 = .ok (.goto 14, 3) := dk_167 0 14 (dk_at dksX1_wins_0 12 rfl rfl)
theorem dX1_wins_15 : decode cX1_wins 15 = .ok (.aload_n 0, 1) := dk_42 (dk_at dksX1_wins_0 15 rfl rfl)
theorem dX1_wins_16 : decode cX1_wins 16 = .ok (.aload_n 0, 1) := dk_42 (dk_at dksX1_wins_0 16 rfl rfl)
theorem dX1_wins_17 : decode cX1_wins 17 = .ok (.getfield 91, 3) := dk_180 0 91 (dk_at dksX1_wins_0 17 rfl rfl)
theorem dX1_wins_20 : decode cX1_wins 20 = .ok (.invokevirtual 202, 3) := dk_182 0 202 (dk_at dksX1_wins_0 20 rfl rfl)
theorem dX1_wins_23 : decode cX1_wins 23 = .ok (.invokevirtual 44, 3) := dk_182 0 44 (dk_at dksX1_wins_1 0 rfl rfl)
theorem dX1_wins_26 : decode cX1_wins 26 = .ok (.ireturn, 1) := dk_172 (dk_at dksX1_wins_1 3 rfl rfl)
abbrev cX1_worst : ByteArray := prog_1_method_37_code
def yX1_worst : MethodName := ⟨RX1, "worst", "()I"⟩
def dkwX1_worst_1 : List UInt8 := [182, 0, 205, 182, 0, 44, 172]
abbrev dktX1_worst_1 : List UInt8 := dkwX1_worst_1 ++ []
def dkwX1_worst_0 : List UInt8 := [42, 180, 0, 75, 199, 0, 11, 42, 4, 182, 0, 40, 167, 0, 18, 42, 42, 180, 0, 91, 42, 182, 0, 208]
abbrev dktX1_worst_0 : List UInt8 := dkwX1_worst_0 ++ dktX1_worst_1
theorem dksX1_worst_0 : cX1_worst.data.toList.drop 0 = dktX1_worst_0 := by decide +kernel
theorem dksX1_worst_1 : cX1_worst.data.toList.drop 24 = dktX1_worst_1 := dk_seg dksX1_worst_0 24 rfl rfl
theorem dX1_worst_0 : decode cX1_worst 0 = .ok (.aload_n 0, 1) := dk_42 (dk_at dksX1_worst_0 0 rfl rfl)
theorem dX1_worst_1 : decode cX1_worst 1 = .ok (.getfield 75, 3) := dk_180 0 75 (dk_at dksX1_worst_0 1 rfl rfl)
theorem dX1_worst_4 : decode cX1_worst 4 = .ok (.ifnonnull 11, 3) := dk_199 0 11 (dk_at dksX1_worst_0 4 rfl rfl)
theorem dX1_worst_7 : decode cX1_worst 7 = .ok (.aload_n 0, 1) := dk_42 (dk_at dksX1_worst_0 7 rfl rfl)
theorem dX1_worst_8 : decode cX1_worst 8 = .ok (.iconst 1, 1) := dk_4 (dk_at dksX1_worst_0 8 rfl rfl)
theorem dX1_worst_9 : decode cX1_worst 9 = .ok (.invokevirtual 40, 3) := dk_182 0 40 (dk_at dksX1_worst_0 9 rfl rfl)
theorem dX1_worst_12 : decode cX1_worst 12 = .ok (.goto 18, 3) := dk_167 0 18 (dk_at dksX1_worst_0 12 rfl rfl)
theorem dX1_worst_15 : decode cX1_worst 15 = .ok (.aload_n 0, 1) := dk_42 (dk_at dksX1_worst_0 15 rfl rfl)
theorem dX1_worst_16 : decode cX1_worst 16 = .ok (.aload_n 0, 1) := dk_42 (dk_at dksX1_worst_0 16 rfl rfl)
theorem dX1_worst_17 : decode cX1_worst 17 = .ok (.getfield 91, 3) := dk_180 0 91 (dk_at dksX1_worst_0 17 rfl rfl)
theorem dX1_worst_20 : decode cX1_worst 20 = .ok (.aload_n 0, 1) := dk_42 (dk_at dksX1_worst_0 20 rfl rfl)
theorem dX1_worst_21 : decode cX1_worst 21 = .ok (.invokevirtual 208, 3) := dk_182 0 208 (dk_at dksX1_worst_0 21 rfl rfl)
theorem dX1_worst_24 : decode cX1_worst 24 = .ok (.invokevirtual 205, 3) := dk_182 0 205 (dk_at dksX1_worst_1 0 rfl rfl)
theorem dX1_worst_27 : decode cX1_worst 27 = .ok (.invokevirtual 44, 3) := dk_182 0 44 (dk_at dksX1_worst_1 3 rfl rfl)
theorem dX1_worst_30 : decode cX1_worst 30 = .ok (.ireturn, 1) := dk_172 (dk_at dksX1_worst_1 6 rfl rfl)
abbrev cX1_leastPays : ByteArray := prog_1_method_36_code
def yX1_leastPays : MethodName := ⟨RX1, "leastPays", "()I"⟩
def dkwX1_leastPays_1 : List UInt8 := [180, 0, 91, 27, 182, 0, 205, 162, 0, 5, 28, 60, 132, 2, 1, 167, 255, 221, 27, 172]
abbrev dktX1_leastPays_1 : List UInt8 := dkwX1_leastPays_1 ++ []
def dkwX1_leastPays_0 : List UInt8 := [3, 60, 4, 61, 28, 42, 180, 0, 75, 182, 0, 110, 162, 0, 30, 42, 180, 0, 91, 28, 182, 0, 205, 42]
abbrev dktX1_leastPays_0 : List UInt8 := dkwX1_leastPays_0 ++ dktX1_leastPays_1
theorem dksX1_leastPays_0 : cX1_leastPays.data.toList.drop 0 = dktX1_leastPays_0 := by decide +kernel
theorem dksX1_leastPays_1 : cX1_leastPays.data.toList.drop 24 = dktX1_leastPays_1 := dk_seg dksX1_leastPays_0 24 rfl rfl
theorem dX1_leastPays_0 : decode cX1_leastPays 0 = .ok (.iconst 0, 1) := dk_3 (dk_at dksX1_leastPays_0 0 rfl rfl)
theorem dX1_leastPays_1 : decode cX1_leastPays 1 = .ok (.istore_n 1, 1) := dk_60 (dk_at dksX1_leastPays_0 1 rfl rfl)
theorem dX1_leastPays_2 : decode cX1_leastPays 2 = .ok (.iconst 1, 1) := dk_4 (dk_at dksX1_leastPays_0 2 rfl rfl)
theorem dX1_leastPays_3 : decode cX1_leastPays 3 = .ok (.istore_n 2, 1) := dk_61 (dk_at dksX1_leastPays_0 3 rfl rfl)
theorem dX1_leastPays_4 : decode cX1_leastPays 4 = .ok (.iload_n 2, 1) := dk_28 (dk_at dksX1_leastPays_0 4 rfl rfl)
theorem dX1_leastPays_5 : decode cX1_leastPays 5 = .ok (.aload_n 0, 1) := dk_42 (dk_at dksX1_leastPays_0 5 rfl rfl)
theorem dX1_leastPays_6 : decode cX1_leastPays 6 = .ok (.getfield 75, 3) := dk_180 0 75 (dk_at dksX1_leastPays_0 6 rfl rfl)
theorem dX1_leastPays_9 : decode cX1_leastPays 9 = .ok (.invokevirtual 110, 3) := dk_182 0 110 (dk_at dksX1_leastPays_0 9 rfl rfl)
theorem dX1_leastPays_12 : decode cX1_leastPays 12 = .ok (.if_icmp .ge 30, 3) := dk_162 0 30 (dk_at dksX1_leastPays_0 12 rfl rfl)
theorem dX1_leastPays_15 : decode cX1_leastPays 15 = .ok (.aload_n 0, 1) := dk_42 (dk_at dksX1_leastPays_0 15 rfl rfl)
theorem dX1_leastPays_16 : decode cX1_leastPays 16 = .ok (.getfield 91, 3) := dk_180 0 91 (dk_at dksX1_leastPays_0 16 rfl rfl)
theorem dX1_leastPays_19 : decode cX1_leastPays 19 = .ok (.iload_n 2, 1) := dk_28 (dk_at dksX1_leastPays_0 19 rfl rfl)
theorem dX1_leastPays_20 : decode cX1_leastPays 20 = .ok (.invokevirtual 205, 3) := dk_182 0 205 (dk_at dksX1_leastPays_0 20 rfl rfl)
theorem dX1_leastPays_23 : decode cX1_leastPays 23 = .ok (.aload_n 0, 1) := dk_42 (dk_at dksX1_leastPays_0 23 rfl rfl)
theorem dX1_leastPays_24 : decode cX1_leastPays 24 = .ok (.getfield 91, 3) := dk_180 0 91 (dk_at dksX1_leastPays_1 0 rfl rfl)
theorem dX1_leastPays_27 : decode cX1_leastPays 27 = .ok (.iload_n 1, 1) := dk_27 (dk_at dksX1_leastPays_1 3 rfl rfl)
theorem dX1_leastPays_28 : decode cX1_leastPays 28 = .ok (.invokevirtual 205, 3) := dk_182 0 205 (dk_at dksX1_leastPays_1 4 rfl rfl)
theorem dX1_leastPays_31 : decode cX1_leastPays 31 = .ok (.if_icmp .ge 5, 3) := dk_162 0 5 (dk_at dksX1_leastPays_1 7 rfl rfl)
theorem dX1_leastPays_34 : decode cX1_leastPays 34 = .ok (.iload_n 2, 1) := dk_28 (dk_at dksX1_leastPays_1 10 rfl rfl)
theorem dX1_leastPays_35 : decode cX1_leastPays 35 = .ok (.istore_n 1, 1) := dk_60 (dk_at dksX1_leastPays_1 11 rfl rfl)
theorem dX1_leastPays_36 : decode cX1_leastPays 36 = .ok (.iinc 2 1, 3) := dk_132 2 1 (dk_at dksX1_leastPays_1 12 rfl rfl)
theorem dX1_leastPays_39 : decode cX1_leastPays 39 = .ok (.goto (-35), 3) := dk_167 255 221 (dk_at dksX1_leastPays_1 15 rfl rfl)
theorem dX1_leastPays_42 : decode cX1_leastPays 42 = .ok (.iload_n 1, 1) := dk_27 (dk_at dksX1_leastPays_1 18 rfl rfl)
theorem dX1_leastPays_43 : decode cX1_leastPays 43 = .ok (.ireturn, 1) := dk_172 (dk_at dksX1_leastPays_1 19 rfl rfl)
abbrev cX1_worstAt : ByteArray := prog_1_method_38_code
def yX1_worstAt : MethodName := ⟨RX1, "worstAt", "()I"⟩
def dkwX1_worstAt_0 : List UInt8 := [42, 180, 0, 75, 199, 0, 11, 42, 4, 182, 0, 40, 167, 0, 11, 42, 42, 182, 0, 208, 182, 0, 44, 172]
abbrev dktX1_worstAt_0 : List UInt8 := dkwX1_worstAt_0 ++ []
theorem dksX1_worstAt_0 : cX1_worstAt.data.toList.drop 0 = dktX1_worstAt_0 := by decide +kernel
theorem dX1_worstAt_0 : decode cX1_worstAt 0 = .ok (.aload_n 0, 1) := dk_42 (dk_at dksX1_worstAt_0 0 rfl rfl)
theorem dX1_worstAt_1 : decode cX1_worstAt 1 = .ok (.getfield 75, 3) := dk_180 0 75 (dk_at dksX1_worstAt_0 1 rfl rfl)
theorem dX1_worstAt_4 : decode cX1_worstAt 4 = .ok (.ifnonnull 11, 3) := dk_199 0 11 (dk_at dksX1_worstAt_0 4 rfl rfl)
theorem dX1_worstAt_7 : decode cX1_worstAt 7 = .ok (.aload_n 0, 1) := dk_42 (dk_at dksX1_worstAt_0 7 rfl rfl)
theorem dX1_worstAt_8 : decode cX1_worstAt 8 = .ok (.iconst 1, 1) := dk_4 (dk_at dksX1_worstAt_0 8 rfl rfl)
theorem dX1_worstAt_9 : decode cX1_worstAt 9 = .ok (.invokevirtual 40, 3) := dk_182 0 40 (dk_at dksX1_worstAt_0 9 rfl rfl)
theorem dX1_worstAt_12 : decode cX1_worstAt 12 = .ok (.goto 11, 3) := dk_167 0 11 (dk_at dksX1_worstAt_0 12 rfl rfl)
theorem dX1_worstAt_15 : decode cX1_worstAt 15 = .ok (.aload_n 0, 1) := dk_42 (dk_at dksX1_worstAt_0 15 rfl rfl)
theorem dX1_worstAt_16 : decode cX1_worstAt 16 = .ok (.aload_n 0, 1) := dk_42 (dk_at dksX1_worstAt_0 16 rfl rfl)
theorem dX1_worstAt_17 : decode cX1_worstAt 17 = .ok (.invokevirtual 208, 3) := dk_182 0 208 (dk_at dksX1_worstAt_0 17 rfl rfl)
theorem dX1_worstAt_20 : decode cX1_worstAt 20 = .ok (.invokevirtual 44, 3) := dk_182 0 44 (dk_at dksX1_worstAt_0 20 rfl rfl)
theorem dX1_worstAt_23 : decode cX1_worstAt 23 = .ok (.ireturn, 1) := dk_172 (dk_at dksX1_worstAt_0 23 rfl rfl)
abbrev cX1_bars : ByteArray := prog_1_method_39_code
def yX1_bars : MethodName := ⟨RX1, "bars", "()I"⟩
def dkwX1_bars_2 : List UInt8 := [167, 0, 4, 3, 182, 0, 44, 172]
abbrev dktX1_bars_2 : List UInt8 := dkwX1_bars_2 ++ []
def dkwX1_bars_1 : List UInt8 := [180, 0, 91, 42, 182, 0, 208, 182, 0, 205, 42, 180, 0, 75, 180, 0, 113, 104, 162, 0, 7, 4]
abbrev dktX1_bars_1 : List UInt8 := dkwX1_bars_1 ++ dktX1_bars_2
def dkwX1_bars_0 : List UInt8 := [42, 180, 0, 75, 199, 0, 11, 42, 4, 182, 0, 40, 167, 0, 41, 42, 42, 180, 0, 91, 182, 0, 202, 42]
abbrev dktX1_bars_0 : List UInt8 := dkwX1_bars_0 ++ dktX1_bars_1
theorem dksX1_bars_0 : cX1_bars.data.toList.drop 0 = dktX1_bars_0 := by decide +kernel
theorem dksX1_bars_1 : cX1_bars.data.toList.drop 24 = dktX1_bars_1 := dk_seg dksX1_bars_0 24 rfl rfl
theorem dksX1_bars_2 : cX1_bars.data.toList.drop 46 = dktX1_bars_2 := dk_seg dksX1_bars_1 22 rfl rfl
theorem dX1_bars_0 : decode cX1_bars 0 = .ok (.aload_n 0, 1) := dk_42 (dk_at dksX1_bars_0 0 rfl rfl)
theorem dX1_bars_1 : decode cX1_bars 1 = .ok (.getfield 75, 3) := dk_180 0 75 (dk_at dksX1_bars_0 1 rfl rfl)
theorem dX1_bars_4 : decode cX1_bars 4 = .ok (.ifnonnull 11, 3) := dk_199 0 11 (dk_at dksX1_bars_0 4 rfl rfl)
theorem dX1_bars_7 : decode cX1_bars 7 = .ok (.aload_n 0, 1) := dk_42 (dk_at dksX1_bars_0 7 rfl rfl)
theorem dX1_bars_8 : decode cX1_bars 8 = .ok (.iconst 1, 1) := dk_4 (dk_at dksX1_bars_0 8 rfl rfl)
theorem dX1_bars_9 : decode cX1_bars 9 = .ok (.invokevirtual 40, 3) := dk_182 0 40 (dk_at dksX1_bars_0 9 rfl rfl)
theorem dX1_bars_12 : decode cX1_bars 12 = .ok (.goto 41, 3) := dk_167 0 41 (dk_at dksX1_bars_0 12 rfl rfl)
theorem dX1_bars_15 : decode cX1_bars 15 = .ok (.aload_n 0, 1) := dk_42 (dk_at dksX1_bars_0 15 rfl rfl)
theorem dX1_bars_16 : decode cX1_bars 16 = .ok (.aload_n 0, 1) := dk_42 (dk_at dksX1_bars_0 16 rfl rfl)
theorem dX1_bars_17 : decode cX1_bars 17 = .ok (.getfield 91, 3) := dk_180 0 91 (dk_at dksX1_bars_0 17 rfl rfl)
theorem dX1_bars_20 : decode cX1_bars 20 = .ok (.invokevirtual 202, 3) := dk_182 0 202 (dk_at dksX1_bars_0 20 rfl rfl)
theorem dX1_bars_23 : decode cX1_bars 23 = .ok (.aload_n 0, 1) := dk_42 (dk_at dksX1_bars_0 23 rfl rfl)
theorem dX1_bars_24 : decode cX1_bars 24 = .ok (.getfield 91, 3) := dk_180 0 91 (dk_at dksX1_bars_1 0 rfl rfl)
theorem dX1_bars_27 : decode cX1_bars 27 = .ok (.aload_n 0, 1) := dk_42 (dk_at dksX1_bars_1 3 rfl rfl)
theorem dX1_bars_28 : decode cX1_bars 28 = .ok (.invokevirtual 208, 3) := dk_182 0 208 (dk_at dksX1_bars_1 4 rfl rfl)
theorem dX1_bars_31 : decode cX1_bars 31 = .ok (.invokevirtual 205, 3) := dk_182 0 205 (dk_at dksX1_bars_1 7 rfl rfl)
theorem dX1_bars_34 : decode cX1_bars 34 = .ok (.aload_n 0, 1) := dk_42 (dk_at dksX1_bars_1 10 rfl rfl)
theorem dX1_bars_35 : decode cX1_bars 35 = .ok (.getfield 75, 3) := dk_180 0 75 (dk_at dksX1_bars_1 11 rfl rfl)
theorem dX1_bars_38 : decode cX1_bars 38 = .ok (.getfield 113, 3) := dk_180 0 113 (dk_at dksX1_bars_1 14 rfl rfl)
theorem dX1_bars_41 : decode cX1_bars 41 = .ok (.imul, 1) := dk_104 (dk_at dksX1_bars_1 17 rfl rfl)
theorem dX1_bars_42 : decode cX1_bars 42 = .ok (.if_icmp .ge 7, 3) := dk_162 0 7 (dk_at dksX1_bars_1 18 rfl rfl)
theorem dX1_bars_45 : decode cX1_bars 45 = .ok (.iconst 1, 1) := dk_4 (dk_at dksX1_bars_1 21 rfl rfl)
theorem dX1_bars_46 : decode cX1_bars 46 = .ok (.goto 4, 3) := dk_167 0 4 (dk_at dksX1_bars_2 0 rfl rfl)
theorem dX1_bars_49 : decode cX1_bars 49 = .ok (.iconst 0, 1) := dk_3 (dk_at dksX1_bars_2 3 rfl rfl)
theorem dX1_bars_50 : decode cX1_bars 50 = .ok (.invokevirtual 44, 3) := dk_182 0 44 (dk_at dksX1_bars_2 4 rfl rfl)
theorem dX1_bars_53 : decode cX1_bars 53 = .ok (.ireturn, 1) := dk_172 (dk_at dksX1_bars_2 7 rfl rfl)
abbrev cX1_fair : ByteArray := prog_1_method_40_code
def yX1_fair : MethodName := ⟨RX1, "fai\x72", "(Z)I"⟩
def dkwX1_fair_3 : List UInt8 := [172]
abbrev dktX1_fair_3 : List UInt8 := dkwX1_fair_3 ++ []
def dkwX1_fair_2 : List UInt8 := [164, 0, 7, 4, 167, 0, 17, 42, 180, 0, 91, 182, 0, 202, 133, 28, 133, 27, 184, 0, 132, 182, 0, 44]
abbrev dktX1_fair_2 : List UInt8 := dkwX1_fair_2 ++ dktX1_fair_3
def dkwX1_fair_1 : List UInt8 := [42, 180, 0, 75, 180, 0, 113, 104, 61, 42, 28, 153, 0, 14, 42, 180, 0, 91, 182, 0, 202, 28]
abbrev dktX1_fair_1 : List UInt8 := dkwX1_fair_1 ++ dktX1_fair_2
def dkwX1_fair_0 : List UInt8 := [42, 180, 0, 75, 199, 0, 9, 42, 4, 182, 0, 40, 172, 42, 180, 0, 91, 42, 182, 0, 208, 182, 0, 205]
abbrev dktX1_fair_0 : List UInt8 := dkwX1_fair_0 ++ dktX1_fair_1
theorem dksX1_fair_0 : cX1_fair.data.toList.drop 0 = dktX1_fair_0 := by decide +kernel
theorem dksX1_fair_1 : cX1_fair.data.toList.drop 24 = dktX1_fair_1 := dk_seg dksX1_fair_0 24 rfl rfl
theorem dksX1_fair_2 : cX1_fair.data.toList.drop 46 = dktX1_fair_2 := dk_seg dksX1_fair_1 22 rfl rfl
theorem dksX1_fair_3 : cX1_fair.data.toList.drop 70 = dktX1_fair_3 := dk_seg dksX1_fair_2 24 rfl rfl
theorem dX1_fair_0 : decode cX1_fair 0 = .ok (.aload_n 0, 1) := dk_42 (dk_at dksX1_fair_0 0 rfl rfl)
theorem dX1_fair_1 : decode cX1_fair 1 = .ok (.getfield 75, 3) := dk_180 0 75 (dk_at dksX1_fair_0 1 rfl rfl)
theorem dX1_fair_4 : decode cX1_fair 4 = .ok (.ifnonnull 9, 3) := dk_199 0 9 (dk_at dksX1_fair_0 4 rfl rfl)
theorem dX1_fair_7 : decode cX1_fair 7 = .ok (.aload_n 0, 1) := dk_42 (dk_at dksX1_fair_0 7 rfl rfl)
theorem dX1_fair_8 : decode cX1_fair 8 = .ok (.iconst 1, 1) := dk_4 (dk_at dksX1_fair_0 8 rfl rfl)
theorem dX1_fair_9 : decode cX1_fair 9 = .ok (.invokevirtual 40, 3) := dk_182 0 40 (dk_at dksX1_fair_0 9 rfl rfl)
theorem dX1_fair_12 : decode cX1_fair 12 = .ok (.ireturn, 1) := dk_172 (dk_at dksX1_fair_0 12 rfl rfl)
theorem dX1_fair_13 : decode cX1_fair 13 = .ok (.aload_n 0, 1) := dk_42 (dk_at dksX1_fair_0 13 rfl rfl)
theorem dX1_fair_14 : decode cX1_fair 14 = .ok (.getfield 91, 3) := dk_180 0 91 (dk_at dksX1_fair_0 14 rfl rfl)
theorem dX1_fair_17 : decode cX1_fair 17 = .ok (.aload_n 0, 1) := dk_42 (dk_at dksX1_fair_0 17 rfl rfl)
theorem dX1_fair_18 : decode cX1_fair 18 = .ok (.invokevirtual 208, 3) := dk_182 0 208 (dk_at dksX1_fair_0 18 rfl rfl)
theorem dX1_fair_21 : decode cX1_fair 21 = .ok (.invokevirtual 205, 3) := dk_182 0 205 (dk_at dksX1_fair_0 21 rfl rfl)
theorem dX1_fair_24 : decode cX1_fair 24 = .ok (.aload_n 0, 1) := dk_42 (dk_at dksX1_fair_1 0 rfl rfl)
theorem dX1_fair_25 : decode cX1_fair 25 = .ok (.getfield 75, 3) := dk_180 0 75 (dk_at dksX1_fair_1 1 rfl rfl)
theorem dX1_fair_28 : decode cX1_fair 28 = .ok (.getfield 113, 3) := dk_180 0 113 (dk_at dksX1_fair_1 4 rfl rfl)
theorem dX1_fair_31 : decode cX1_fair 31 = .ok (.imul, 1) := dk_104 (dk_at dksX1_fair_1 7 rfl rfl)
theorem dX1_fair_32 : decode cX1_fair 32 = .ok (.istore_n 2, 1) := dk_61 (dk_at dksX1_fair_1 8 rfl rfl)
theorem dX1_fair_33 : decode cX1_fair 33 = .ok (.aload_n 0, 1) := dk_42 (dk_at dksX1_fair_1 9 rfl rfl)
theorem dX1_fair_34 : decode cX1_fair 34 = .ok (.iload_n 2, 1) := dk_28 (dk_at dksX1_fair_1 10 rfl rfl)
theorem dX1_fair_35 : decode cX1_fair 35 = .ok (.ifCond .eq 14, 3) := dk_153 0 14 (dk_at dksX1_fair_1 11 rfl rfl)
theorem dX1_fair_38 : decode cX1_fair 38 = .ok (.aload_n 0, 1) := dk_42 (dk_at dksX1_fair_1 14 rfl rfl)
theorem dX1_fair_39 : decode cX1_fair 39 = .ok (.getfield 91, 3) := dk_180 0 91 (dk_at dksX1_fair_1 15 rfl rfl)
theorem dX1_fair_42 : decode cX1_fair 42 = .ok (.invokevirtual 202, 3) := dk_182 0 202 (dk_at dksX1_fair_1 18 rfl rfl)
theorem dX1_fair_45 : decode cX1_fair 45 = .ok (.iload_n 2, 1) := dk_28 (dk_at dksX1_fair_1 21 rfl rfl)
theorem dX1_fair_46 : decode cX1_fair 46 = .ok (.if_icmp .le 7, 3) := dk_164 0 7 (dk_at dksX1_fair_2 0 rfl rfl)
theorem dX1_fair_49 : decode cX1_fair 49 = .ok (.iconst 1, 1) := dk_4 (dk_at dksX1_fair_2 3 rfl rfl)
theorem dX1_fair_50 : decode cX1_fair 50 = .ok (.goto 17, 3) := dk_167 0 17 (dk_at dksX1_fair_2 4 rfl rfl)
theorem dX1_fair_53 : decode cX1_fair 53 = .ok (.aload_n 0, 1) := dk_42 (dk_at dksX1_fair_2 7 rfl rfl)
theorem dX1_fair_54 : decode cX1_fair 54 = .ok (.getfield 91, 3) := dk_180 0 91 (dk_at dksX1_fair_2 8 rfl rfl)
theorem dX1_fair_57 : decode cX1_fair 57 = .ok (.invokevirtual 202, 3) := dk_182 0 202 (dk_at dksX1_fair_2 11 rfl rfl)
theorem dX1_fair_60 : decode cX1_fair 60 = .ok (.i2l, 1) := dk_133 (dk_at dksX1_fair_2 14 rfl rfl)
theorem dX1_fair_61 : decode cX1_fair 61 = .ok (.iload_n 2, 1) := dk_28 (dk_at dksX1_fair_2 15 rfl rfl)
theorem dX1_fair_62 : decode cX1_fair 62 = .ok (.i2l, 1) := dk_133 (dk_at dksX1_fair_2 16 rfl rfl)
theorem dX1_fair_63 : decode cX1_fair 63 = .ok (.iload_n 1, 1) := dk_27 (dk_at dksX1_fair_2 17 rfl rfl)
theorem dX1_fair_64 : decode cX1_fair 64 = .ok (.invokestatic 132, 3) := dk_184 0 132 (dk_at dksX1_fair_2 18 rfl rfl)
theorem dX1_fair_67 : decode cX1_fair 67 = .ok (.invokevirtual 44, 3) := dk_182 0 44 (dk_at dksX1_fair_2 21 rfl rfl)
theorem dX1_fair_70 : decode cX1_fair 70 = .ok (.ireturn, 1) := dk_172 (dk_at dksX1_fair_3 0 rfl rfl)
abbrev cX1_ways : ByteArray := prog_1_method_42_code
def yX1_ways : MethodName := ⟨RX1, "ways", "()I"⟩
def dkwX1_ways_2 : List UInt8 := [167, 0, 4, 3, 96, 60, 132, 2, 1, 167, 255, 217, 42, 27, 182, 0, 44, 172]
abbrev dktX1_ways_2 : List UInt8 := dkwX1_ways_2 ++ []
def dkwX1_ways_1 : List UInt8 := [180, 0, 215, 120, 162, 0, 32, 27, 42, 180, 0, 75, 42, 182, 0, 218, 28, 182, 0, 221, 153, 0, 7, 4]
abbrev dktX1_ways_1 : List UInt8 := dkwX1_ways_1 ++ dktX1_ways_2
def dkwX1_ways_0 : List UInt8 := [42, 180, 0, 75, 199, 0, 9, 42, 4, 182, 0, 40, 172, 3, 60, 3, 61, 28, 4, 42, 180, 0, 75]
abbrev dktX1_ways_0 : List UInt8 := dkwX1_ways_0 ++ dktX1_ways_1
theorem dksX1_ways_0 : cX1_ways.data.toList.drop 0 = dktX1_ways_0 := by decide +kernel
theorem dksX1_ways_1 : cX1_ways.data.toList.drop 23 = dktX1_ways_1 := dk_seg dksX1_ways_0 23 rfl rfl
theorem dksX1_ways_2 : cX1_ways.data.toList.drop 47 = dktX1_ways_2 := dk_seg dksX1_ways_1 24 rfl rfl
theorem dX1_ways_0 : decode cX1_ways 0 = .ok (.aload_n 0, 1) := dk_42 (dk_at dksX1_ways_0 0 rfl rfl)
theorem dX1_ways_1 : decode cX1_ways 1 = .ok (.getfield 75, 3) := dk_180 0 75 (dk_at dksX1_ways_0 1 rfl rfl)
theorem dX1_ways_4 : decode cX1_ways 4 = .ok (.ifnonnull 9, 3) := dk_199 0 9 (dk_at dksX1_ways_0 4 rfl rfl)
theorem dX1_ways_7 : decode cX1_ways 7 = .ok (.aload_n 0, 1) := dk_42 (dk_at dksX1_ways_0 7 rfl rfl)
theorem dX1_ways_8 : decode cX1_ways 8 = .ok (.iconst 1, 1) := dk_4 (dk_at dksX1_ways_0 8 rfl rfl)
theorem dX1_ways_9 : decode cX1_ways 9 = .ok (.invokevirtual 40, 3) := dk_182 0 40 (dk_at dksX1_ways_0 9 rfl rfl)
theorem dX1_ways_12 : decode cX1_ways 12 = .ok (.ireturn, 1) := dk_172 (dk_at dksX1_ways_0 12 rfl rfl)
theorem dX1_ways_13 : decode cX1_ways 13 = .ok (.iconst 0, 1) := dk_3 (dk_at dksX1_ways_0 13 rfl rfl)
theorem dX1_ways_14 : decode cX1_ways 14 = .ok (.istore_n 1, 1) := dk_60 (dk_at dksX1_ways_0 14 rfl rfl)
theorem dX1_ways_15 : decode cX1_ways 15 = .ok (.iconst 0, 1) := dk_3 (dk_at dksX1_ways_0 15 rfl rfl)
theorem dX1_ways_16 : decode cX1_ways 16 = .ok (.istore_n 2, 1) := dk_61 (dk_at dksX1_ways_0 16 rfl rfl)
theorem dX1_ways_17 : decode cX1_ways 17 = .ok (.iload_n 2, 1) := dk_28 (dk_at dksX1_ways_0 17 rfl rfl)
theorem dX1_ways_18 : decode cX1_ways 18 = .ok (.iconst 1, 1) := dk_4 (dk_at dksX1_ways_0 18 rfl rfl)
theorem dX1_ways_19 : decode cX1_ways 19 = .ok (.aload_n 0, 1) := dk_42 (dk_at dksX1_ways_0 19 rfl rfl)
theorem dX1_ways_20 : decode cX1_ways 20 = .ok (.getfield 75, 3) := dk_180 0 75 (dk_at dksX1_ways_0 20 rfl rfl)
theorem dX1_ways_23 : decode cX1_ways 23 = .ok (.getfield 215, 3) := dk_180 0 215 (dk_at dksX1_ways_1 0 rfl rfl)
theorem dX1_ways_26 : decode cX1_ways 26 = .ok (.ishl, 1) := dk_120 (dk_at dksX1_ways_1 3 rfl rfl)
theorem dX1_ways_27 : decode cX1_ways 27 = .ok (.if_icmp .ge 32, 3) := dk_162 0 32 (dk_at dksX1_ways_1 4 rfl rfl)
theorem dX1_ways_30 : decode cX1_ways 30 = .ok (.iload_n 1, 1) := dk_27 (dk_at dksX1_ways_1 7 rfl rfl)
theorem dX1_ways_31 : decode cX1_ways 31 = .ok (.aload_n 0, 1) := dk_42 (dk_at dksX1_ways_1 8 rfl rfl)
theorem dX1_ways_32 : decode cX1_ways 32 = .ok (.getfield 75, 3) := dk_180 0 75 (dk_at dksX1_ways_1 9 rfl rfl)
theorem dX1_ways_35 : decode cX1_ways 35 = .ok (.aload_n 0, 1) := dk_42 (dk_at dksX1_ways_1 12 rfl rfl)
theorem dX1_ways_36 : decode cX1_ways 36 = .ok (.invokevirtual 218, 3) := dk_182 0 218 (dk_at dksX1_ways_1 13 rfl rfl)
theorem dX1_ways_39 : decode cX1_ways 39 = .ok (.iload_n 2, 1) := dk_28 (dk_at dksX1_ways_1 16 rfl rfl)
theorem dX1_ways_40 : decode cX1_ways 40 = .ok (.invokevirtual 221, 3) := dk_182 0 221 (dk_at dksX1_ways_1 17 rfl rfl)
theorem dX1_ways_43 : decode cX1_ways 43 = .ok (.ifCond .eq 7, 3) := dk_153 0 7 (dk_at dksX1_ways_1 20 rfl rfl)
theorem dX1_ways_46 : decode cX1_ways 46 = .ok (.iconst 1, 1) := dk_4 (dk_at dksX1_ways_1 23 rfl rfl)
theorem dX1_ways_47 : decode cX1_ways 47 = .ok (.goto 4, 3) := dk_167 0 4 (dk_at dksX1_ways_2 0 rfl rfl)
theorem dX1_ways_50 : decode cX1_ways 50 = .ok (.iconst 0, 1) := dk_3 (dk_at dksX1_ways_2 3 rfl rfl)
theorem dX1_ways_51 : decode cX1_ways 51 = .ok (.iadd, 1) := dk_96 (dk_at dksX1_ways_2 4 rfl rfl)
theorem dX1_ways_52 : decode cX1_ways 52 = .ok (.istore_n 1, 1) := dk_60 (dk_at dksX1_ways_2 5 rfl rfl)
theorem dX1_ways_53 : decode cX1_ways 53 = .ok (.iinc 2 1, 3) := dk_132 2 1 (dk_at dksX1_ways_2 6 rfl rfl)
theorem dX1_ways_56 : decode cX1_ways 56 = .ok (.goto (-39), 3) := dk_167 255 217 (dk_at dksX1_ways_2 9 rfl rfl)
theorem dX1_ways_59 : decode cX1_ways 59 = .ok (.aload_n 0, 1) := dk_42 (dk_at dksX1_ways_2 12 rfl rfl)
theorem dX1_ways_60 : decode cX1_ways 60 = .ok (.iload_n 1, 1) := dk_27 (dk_at dksX1_ways_2 13 rfl rfl)
theorem dX1_ways_61 : decode cX1_ways 61 = .ok (.invokevirtual 44, 3) := dk_182 0 44 (dk_at dksX1_ways_2 14 rfl rfl)
theorem dX1_ways_64 : decode cX1_ways 64 = .ok (.ireturn, 1) := dk_172 (dk_at dksX1_ways_2 17 rfl rfl)
abbrev cX1_allLines : ByteArray := prog_1_method_41_code
def yX1_allLines : MethodName := ⟨RX1, "allLines", "()I"⟩
def dkwX1_allLines_0 : List UInt8 := [4, 42, 180, 0, 75, 180, 0, 211, 182, 0, 214, 120, 4, 100, 172]
abbrev dktX1_allLines_0 : List UInt8 := dkwX1_allLines_0 ++ []
theorem dksX1_allLines_0 : cX1_allLines.data.toList.drop 0 = dktX1_allLines_0 := by decide +kernel
theorem dX1_allLines_0 : decode cX1_allLines 0 = .ok (.iconst 1, 1) := dk_4 (dk_at dksX1_allLines_0 0 rfl rfl)
theorem dX1_allLines_1 : decode cX1_allLines 1 = .ok (.aload_n 0, 1) := dk_42 (dk_at dksX1_allLines_0 1 rfl rfl)
theorem dX1_allLines_2 : decode cX1_allLines 2 = .ok (.getfield 75, 3) := dk_180 0 75 (dk_at dksX1_allLines_0 2 rfl rfl)
theorem dX1_allLines_5 : decode cX1_allLines 5 = .ok (.getfield 211, 3) := dk_180 0 211 (dk_at dksX1_allLines_0 5 rfl rfl)
theorem dX1_allLines_8 : decode cX1_allLines 8 = .ok (.invokevirtual 214, 3) := dk_182 0 214 (dk_at dksX1_allLines_0 8 rfl rfl)
theorem dX1_allLines_11 : decode cX1_allLines 11 = .ok (.ishl, 1) := dk_120 (dk_at dksX1_allLines_0 11 rfl rfl)
theorem dX1_allLines_12 : decode cX1_allLines 12 = .ok (.iconst 1, 1) := dk_4 (dk_at dksX1_allLines_0 12 rfl rfl)
theorem dX1_allLines_13 : decode cX1_allLines 13 = .ok (.isub, 1) := dk_100 (dk_at dksX1_allLines_0 13 rfl rfl)
theorem dX1_allLines_14 : decode cX1_allLines 14 = .ok (.ireturn, 1) := dk_172 (dk_at dksX1_allLines_0 14 rfl rfl)
abbrev cX1_forced : ByteArray := prog_1_method_43_code
def yX1_forced : MethodName := ⟨RX1, "forced", "(I)I"⟩
def dkwX1_forced_6 : List UInt8 := [29, 153, 0, 7, 4, 167, 0, 4, 3, 182, 0, 44, 172]
abbrev dktX1_forced_6 : List UInt8 := dkwX1_forced_6 ++ []
def dkwX1_forced_5 : List UInt8 := [154, 0, 10, 42, 16, 6, 182, 0, 40, 172, 42, 28, 153, 0, 12, 29, 153, 0, 8, 16, 254, 167, 0, 12]
abbrev dktX1_forced_5 : List UInt8 := dkwX1_forced_5 ++ dktX1_forced_6
def dkwX1_forced_4 : List UInt8 := [27, 184, 0, 224, 153, 0, 7, 4, 167, 0, 4, 3, 62, 132, 4, 1, 167, 255, 182, 28, 154, 0, 14, 29]
abbrev dktX1_forced_4 : List UInt8 := dkwX1_forced_4 ++ dktX1_forced_5
def dkwX1_forced_3 : List UInt8 := [154, 0, 12, 21, 4, 27, 184, 0, 224, 154, 0, 7, 4, 167, 0, 4, 3, 61, 29, 154, 0, 12, 21, 4]
abbrev dktX1_forced_3 : List UInt8 := dkwX1_forced_3 ++ dktX1_forced_4
def dkwX1_forced_2 : List UInt8 := [162, 0, 66, 42, 180, 0, 75, 42, 182, 0, 218, 21, 4, 182, 0, 221, 154, 0, 6, 167, 0, 41, 28]
abbrev dktX1_forced_2 : List UInt8 := dkwX1_forced_2 ++ dktX1_forced_3
def dkwX1_forced_1 : List UInt8 := [42, 4, 182, 0, 40, 172, 3, 61, 3, 62, 3, 54, 4, 21, 4, 4, 42, 180, 0, 75, 180, 0, 215, 120]
abbrev dktX1_forced_1 : List UInt8 := dkwX1_forced_1 ++ dktX1_forced_2
def dkwX1_forced_0 : List UInt8 := [42, 180, 0, 75, 198, 0, 20, 27, 3, 42, 180, 0, 75, 180, 0, 215, 4, 100, 184, 0, 50, 154, 0, 9]
abbrev dktX1_forced_0 : List UInt8 := dkwX1_forced_0 ++ dktX1_forced_1
theorem dksX1_forced_0 : cX1_forced.data.toList.drop 0 = dktX1_forced_0 := by decide +kernel
theorem dksX1_forced_1 : cX1_forced.data.toList.drop 24 = dktX1_forced_1 := dk_seg dksX1_forced_0 24 rfl rfl
theorem dksX1_forced_2 : cX1_forced.data.toList.drop 48 = dktX1_forced_2 := dk_seg dksX1_forced_1 24 rfl rfl
theorem dksX1_forced_3 : cX1_forced.data.toList.drop 71 = dktX1_forced_3 := dk_seg dksX1_forced_2 23 rfl rfl
theorem dksX1_forced_4 : cX1_forced.data.toList.drop 95 = dktX1_forced_4 := dk_seg dksX1_forced_3 24 rfl rfl
theorem dksX1_forced_5 : cX1_forced.data.toList.drop 119 = dktX1_forced_5 := dk_seg dksX1_forced_4 24 rfl rfl
theorem dksX1_forced_6 : cX1_forced.data.toList.drop 143 = dktX1_forced_6 := dk_seg dksX1_forced_5 24 rfl rfl
theorem dX1_forced_0 : decode cX1_forced 0 = .ok (.aload_n 0, 1) := dk_42 (dk_at dksX1_forced_0 0 rfl rfl)
theorem dX1_forced_1 : decode cX1_forced 1 = .ok (.getfield 75, 3) := dk_180 0 75 (dk_at dksX1_forced_0 1 rfl rfl)
theorem dX1_forced_4 : decode cX1_forced 4 = .ok (.ifnull 20, 3) := dk_198 0 20 (dk_at dksX1_forced_0 4 rfl rfl)
theorem dX1_forced_7 : decode cX1_forced 7 = .ok (.iload_n 1, 1) := dk_27 (dk_at dksX1_forced_0 7 rfl rfl)
theorem dX1_forced_8 : decode cX1_forced 8 = .ok (.iconst 0, 1) := dk_3 (dk_at dksX1_forced_0 8 rfl rfl)
theorem dX1_forced_9 : decode cX1_forced 9 = .ok (.aload_n 0, 1) := dk_42 (dk_at dksX1_forced_0 9 rfl rfl)
theorem dX1_forced_10 : decode cX1_forced 10 = .ok (.getfield 75, 3) := dk_180 0 75 (dk_at dksX1_forced_0 10 rfl rfl)
theorem dX1_forced_13 : decode cX1_forced 13 = .ok (.getfield 215, 3) := dk_180 0 215 (dk_at dksX1_forced_0 13 rfl rfl)
theorem dX1_forced_16 : decode cX1_forced 16 = .ok (.iconst 1, 1) := dk_4 (dk_at dksX1_forced_0 16 rfl rfl)
theorem dX1_forced_17 : decode cX1_forced 17 = .ok (.isub, 1) := dk_100 (dk_at dksX1_forced_0 17 rfl rfl)
theorem dX1_forced_18 : decode cX1_forced 18 = .ok (.invokestatic 50, 3) := dk_184 0 50 (dk_at dksX1_forced_0 18 rfl rfl)
theorem dX1_forced_21 : decode cX1_forced 21 = .ok (.ifCond .ne 9, 3) := dk_154 0 9 (dk_at dksX1_forced_0 21 rfl rfl)
theorem dX1_forced_24 : decode cX1_forced 24 = .ok (.aload_n 0, 1) := dk_42 (dk_at dksX1_forced_1 0 rfl rfl)
theorem dX1_forced_25 : decode cX1_forced 25 = .ok (.iconst 1, 1) := dk_4 (dk_at dksX1_forced_1 1 rfl rfl)
theorem dX1_forced_26 : decode cX1_forced 26 = .ok (.invokevirtual 40, 3) := dk_182 0 40 (dk_at dksX1_forced_1 2 rfl rfl)
theorem dX1_forced_29 : decode cX1_forced 29 = .ok (.ireturn, 1) := dk_172 (dk_at dksX1_forced_1 5 rfl rfl)
theorem dX1_forced_30 : decode cX1_forced 30 = .ok (.iconst 0, 1) := dk_3 (dk_at dksX1_forced_1 6 rfl rfl)
theorem dX1_forced_31 : decode cX1_forced 31 = .ok (.istore_n 2, 1) := dk_61 (dk_at dksX1_forced_1 7 rfl rfl)
theorem dX1_forced_32 : decode cX1_forced 32 = .ok (.iconst 0, 1) := dk_3 (dk_at dksX1_forced_1 8 rfl rfl)
theorem dX1_forced_33 : decode cX1_forced 33 = .ok (.istore_n 3, 1) := dk_62 (dk_at dksX1_forced_1 9 rfl rfl)
theorem dX1_forced_34 : decode cX1_forced 34 = .ok (.iconst 0, 1) := dk_3 (dk_at dksX1_forced_1 10 rfl rfl)
theorem dX1_forced_35 : decode cX1_forced 35 = .ok (.istore 4, 2) := dk_54 4 (dk_at dksX1_forced_1 11 rfl rfl)
theorem dX1_forced_37 : decode cX1_forced 37 = .ok (.iload 4, 2) := dk_21 4 (dk_at dksX1_forced_1 13 rfl rfl)
theorem dX1_forced_39 : decode cX1_forced 39 = .ok (.iconst 1, 1) := dk_4 (dk_at dksX1_forced_1 15 rfl rfl)
theorem dX1_forced_40 : decode cX1_forced 40 = .ok (.aload_n 0, 1) := dk_42 (dk_at dksX1_forced_1 16 rfl rfl)
theorem dX1_forced_41 : decode cX1_forced 41 = .ok (.getfield 75, 3) := dk_180 0 75 (dk_at dksX1_forced_1 17 rfl rfl)
theorem dX1_forced_44 : decode cX1_forced 44 = .ok (.getfield 215, 3) := dk_180 0 215 (dk_at dksX1_forced_1 20 rfl rfl)
theorem dX1_forced_47 : decode cX1_forced 47 = .ok (.ishl, 1) := dk_120 (dk_at dksX1_forced_1 23 rfl rfl)
theorem dX1_forced_48 : decode cX1_forced 48 = .ok (.if_icmp .ge 66, 3) := dk_162 0 66 (dk_at dksX1_forced_2 0 rfl rfl)
theorem dX1_forced_51 : decode cX1_forced 51 = .ok (.aload_n 0, 1) := dk_42 (dk_at dksX1_forced_2 3 rfl rfl)
theorem dX1_forced_52 : decode cX1_forced 52 = .ok (.getfield 75, 3) := dk_180 0 75 (dk_at dksX1_forced_2 4 rfl rfl)
theorem dX1_forced_55 : decode cX1_forced 55 = .ok (.aload_n 0, 1) := dk_42 (dk_at dksX1_forced_2 7 rfl rfl)
theorem dX1_forced_56 : decode cX1_forced 56 = .ok (.invokevirtual 218, 3) := dk_182 0 218 (dk_at dksX1_forced_2 8 rfl rfl)
theorem dX1_forced_59 : decode cX1_forced 59 = .ok (.iload 4, 2) := dk_21 4 (dk_at dksX1_forced_2 11 rfl rfl)
theorem dX1_forced_61 : decode cX1_forced 61 = .ok (.invokevirtual 221, 3) := dk_182 0 221 (dk_at dksX1_forced_2 13 rfl rfl)
theorem dX1_forced_64 : decode cX1_forced 64 = .ok (.ifCond .ne 6, 3) := dk_154 0 6 (dk_at dksX1_forced_2 16 rfl rfl)
theorem dX1_forced_67 : decode cX1_forced 67 = .ok (.goto 41, 3) := dk_167 0 41 (dk_at dksX1_forced_2 19 rfl rfl)
theorem dX1_forced_70 : decode cX1_forced 70 = .ok (.iload_n 2, 1) := dk_28 (dk_at dksX1_forced_2 22 rfl rfl)
theorem dX1_forced_71 : decode cX1_forced 71 = .ok (.ifCond .ne 12, 3) := dk_154 0 12 (dk_at dksX1_forced_3 0 rfl rfl)
theorem dX1_forced_74 : decode cX1_forced 74 = .ok (.iload 4, 2) := dk_21 4 (dk_at dksX1_forced_3 3 rfl rfl)
theorem dX1_forced_76 : decode cX1_forced 76 = .ok (.iload_n 1, 1) := dk_27 (dk_at dksX1_forced_3 5 rfl rfl)
theorem dX1_forced_77 : decode cX1_forced 77 = .ok (.invokestatic 224, 3) := dk_184 0 224 (dk_at dksX1_forced_3 6 rfl rfl)
theorem dX1_forced_80 : decode cX1_forced 80 = .ok (.ifCond .ne 7, 3) := dk_154 0 7 (dk_at dksX1_forced_3 9 rfl rfl)
theorem dX1_forced_83 : decode cX1_forced 83 = .ok (.iconst 1, 1) := dk_4 (dk_at dksX1_forced_3 12 rfl rfl)
theorem dX1_forced_84 : decode cX1_forced 84 = .ok (.goto 4, 3) := dk_167 0 4 (dk_at dksX1_forced_3 13 rfl rfl)
theorem dX1_forced_87 : decode cX1_forced 87 = .ok (.iconst 0, 1) := dk_3 (dk_at dksX1_forced_3 16 rfl rfl)
theorem dX1_forced_88 : decode cX1_forced 88 = .ok (.istore_n 2, 1) := dk_61 (dk_at dksX1_forced_3 17 rfl rfl)
theorem dX1_forced_89 : decode cX1_forced 89 = .ok (.iload_n 3, 1) := dk_29 (dk_at dksX1_forced_3 18 rfl rfl)
theorem dX1_forced_90 : decode cX1_forced 90 = .ok (.ifCond .ne 12, 3) := dk_154 0 12 (dk_at dksX1_forced_3 19 rfl rfl)
theorem dX1_forced_93 : decode cX1_forced 93 = .ok (.iload 4, 2) := dk_21 4 (dk_at dksX1_forced_3 22 rfl rfl)
theorem dX1_forced_95 : decode cX1_forced 95 = .ok (.iload_n 1, 1) := dk_27 (dk_at dksX1_forced_4 0 rfl rfl)
theorem dX1_forced_96 : decode cX1_forced 96 = .ok (.invokestatic 224, 3) := dk_184 0 224 (dk_at dksX1_forced_4 1 rfl rfl)
theorem dX1_forced_99 : decode cX1_forced 99 = .ok (.ifCond .eq 7, 3) := dk_153 0 7 (dk_at dksX1_forced_4 4 rfl rfl)
theorem dX1_forced_102 : decode cX1_forced 102 = .ok (.iconst 1, 1) := dk_4 (dk_at dksX1_forced_4 7 rfl rfl)
theorem dX1_forced_103 : decode cX1_forced 103 = .ok (.goto 4, 3) := dk_167 0 4 (dk_at dksX1_forced_4 8 rfl rfl)
theorem dX1_forced_106 : decode cX1_forced 106 = .ok (.iconst 0, 1) := dk_3 (dk_at dksX1_forced_4 11 rfl rfl)
theorem dX1_forced_107 : decode cX1_forced 107 = .ok (.istore_n 3, 1) := dk_62 (dk_at dksX1_forced_4 12 rfl rfl)
theorem dX1_forced_108 : decode cX1_forced 108 = .ok (.iinc 4 1, 3) := dk_132 4 1 (dk_at dksX1_forced_4 13 rfl rfl)
theorem dX1_forced_111 : decode cX1_forced 111 = .ok (.goto (-74), 3) := dk_167 255 182 (dk_at dksX1_forced_4 16 rfl rfl)
theorem dX1_forced_114 : decode cX1_forced 114 = .ok (.iload_n 2, 1) := dk_28 (dk_at dksX1_forced_4 19 rfl rfl)
theorem dX1_forced_115 : decode cX1_forced 115 = .ok (.ifCond .ne 14, 3) := dk_154 0 14 (dk_at dksX1_forced_4 20 rfl rfl)
theorem dX1_forced_118 : decode cX1_forced 118 = .ok (.iload_n 3, 1) := dk_29 (dk_at dksX1_forced_4 23 rfl rfl)
theorem dX1_forced_119 : decode cX1_forced 119 = .ok (.ifCond .ne 10, 3) := dk_154 0 10 (dk_at dksX1_forced_5 0 rfl rfl)
theorem dX1_forced_122 : decode cX1_forced 122 = .ok (.aload_n 0, 1) := dk_42 (dk_at dksX1_forced_5 3 rfl rfl)
theorem dX1_forced_123 : decode cX1_forced 123 = .ok (.bipush 6, 2) := dk_16 6 (dk_at dksX1_forced_5 4 rfl rfl)
theorem dX1_forced_125 : decode cX1_forced 125 = .ok (.invokevirtual 40, 3) := dk_182 0 40 (dk_at dksX1_forced_5 6 rfl rfl)
theorem dX1_forced_128 : decode cX1_forced 128 = .ok (.ireturn, 1) := dk_172 (dk_at dksX1_forced_5 9 rfl rfl)
theorem dX1_forced_129 : decode cX1_forced 129 = .ok (.aload_n 0, 1) := dk_42 (dk_at dksX1_forced_5 10 rfl rfl)
theorem dX1_forced_130 : decode cX1_forced 130 = .ok (.iload_n 2, 1) := dk_28 (dk_at dksX1_forced_5 11 rfl rfl)
theorem dX1_forced_131 : decode cX1_forced 131 = .ok (.ifCond .eq 12, 3) := dk_153 0 12 (dk_at dksX1_forced_5 12 rfl rfl)
theorem dX1_forced_134 : decode cX1_forced 134 = .ok (.iload_n 3, 1) := dk_29 (dk_at dksX1_forced_5 15 rfl rfl)
theorem dX1_forced_135 : decode cX1_forced 135 = .ok (.ifCond .eq 8, 3) := dk_153 0 8 (dk_at dksX1_forced_5 16 rfl rfl)
theorem dX1_forced_138 : decode cX1_forced 138 = .ok (.bipush (-2), 2) := dk_16 254 (dk_at dksX1_forced_5 19 rfl rfl)
theorem dX1_forced_140 : decode cX1_forced 140 = .ok (.goto 12, 3) := dk_167 0 12 (dk_at dksX1_forced_5 21 rfl rfl)
theorem dX1_forced_143 : decode cX1_forced 143 = .ok (.iload_n 3, 1) := dk_29 (dk_at dksX1_forced_6 0 rfl rfl)
theorem dX1_forced_144 : decode cX1_forced 144 = .ok (.ifCond .eq 7, 3) := dk_153 0 7 (dk_at dksX1_forced_6 1 rfl rfl)
theorem dX1_forced_147 : decode cX1_forced 147 = .ok (.iconst 1, 1) := dk_4 (dk_at dksX1_forced_6 4 rfl rfl)
theorem dX1_forced_148 : decode cX1_forced 148 = .ok (.goto 4, 3) := dk_167 0 4 (dk_at dksX1_forced_6 5 rfl rfl)
theorem dX1_forced_151 : decode cX1_forced 151 = .ok (.iconst 0, 1) := dk_3 (dk_at dksX1_forced_6 8 rfl rfl)
theorem dX1_forced_152 : decode cX1_forced 152 = .ok (.invokevirtual 44, 3) := dk_182 0 44 (dk_at dksX1_forced_6 9 rfl rfl)
theorem dX1_forced_155 : decode cX1_forced 155 = .ok (.ireturn, 1) := dk_172 (dk_at dksX1_forced_6 12 rfl rfl)
abbrev cX1_core : ByteArray := prog_1_method_44_code
def yX1_core : MethodName := ⟨RX1, "core", "()I"⟩
def dkwX1_core_2 : List UInt8 := [28, 182, 0, 230, 154, 0, 5, 28, 60, 132, 2, 1, 167, 255, 215, 42, 27, 182, 0, 44, 172]
abbrev dktX1_core_2 : List UInt8 := dkwX1_core_2 ++ []
def dkwX1_core_1 : List UInt8 := [163, 0, 39, 27, 16, 254, 159, 0, 14, 28, 184, 0, 227, 27, 184, 0, 227, 162, 0, 16, 42, 180, 0, 75]
abbrev dktX1_core_1 : List UInt8 := dkwX1_core_1 ++ dktX1_core_2
def dkwX1_core_0 : List UInt8 := [42, 180, 0, 75, 199, 0, 9, 42, 4, 182, 0, 40, 172, 16, 254, 60, 3, 61, 28, 42, 182, 0, 218]
abbrev dktX1_core_0 : List UInt8 := dkwX1_core_0 ++ dktX1_core_1
theorem dksX1_core_0 : cX1_core.data.toList.drop 0 = dktX1_core_0 := by decide +kernel
theorem dksX1_core_1 : cX1_core.data.toList.drop 23 = dktX1_core_1 := dk_seg dksX1_core_0 23 rfl rfl
theorem dksX1_core_2 : cX1_core.data.toList.drop 47 = dktX1_core_2 := dk_seg dksX1_core_1 24 rfl rfl
theorem dX1_core_0 : decode cX1_core 0 = .ok (.aload_n 0, 1) := dk_42 (dk_at dksX1_core_0 0 rfl rfl)
theorem dX1_core_1 : decode cX1_core 1 = .ok (.getfield 75, 3) := dk_180 0 75 (dk_at dksX1_core_0 1 rfl rfl)
theorem dX1_core_4 : decode cX1_core 4 = .ok (.ifnonnull 9, 3) := dk_199 0 9 (dk_at dksX1_core_0 4 rfl rfl)
theorem dX1_core_7 : decode cX1_core 7 = .ok (.aload_n 0, 1) := dk_42 (dk_at dksX1_core_0 7 rfl rfl)
theorem dX1_core_8 : decode cX1_core 8 = .ok (.iconst 1, 1) := dk_4 (dk_at dksX1_core_0 8 rfl rfl)
theorem dX1_core_9 : decode cX1_core 9 = .ok (.invokevirtual 40, 3) := dk_182 0 40 (dk_at dksX1_core_0 9 rfl rfl)
theorem dX1_core_12 : decode cX1_core 12 = .ok (.ireturn, 1) := dk_172 (dk_at dksX1_core_0 12 rfl rfl)
theorem dX1_core_13 : decode cX1_core 13 = .ok (.bipush (-2), 2) := dk_16 254 (dk_at dksX1_core_0 13 rfl rfl)
theorem dX1_core_15 : decode cX1_core 15 = .ok (.istore_n 1, 1) := dk_60 (dk_at dksX1_core_0 15 rfl rfl)
theorem dX1_core_16 : decode cX1_core 16 = .ok (.iconst 0, 1) := dk_3 (dk_at dksX1_core_0 16 rfl rfl)
theorem dX1_core_17 : decode cX1_core 17 = .ok (.istore_n 2, 1) := dk_61 (dk_at dksX1_core_0 17 rfl rfl)
theorem dX1_core_18 : decode cX1_core 18 = .ok (.iload_n 2, 1) := dk_28 (dk_at dksX1_core_0 18 rfl rfl)
theorem dX1_core_19 : decode cX1_core 19 = .ok (.aload_n 0, 1) := dk_42 (dk_at dksX1_core_0 19 rfl rfl)
theorem dX1_core_20 : decode cX1_core 20 = .ok (.invokevirtual 218, 3) := dk_182 0 218 (dk_at dksX1_core_0 20 rfl rfl)
theorem dX1_core_23 : decode cX1_core 23 = .ok (.if_icmp .gt 39, 3) := dk_163 0 39 (dk_at dksX1_core_1 0 rfl rfl)
theorem dX1_core_26 : decode cX1_core 26 = .ok (.iload_n 1, 1) := dk_27 (dk_at dksX1_core_1 3 rfl rfl)
theorem dX1_core_27 : decode cX1_core 27 = .ok (.bipush (-2), 2) := dk_16 254 (dk_at dksX1_core_1 4 rfl rfl)
theorem dX1_core_29 : decode cX1_core 29 = .ok (.if_icmp .eq 14, 3) := dk_159 0 14 (dk_at dksX1_core_1 6 rfl rfl)
theorem dX1_core_32 : decode cX1_core 32 = .ok (.iload_n 2, 1) := dk_28 (dk_at dksX1_core_1 9 rfl rfl)
theorem dX1_core_33 : decode cX1_core 33 = .ok (.invokestatic 227, 3) := dk_184 0 227 (dk_at dksX1_core_1 10 rfl rfl)
theorem dX1_core_36 : decode cX1_core 36 = .ok (.iload_n 1, 1) := dk_27 (dk_at dksX1_core_1 13 rfl rfl)
theorem dX1_core_37 : decode cX1_core 37 = .ok (.invokestatic 227, 3) := dk_184 0 227 (dk_at dksX1_core_1 14 rfl rfl)
theorem dX1_core_40 : decode cX1_core 40 = .ok (.if_icmp .ge 16, 3) := dk_162 0 16 (dk_at dksX1_core_1 17 rfl rfl)
theorem dX1_core_43 : decode cX1_core 43 = .ok (.aload_n 0, 1) := dk_42 (dk_at dksX1_core_1 20 rfl rfl)
theorem dX1_core_44 : decode cX1_core 44 = .ok (.getfield 75, 3) := dk_180 0 75 (dk_at dksX1_core_1 21 rfl rfl)
theorem dX1_core_47 : decode cX1_core 47 = .ok (.iload_n 2, 1) := dk_28 (dk_at dksX1_core_2 0 rfl rfl)
theorem dX1_core_48 : decode cX1_core 48 = .ok (.invokevirtual 230, 3) := dk_182 0 230 (dk_at dksX1_core_2 1 rfl rfl)
theorem dX1_core_51 : decode cX1_core 51 = .ok (.ifCond .ne 5, 3) := dk_154 0 5 (dk_at dksX1_core_2 4 rfl rfl)
theorem dX1_core_54 : decode cX1_core 54 = .ok (.iload_n 2, 1) := dk_28 (dk_at dksX1_core_2 7 rfl rfl)
theorem dX1_core_55 : decode cX1_core 55 = .ok (.istore_n 1, 1) := dk_60 (dk_at dksX1_core_2 8 rfl rfl)
theorem dX1_core_56 : decode cX1_core 56 = .ok (.iinc 2 1, 3) := dk_132 2 1 (dk_at dksX1_core_2 9 rfl rfl)
theorem dX1_core_59 : decode cX1_core 59 = .ok (.goto (-41), 3) := dk_167 255 215 (dk_at dksX1_core_2 12 rfl rfl)
theorem dX1_core_62 : decode cX1_core 62 = .ok (.aload_n 0, 1) := dk_42 (dk_at dksX1_core_2 15 rfl rfl)
theorem dX1_core_63 : decode cX1_core 63 = .ok (.iload_n 1, 1) := dk_27 (dk_at dksX1_core_2 16 rfl rfl)
theorem dX1_core_64 : decode cX1_core 64 = .ok (.invokevirtual 44, 3) := dk_182 0 44 (dk_at dksX1_core_2 17 rfl rfl)
theorem dX1_core_67 : decode cX1_core 67 = .ok (.ireturn, 1) := dk_172 (dk_at dksX1_core_2 20 rfl rfl)
abbrev cX1_can : ByteArray := prog_1_method_45_code
def yX1_can : MethodName := ⟨RX1, "can", "(I)I"⟩
def dkwX1_can_2 : List UInt8 := [167, 0, 8, 42, 5, 182, 0, 40, 172]
abbrev dktX1_can_2 : List UInt8 := dkwX1_can_2 ++ []
def dkwX1_can_1 : List UInt8 := [153, 0, 26, 42, 42, 180, 0, 75, 27, 182, 0, 230, 153, 0, 7, 4, 167, 0, 4, 3, 182, 0, 44]
abbrev dktX1_can_1 : List UInt8 := dkwX1_can_1 ++ dktX1_can_2
def dkwX1_can_0 : List UInt8 := [42, 180, 0, 75, 199, 0, 9, 42, 4, 182, 0, 40, 172, 27, 3, 42, 182, 0, 218, 184, 0, 50]
abbrev dktX1_can_0 : List UInt8 := dkwX1_can_0 ++ dktX1_can_1
theorem dksX1_can_0 : cX1_can.data.toList.drop 0 = dktX1_can_0 := by decide +kernel
theorem dksX1_can_1 : cX1_can.data.toList.drop 22 = dktX1_can_1 := dk_seg dksX1_can_0 22 rfl rfl
theorem dksX1_can_2 : cX1_can.data.toList.drop 45 = dktX1_can_2 := dk_seg dksX1_can_1 23 rfl rfl
theorem dX1_can_0 : decode cX1_can 0 = .ok (.aload_n 0, 1) := dk_42 (dk_at dksX1_can_0 0 rfl rfl)
theorem dX1_can_1 : decode cX1_can 1 = .ok (.getfield 75, 3) := dk_180 0 75 (dk_at dksX1_can_0 1 rfl rfl)
theorem dX1_can_4 : decode cX1_can 4 = .ok (.ifnonnull 9, 3) := dk_199 0 9 (dk_at dksX1_can_0 4 rfl rfl)
theorem dX1_can_7 : decode cX1_can 7 = .ok (.aload_n 0, 1) := dk_42 (dk_at dksX1_can_0 7 rfl rfl)
theorem dX1_can_8 : decode cX1_can 8 = .ok (.iconst 1, 1) := dk_4 (dk_at dksX1_can_0 8 rfl rfl)
theorem dX1_can_9 : decode cX1_can 9 = .ok (.invokevirtual 40, 3) := dk_182 0 40 (dk_at dksX1_can_0 9 rfl rfl)
theorem dX1_can_12 : decode cX1_can 12 = .ok (.ireturn, 1) := dk_172 (dk_at dksX1_can_0 12 rfl rfl)
theorem dX1_can_13 : decode cX1_can 13 = .ok (.iload_n 1, 1) := dk_27 (dk_at dksX1_can_0 13 rfl rfl)
theorem dX1_can_14 : decode cX1_can 14 = .ok (.iconst 0, 1) := dk_3 (dk_at dksX1_can_0 14 rfl rfl)
theorem dX1_can_15 : decode cX1_can 15 = .ok (.aload_n 0, 1) := dk_42 (dk_at dksX1_can_0 15 rfl rfl)
theorem dX1_can_16 : decode cX1_can 16 = .ok (.invokevirtual 218, 3) := dk_182 0 218 (dk_at dksX1_can_0 16 rfl rfl)
theorem dX1_can_19 : decode cX1_can 19 = .ok (.invokestatic 50, 3) := dk_184 0 50 (dk_at dksX1_can_0 19 rfl rfl)
theorem dX1_can_22 : decode cX1_can 22 = .ok (.ifCond .eq 26, 3) := dk_153 0 26 (dk_at dksX1_can_1 0 rfl rfl)
theorem dX1_can_25 : decode cX1_can 25 = .ok (.aload_n 0, 1) := dk_42 (dk_at dksX1_can_1 3 rfl rfl)
theorem dX1_can_26 : decode cX1_can 26 = .ok (.aload_n 0, 1) := dk_42 (dk_at dksX1_can_1 4 rfl rfl)
theorem dX1_can_27 : decode cX1_can 27 = .ok (.getfield 75, 3) := dk_180 0 75 (dk_at dksX1_can_1 5 rfl rfl)
theorem dX1_can_30 : decode cX1_can 30 = .ok (.iload_n 1, 1) := dk_27 (dk_at dksX1_can_1 8 rfl rfl)
theorem dX1_can_31 : decode cX1_can 31 = .ok (.invokevirtual 230, 3) := dk_182 0 230 (dk_at dksX1_can_1 9 rfl rfl)
theorem dX1_can_34 : decode cX1_can 34 = .ok (.ifCond .eq 7, 3) := dk_153 0 7 (dk_at dksX1_can_1 12 rfl rfl)
theorem dX1_can_37 : decode cX1_can 37 = .ok (.iconst 1, 1) := dk_4 (dk_at dksX1_can_1 15 rfl rfl)
theorem dX1_can_38 : decode cX1_can 38 = .ok (.goto 4, 3) := dk_167 0 4 (dk_at dksX1_can_1 16 rfl rfl)
theorem dX1_can_41 : decode cX1_can 41 = .ok (.iconst 0, 1) := dk_3 (dk_at dksX1_can_1 19 rfl rfl)
theorem dX1_can_42 : decode cX1_can 42 = .ok (.invokevirtual 44, 3) := dk_182 0 44 (dk_at dksX1_can_1 20 rfl rfl)
theorem dX1_can_45 : decode cX1_can 45 = .ok (.goto 8, 3) := dk_167 0 8 (dk_at dksX1_can_2 0 rfl rfl)
theorem dX1_can_48 : decode cX1_can 48 = .ok (.aload_n 0, 1) := dk_42 (dk_at dksX1_can_2 3 rfl rfl)
theorem dX1_can_49 : decode cX1_can 49 = .ok (.iconst 2, 1) := dk_5 (dk_at dksX1_can_2 4 rfl rfl)
theorem dX1_can_50 : decode cX1_can 50 = .ok (.invokevirtual 40, 3) := dk_182 0 40 (dk_at dksX1_can_2 5 rfl rfl)
theorem dX1_can_53 : decode cX1_can 53 = .ok (.ireturn, 1) := dk_172 (dk_at dksX1_can_2 8 rfl rfl)
abbrev cX1_game : ByteArray := prog_1_method_46_code
def yX1_game : MethodName := ⟨RX1, "game", "()I"⟩
def dkwX1_game_4 : List UInt8 := [132, 2, 1, 167, 255, 178, 42, 27, 182, 0, 44, 172]
abbrev dktX1_game_4 : List UInt8 := dkwX1_game_4 ++ []
def dkwX1_game_3 : List UInt8 := [153, 0, 7, 4, 167, 0, 4, 3, 96, 62, 132, 4, 1, 167, 255, 208, 27, 29, 184, 0, 241, 60]
abbrev dktX1_game_3 : List UInt8 := dkwX1_game_3 ++ dktX1_game_4
def dkwX1_game_2 : List UInt8 := [162, 0, 39, 29, 42, 180, 0, 75, 180, 0, 211, 21, 4, 182, 0, 232, 192, 0, 236, 28, 182, 0, 238]
abbrev dktX1_game_2 : List UInt8 := dkwX1_game_2 ++ dktX1_game_3
def dkwX1_game_1 : List UInt8 := [180, 0, 215, 120, 162, 0, 71, 3, 62, 3, 54, 4, 21, 4, 42, 180, 0, 75, 180, 0, 211, 182, 0, 214]
abbrev dktX1_game_1 : List UInt8 := dkwX1_game_1 ++ dktX1_game_2
def dkwX1_game_0 : List UInt8 := [42, 180, 0, 75, 199, 0, 9, 42, 4, 182, 0, 40, 172, 3, 60, 3, 61, 28, 4, 42, 180, 0, 75]
abbrev dktX1_game_0 : List UInt8 := dkwX1_game_0 ++ dktX1_game_1
theorem dksX1_game_0 : cX1_game.data.toList.drop 0 = dktX1_game_0 := by decide +kernel
theorem dksX1_game_1 : cX1_game.data.toList.drop 23 = dktX1_game_1 := dk_seg dksX1_game_0 23 rfl rfl
theorem dksX1_game_2 : cX1_game.data.toList.drop 47 = dktX1_game_2 := dk_seg dksX1_game_1 24 rfl rfl
theorem dksX1_game_3 : cX1_game.data.toList.drop 70 = dktX1_game_3 := dk_seg dksX1_game_2 23 rfl rfl
theorem dksX1_game_4 : cX1_game.data.toList.drop 92 = dktX1_game_4 := dk_seg dksX1_game_3 22 rfl rfl
theorem dX1_game_0 : decode cX1_game 0 = .ok (.aload_n 0, 1) := dk_42 (dk_at dksX1_game_0 0 rfl rfl)
theorem dX1_game_1 : decode cX1_game 1 = .ok (.getfield 75, 3) := dk_180 0 75 (dk_at dksX1_game_0 1 rfl rfl)
theorem dX1_game_4 : decode cX1_game 4 = .ok (.ifnonnull 9, 3) := dk_199 0 9 (dk_at dksX1_game_0 4 rfl rfl)
theorem dX1_game_7 : decode cX1_game 7 = .ok (.aload_n 0, 1) := dk_42 (dk_at dksX1_game_0 7 rfl rfl)
theorem dX1_game_8 : decode cX1_game 8 = .ok (.iconst 1, 1) := dk_4 (dk_at dksX1_game_0 8 rfl rfl)
theorem dX1_game_9 : decode cX1_game 9 = .ok (.invokevirtual 40, 3) := dk_182 0 40 (dk_at dksX1_game_0 9 rfl rfl)
theorem dX1_game_12 : decode cX1_game 12 = .ok (.ireturn, 1) := dk_172 (dk_at dksX1_game_0 12 rfl rfl)
theorem dX1_game_13 : decode cX1_game 13 = .ok (.iconst 0, 1) := dk_3 (dk_at dksX1_game_0 13 rfl rfl)
theorem dX1_game_14 : decode cX1_game 14 = .ok (.istore_n 1, 1) := dk_60 (dk_at dksX1_game_0 14 rfl rfl)
theorem dX1_game_15 : decode cX1_game 15 = .ok (.iconst 0, 1) := dk_3 (dk_at dksX1_game_0 15 rfl rfl)
theorem dX1_game_16 : decode cX1_game 16 = .ok (.istore_n 2, 1) := dk_61 (dk_at dksX1_game_0 16 rfl rfl)
theorem dX1_game_17 : decode cX1_game 17 = .ok (.iload_n 2, 1) := dk_28 (dk_at dksX1_game_0 17 rfl rfl)
theorem dX1_game_18 : decode cX1_game 18 = .ok (.iconst 1, 1) := dk_4 (dk_at dksX1_game_0 18 rfl rfl)
theorem dX1_game_19 : decode cX1_game 19 = .ok (.aload_n 0, 1) := dk_42 (dk_at dksX1_game_0 19 rfl rfl)
theorem dX1_game_20 : decode cX1_game 20 = .ok (.getfield 75, 3) := dk_180 0 75 (dk_at dksX1_game_0 20 rfl rfl)
theorem dX1_game_23 : decode cX1_game 23 = .ok (.getfield 215, 3) := dk_180 0 215 (dk_at dksX1_game_1 0 rfl rfl)
theorem dX1_game_26 : decode cX1_game 26 = .ok (.ishl, 1) := dk_120 (dk_at dksX1_game_1 3 rfl rfl)
theorem dX1_game_27 : decode cX1_game 27 = .ok (.if_icmp .ge 71, 3) := dk_162 0 71 (dk_at dksX1_game_1 4 rfl rfl)
theorem dX1_game_30 : decode cX1_game 30 = .ok (.iconst 0, 1) := dk_3 (dk_at dksX1_game_1 7 rfl rfl)
theorem dX1_game_31 : decode cX1_game 31 = .ok (.istore_n 3, 1) := dk_62 (dk_at dksX1_game_1 8 rfl rfl)
theorem dX1_game_32 : decode cX1_game 32 = .ok (.iconst 0, 1) := dk_3 (dk_at dksX1_game_1 9 rfl rfl)
theorem dX1_game_33 : decode cX1_game 33 = .ok (.istore 4, 2) := dk_54 4 (dk_at dksX1_game_1 10 rfl rfl)
theorem dX1_game_35 : decode cX1_game 35 = .ok (.iload 4, 2) := dk_21 4 (dk_at dksX1_game_1 12 rfl rfl)
theorem dX1_game_37 : decode cX1_game 37 = .ok (.aload_n 0, 1) := dk_42 (dk_at dksX1_game_1 14 rfl rfl)
theorem dX1_game_38 : decode cX1_game 38 = .ok (.getfield 75, 3) := dk_180 0 75 (dk_at dksX1_game_1 15 rfl rfl)
theorem dX1_game_41 : decode cX1_game 41 = .ok (.getfield 211, 3) := dk_180 0 211 (dk_at dksX1_game_1 18 rfl rfl)
theorem dX1_game_44 : decode cX1_game 44 = .ok (.invokevirtual 214, 3) := dk_182 0 214 (dk_at dksX1_game_1 21 rfl rfl)
theorem dX1_game_47 : decode cX1_game 47 = .ok (.if_icmp .ge 39, 3) := dk_162 0 39 (dk_at dksX1_game_2 0 rfl rfl)
theorem dX1_game_50 : decode cX1_game 50 = .ok (.iload_n 3, 1) := dk_29 (dk_at dksX1_game_2 3 rfl rfl)
theorem dX1_game_51 : decode cX1_game 51 = .ok (.aload_n 0, 1) := dk_42 (dk_at dksX1_game_2 4 rfl rfl)
theorem dX1_game_52 : decode cX1_game 52 = .ok (.getfield 75, 3) := dk_180 0 75 (dk_at dksX1_game_2 5 rfl rfl)
theorem dX1_game_55 : decode cX1_game 55 = .ok (.getfield 211, 3) := dk_180 0 211 (dk_at dksX1_game_2 8 rfl rfl)
theorem dX1_game_58 : decode cX1_game 58 = .ok (.iload 4, 2) := dk_21 4 (dk_at dksX1_game_2 11 rfl rfl)
theorem dX1_game_60 : decode cX1_game 60 = .ok (.invokevirtual 232, 3) := dk_182 0 232 (dk_at dksX1_game_2 13 rfl rfl)
theorem dX1_game_63 : decode cX1_game 63 = .ok (.checkcast 236, 3) := dk_192 0 236 (dk_at dksX1_game_2 16 rfl rfl)
theorem dX1_game_66 : decode cX1_game 66 = .ok (.iload_n 2, 1) := dk_28 (dk_at dksX1_game_2 19 rfl rfl)
theorem dX1_game_67 : decode cX1_game 67 = .ok (.invokevirtual 238, 3) := dk_182 0 238 (dk_at dksX1_game_2 20 rfl rfl)
theorem dX1_game_70 : decode cX1_game 70 = .ok (.ifCond .eq 7, 3) := dk_153 0 7 (dk_at dksX1_game_3 0 rfl rfl)
theorem dX1_game_73 : decode cX1_game 73 = .ok (.iconst 1, 1) := dk_4 (dk_at dksX1_game_3 3 rfl rfl)
theorem dX1_game_74 : decode cX1_game 74 = .ok (.goto 4, 3) := dk_167 0 4 (dk_at dksX1_game_3 4 rfl rfl)
theorem dX1_game_77 : decode cX1_game 77 = .ok (.iconst 0, 1) := dk_3 (dk_at dksX1_game_3 7 rfl rfl)
theorem dX1_game_78 : decode cX1_game 78 = .ok (.iadd, 1) := dk_96 (dk_at dksX1_game_3 8 rfl rfl)
theorem dX1_game_79 : decode cX1_game 79 = .ok (.istore_n 3, 1) := dk_62 (dk_at dksX1_game_3 9 rfl rfl)
theorem dX1_game_80 : decode cX1_game 80 = .ok (.iinc 4 1, 3) := dk_132 4 1 (dk_at dksX1_game_3 10 rfl rfl)
theorem dX1_game_83 : decode cX1_game 83 = .ok (.goto (-48), 3) := dk_167 255 208 (dk_at dksX1_game_3 13 rfl rfl)
theorem dX1_game_86 : decode cX1_game 86 = .ok (.iload_n 1, 1) := dk_27 (dk_at dksX1_game_3 16 rfl rfl)
theorem dX1_game_87 : decode cX1_game 87 = .ok (.iload_n 3, 1) := dk_29 (dk_at dksX1_game_3 17 rfl rfl)
theorem dX1_game_88 : decode cX1_game 88 = .ok (.invokestatic 241, 3) := dk_184 0 241 (dk_at dksX1_game_3 18 rfl rfl)
theorem dX1_game_91 : decode cX1_game 91 = .ok (.istore_n 1, 1) := dk_60 (dk_at dksX1_game_3 21 rfl rfl)
theorem dX1_game_92 : decode cX1_game 92 = .ok (.iinc 2 1, 3) := dk_132 2 1 (dk_at dksX1_game_4 0 rfl rfl)
theorem dX1_game_95 : decode cX1_game 95 = .ok (.goto (-78), 3) := dk_167 255 178 (dk_at dksX1_game_4 3 rfl rfl)
theorem dX1_game_98 : decode cX1_game 98 = .ok (.aload_n 0, 1) := dk_42 (dk_at dksX1_game_4 6 rfl rfl)
theorem dX1_game_99 : decode cX1_game 99 = .ok (.iload_n 1, 1) := dk_27 (dk_at dksX1_game_4 7 rfl rfl)
theorem dX1_game_100 : decode cX1_game 100 = .ok (.invokevirtual 44, 3) := dk_182 0 44 (dk_at dksX1_game_4 8 rfl rfl)
theorem dX1_game_103 : decode cX1_game 103 = .ok (.ireturn, 1) := dk_172 (dk_at dksX1_game_4 11 rfl rfl)
abbrev cX1_square : ByteArray := prog_1_method_48_code
def yX1_square : MethodName := ⟨RX1, "square", "(II)I"⟩
def dkwX1_square_3 : List UInt8 := [182, 0, 40, 172]
abbrev dktX1_square_3 : List UInt8 := dkwX1_square_3 ++ []
def dkwX1_square_2 : List UInt8 := [192, 0, 252, 182, 0, 254, 153, 0, 7, 4, 167, 0, 4, 3, 182, 0, 44, 167, 0, 8, 42, 4]
abbrev dktX1_square_2 : List UInt8 := dkwX1_square_2 ++ dktX1_square_3
def dkwX1_square_1 : List UInt8 := [180, 0, 75, 180, 0, 246, 27, 182, 0, 232, 192, 0, 252, 42, 180, 0, 75, 180, 0, 246, 28, 182, 0, 232]
abbrev dktX1_square_1 : List UInt8 := dkwX1_square_1 ++ dktX1_square_2
def dkwX1_square_0 : List UInt8 := [42, 27, 182, 0, 249, 153, 0, 62, 42, 28, 182, 0, 249, 153, 0, 54, 27, 28, 159, 0, 49, 42, 42]
abbrev dktX1_square_0 : List UInt8 := dkwX1_square_0 ++ dktX1_square_1
theorem dksX1_square_0 : cX1_square.data.toList.drop 0 = dktX1_square_0 := by decide +kernel
theorem dksX1_square_1 : cX1_square.data.toList.drop 23 = dktX1_square_1 := dk_seg dksX1_square_0 23 rfl rfl
theorem dksX1_square_2 : cX1_square.data.toList.drop 47 = dktX1_square_2 := dk_seg dksX1_square_1 24 rfl rfl
theorem dksX1_square_3 : cX1_square.data.toList.drop 69 = dktX1_square_3 := dk_seg dksX1_square_2 22 rfl rfl
theorem dX1_square_0 : decode cX1_square 0 = .ok (.aload_n 0, 1) := dk_42 (dk_at dksX1_square_0 0 rfl rfl)
theorem dX1_square_1 : decode cX1_square 1 = .ok (.iload_n 1, 1) := dk_27 (dk_at dksX1_square_0 1 rfl rfl)
theorem dX1_square_2 : decode cX1_square 2 = .ok (.invokevirtual 249, 3) := dk_182 0 249 (dk_at dksX1_square_0 2 rfl rfl)
theorem dX1_square_5 : decode cX1_square 5 = .ok (.ifCond .eq 62, 3) := dk_153 0 62 (dk_at dksX1_square_0 5 rfl rfl)
theorem dX1_square_8 : decode cX1_square 8 = .ok (.aload_n 0, 1) := dk_42 (dk_at dksX1_square_0 8 rfl rfl)
theorem dX1_square_9 : decode cX1_square 9 = .ok (.iload_n 2, 1) := dk_28 (dk_at dksX1_square_0 9 rfl rfl)
theorem dX1_square_10 : decode cX1_square 10 = .ok (.invokevirtual 249, 3) := dk_182 0 249 (dk_at dksX1_square_0 10 rfl rfl)
theorem dX1_square_13 : decode cX1_square 13 = .ok (.ifCond .eq 54, 3) := dk_153 0 54 (dk_at dksX1_square_0 13 rfl rfl)
theorem dX1_square_16 : decode cX1_square 16 = .ok (.iload_n 1, 1) := dk_27 (dk_at dksX1_square_0 16 rfl rfl)
theorem dX1_square_17 : decode cX1_square 17 = .ok (.iload_n 2, 1) := dk_28 (dk_at dksX1_square_0 17 rfl rfl)
theorem dX1_square_18 : decode cX1_square 18 = .ok (.if_icmp .eq 49, 3) := dk_159 0 49 (dk_at dksX1_square_0 18 rfl rfl)
theorem dX1_square_21 : decode cX1_square 21 = .ok (.aload_n 0, 1) := dk_42 (dk_at dksX1_square_0 21 rfl rfl)
theorem dX1_square_22 : decode cX1_square 22 = .ok (.aload_n 0, 1) := dk_42 (dk_at dksX1_square_0 22 rfl rfl)
theorem dX1_square_23 : decode cX1_square 23 = .ok (.getfield 75, 3) := dk_180 0 75 (dk_at dksX1_square_1 0 rfl rfl)
theorem dX1_square_26 : decode cX1_square 26 = .ok (.getfield 246, 3) := dk_180 0 246 (dk_at dksX1_square_1 3 rfl rfl)
theorem dX1_square_29 : decode cX1_square 29 = .ok (.iload_n 1, 1) := dk_27 (dk_at dksX1_square_1 6 rfl rfl)
theorem dX1_square_30 : decode cX1_square 30 = .ok (.invokevirtual 232, 3) := dk_182 0 232 (dk_at dksX1_square_1 7 rfl rfl)
theorem dX1_square_33 : decode cX1_square 33 = .ok (.checkcast 252, 3) := dk_192 0 252 (dk_at dksX1_square_1 10 rfl rfl)
theorem dX1_square_36 : decode cX1_square 36 = .ok (.aload_n 0, 1) := dk_42 (dk_at dksX1_square_1 13 rfl rfl)
theorem dX1_square_37 : decode cX1_square 37 = .ok (.getfield 75, 3) := dk_180 0 75 (dk_at dksX1_square_1 14 rfl rfl)
theorem dX1_square_40 : decode cX1_square 40 = .ok (.getfield 246, 3) := dk_180 0 246 (dk_at dksX1_square_1 17 rfl rfl)
theorem dX1_square_43 : decode cX1_square 43 = .ok (.iload_n 2, 1) := dk_28 (dk_at dksX1_square_1 20 rfl rfl)
theorem dX1_square_44 : decode cX1_square 44 = .ok (.invokevirtual 232, 3) := dk_182 0 232 (dk_at dksX1_square_1 21 rfl rfl)
theorem dX1_square_47 : decode cX1_square 47 = .ok (.checkcast 252, 3) := dk_192 0 252 (dk_at dksX1_square_2 0 rfl rfl)
theorem dX1_square_50 : decode cX1_square 50 = .ok (.invokevirtual 254, 3) := dk_182 0 254 (dk_at dksX1_square_2 3 rfl rfl)
theorem dX1_square_53 : decode cX1_square 53 = .ok (.ifCond .eq 7, 3) := dk_153 0 7 (dk_at dksX1_square_2 6 rfl rfl)
theorem dX1_square_56 : decode cX1_square 56 = .ok (.iconst 1, 1) := dk_4 (dk_at dksX1_square_2 9 rfl rfl)
theorem dX1_square_57 : decode cX1_square 57 = .ok (.goto 4, 3) := dk_167 0 4 (dk_at dksX1_square_2 10 rfl rfl)
theorem dX1_square_60 : decode cX1_square 60 = .ok (.iconst 0, 1) := dk_3 (dk_at dksX1_square_2 13 rfl rfl)
theorem dX1_square_61 : decode cX1_square 61 = .ok (.invokevirtual 44, 3) := dk_182 0 44 (dk_at dksX1_square_2 14 rfl rfl)
theorem dX1_square_64 : decode cX1_square 64 = .ok (.goto 8, 3) := dk_167 0 8 (dk_at dksX1_square_2 17 rfl rfl)
theorem dX1_square_67 : decode cX1_square 67 = .ok (.aload_n 0, 1) := dk_42 (dk_at dksX1_square_2 20 rfl rfl)
theorem dX1_square_68 : decode cX1_square 68 = .ok (.iconst 1, 1) := dk_4 (dk_at dksX1_square_2 21 rfl rfl)
theorem dX1_square_69 : decode cX1_square 69 = .ok (.invokevirtual 40, 3) := dk_182 0 40 (dk_at dksX1_square_3 0 rfl rfl)
theorem dX1_square_72 : decode cX1_square 72 = .ok (.ireturn, 1) := dk_172 (dk_at dksX1_square_3 3 rfl rfl)
abbrev cX1_isRay : ByteArray := prog_1_method_47_code
def yX1_isRay : MethodName := ⟨RX1, "isRay", "(I)Z"⟩
def dkwX1_isRay_1 : List UInt8 := [153, 0, 7, 4, 167, 0, 4, 3, 172]
abbrev dktX1_isRay_1 : List UInt8 := dkwX1_isRay_1 ++ []
def dkwX1_isRay_0 : List UInt8 := [42, 180, 0, 75, 198, 0, 27, 27, 3, 42, 180, 0, 75, 180, 0, 246, 182, 0, 214, 4, 100, 184, 0, 50]
abbrev dktX1_isRay_0 : List UInt8 := dkwX1_isRay_0 ++ dktX1_isRay_1
theorem dksX1_isRay_0 : cX1_isRay.data.toList.drop 0 = dktX1_isRay_0 := by decide +kernel
theorem dksX1_isRay_1 : cX1_isRay.data.toList.drop 24 = dktX1_isRay_1 := dk_seg dksX1_isRay_0 24 rfl rfl
theorem dX1_isRay_0 : decode cX1_isRay 0 = .ok (.aload_n 0, 1) := dk_42 (dk_at dksX1_isRay_0 0 rfl rfl)
theorem dX1_isRay_1 : decode cX1_isRay 1 = .ok (.getfield 75, 3) := dk_180 0 75 (dk_at dksX1_isRay_0 1 rfl rfl)
theorem dX1_isRay_4 : decode cX1_isRay 4 = .ok (.ifnull 27, 3) := dk_198 0 27 (dk_at dksX1_isRay_0 4 rfl rfl)
theorem dX1_isRay_7 : decode cX1_isRay 7 = .ok (.iload_n 1, 1) := dk_27 (dk_at dksX1_isRay_0 7 rfl rfl)
theorem dX1_isRay_8 : decode cX1_isRay 8 = .ok (.iconst 0, 1) := dk_3 (dk_at dksX1_isRay_0 8 rfl rfl)
theorem dX1_isRay_9 : decode cX1_isRay 9 = .ok (.aload_n 0, 1) := dk_42 (dk_at dksX1_isRay_0 9 rfl rfl)
theorem dX1_isRay_10 : decode cX1_isRay 10 = .ok (.getfield 75, 3) := dk_180 0 75 (dk_at dksX1_isRay_0 10 rfl rfl)
theorem dX1_isRay_13 : decode cX1_isRay 13 = .ok (.getfield 246, 3) := dk_180 0 246 (dk_at dksX1_isRay_0 13 rfl rfl)
theorem dX1_isRay_16 : decode cX1_isRay 16 = .ok (.invokevirtual 214, 3) := dk_182 0 214 (dk_at dksX1_isRay_0 16 rfl rfl)
theorem dX1_isRay_19 : decode cX1_isRay 19 = .ok (.iconst 1, 1) := dk_4 (dk_at dksX1_isRay_0 19 rfl rfl)
theorem dX1_isRay_20 : decode cX1_isRay 20 = .ok (.isub, 1) := dk_100 (dk_at dksX1_isRay_0 20 rfl rfl)
theorem dX1_isRay_21 : decode cX1_isRay 21 = .ok (.invokestatic 50, 3) := dk_184 0 50 (dk_at dksX1_isRay_0 21 rfl rfl)
theorem dX1_isRay_24 : decode cX1_isRay 24 = .ok (.ifCond .eq 7, 3) := dk_153 0 7 (dk_at dksX1_isRay_1 0 rfl rfl)
theorem dX1_isRay_27 : decode cX1_isRay 27 = .ok (.iconst 1, 1) := dk_4 (dk_at dksX1_isRay_1 3 rfl rfl)
theorem dX1_isRay_28 : decode cX1_isRay 28 = .ok (.goto 4, 3) := dk_167 0 4 (dk_at dksX1_isRay_1 4 rfl rfl)
theorem dX1_isRay_31 : decode cX1_isRay 31 = .ok (.iconst 0, 1) := dk_3 (dk_at dksX1_isRay_1 7 rfl rfl)
theorem dX1_isRay_32 : decode cX1_isRay 32 = .ok (.ireturn, 1) := dk_172 (dk_at dksX1_isRay_1 8 rfl rfl)
abbrev cX1_corners : ByteArray := prog_1_method_50_code
def yX1_corners : MethodName := ⟨RX1, "corners", "()I"⟩
def dkwX1_corners_1 : List UInt8 := [3, 183, 1, 4, 182, 1, 11, 182, 0, 44, 172]
abbrev dktX1_corners_1 : List UInt8 := dkwX1_corners_1 ++ []
def dkwX1_corners_0 : List UInt8 := [42, 180, 0, 75, 199, 0, 11, 42, 4, 182, 0, 40, 167, 0, 22, 42, 187, 1, 2, 89, 42, 180, 0, 75]
abbrev dktX1_corners_0 : List UInt8 := dkwX1_corners_0 ++ dktX1_corners_1
theorem dksX1_corners_0 : cX1_corners.data.toList.drop 0 = dktX1_corners_0 := by decide +kernel
theorem dksX1_corners_1 : cX1_corners.data.toList.drop 24 = dktX1_corners_1 := dk_seg dksX1_corners_0 24 rfl rfl
theorem dX1_corners_0 : decode cX1_corners 0 = .ok (.aload_n 0, 1) := dk_42 (dk_at dksX1_corners_0 0 rfl rfl)
theorem dX1_corners_1 : decode cX1_corners 1 = .ok (.getfield 75, 3) := dk_180 0 75 (dk_at dksX1_corners_0 1 rfl rfl)
theorem dX1_corners_4 : decode cX1_corners 4 = .ok (.ifnonnull 11, 3) := dk_199 0 11 (dk_at dksX1_corners_0 4 rfl rfl)
theorem dX1_corners_7 : decode cX1_corners 7 = .ok (.aload_n 0, 1) := dk_42 (dk_at dksX1_corners_0 7 rfl rfl)
theorem dX1_corners_8 : decode cX1_corners 8 = .ok (.iconst 1, 1) := dk_4 (dk_at dksX1_corners_0 8 rfl rfl)
theorem dX1_corners_9 : decode cX1_corners 9 = .ok (.invokevirtual 40, 3) := dk_182 0 40 (dk_at dksX1_corners_0 9 rfl rfl)
theorem dX1_corners_12 : decode cX1_corners 12 = .ok (.goto 22, 3) := dk_167 0 22 (dk_at dksX1_corners_0 12 rfl rfl)
theorem dX1_corners_15 : decode cX1_corners 15 = .ok (.aload_n 0, 1) := dk_42 (dk_at dksX1_corners_0 15 rfl rfl)
theorem dX1_corners_16 : decode cX1_corners 16 = .ok (.new 258, 3) := dk_187 1 2 (dk_at dksX1_corners_0 16 rfl rfl)
theorem dX1_corners_19 : decode cX1_corners 19 = .ok (.dup, 1) := dk_89 (dk_at dksX1_corners_0 19 rfl rfl)
theorem dX1_corners_20 : decode cX1_corners 20 = .ok (.aload_n 0, 1) := dk_42 (dk_at dksX1_corners_0 20 rfl rfl)
theorem dX1_corners_21 : decode cX1_corners 21 = .ok (.getfield 75, 3) := dk_180 0 75 (dk_at dksX1_corners_0 21 rfl rfl)
theorem dX1_corners_24 : decode cX1_corners 24 = .ok (.iconst 0, 1) := dk_3 (dk_at dksX1_corners_1 0 rfl rfl)
theorem dX1_corners_25 : decode cX1_corners 25 = .ok (.invokespecial 260, 3) := dk_183 1 4 (dk_at dksX1_corners_1 1 rfl rfl)
theorem dX1_corners_28 : decode cX1_corners 28 = .ok (.invokevirtual 267, 3) := dk_182 1 11 (dk_at dksX1_corners_1 4 rfl rfl)
theorem dX1_corners_31 : decode cX1_corners 31 = .ok (.invokevirtual 44, 3) := dk_182 0 44 (dk_at dksX1_corners_1 7 rfl rfl)
theorem dX1_corners_34 : decode cX1_corners 34 = .ok (.ireturn, 1) := dk_172 (dk_at dksX1_corners_1 10 rfl rfl)
abbrev cX1_colours : ByteArray := prog_1_method_51_code
def yX1_colours : MethodName := ⟨RX1, "colours", "()I"⟩
def dkwX1_colours_1 : List UInt8 := [180, 1, 18, 182, 0, 44, 172]
abbrev dktX1_colours_1 : List UInt8 := dkwX1_colours_1 ++ []
def dkwX1_colours_0 : List UInt8 := [42, 180, 0, 75, 199, 0, 11, 42, 4, 182, 0, 40, 167, 0, 16, 42, 42, 3, 4, 182, 1, 14]
abbrev dktX1_colours_0 : List UInt8 := dkwX1_colours_0 ++ dktX1_colours_1
theorem dksX1_colours_0 : cX1_colours.data.toList.drop 0 = dktX1_colours_0 := by decide +kernel
theorem dksX1_colours_1 : cX1_colours.data.toList.drop 22 = dktX1_colours_1 := dk_seg dksX1_colours_0 22 rfl rfl
theorem dX1_colours_0 : decode cX1_colours 0 = .ok (.aload_n 0, 1) := dk_42 (dk_at dksX1_colours_0 0 rfl rfl)
theorem dX1_colours_1 : decode cX1_colours 1 = .ok (.getfield 75, 3) := dk_180 0 75 (dk_at dksX1_colours_0 1 rfl rfl)
theorem dX1_colours_4 : decode cX1_colours 4 = .ok (.ifnonnull 11, 3) := dk_199 0 11 (dk_at dksX1_colours_0 4 rfl rfl)
theorem dX1_colours_7 : decode cX1_colours 7 = .ok (.aload_n 0, 1) := dk_42 (dk_at dksX1_colours_0 7 rfl rfl)
theorem dX1_colours_8 : decode cX1_colours 8 = .ok (.iconst 1, 1) := dk_4 (dk_at dksX1_colours_0 8 rfl rfl)
theorem dX1_colours_9 : decode cX1_colours 9 = .ok (.invokevirtual 40, 3) := dk_182 0 40 (dk_at dksX1_colours_0 9 rfl rfl)
theorem dX1_colours_12 : decode cX1_colours 12 = .ok (.goto 16, 3) := dk_167 0 16 (dk_at dksX1_colours_0 12 rfl rfl)
theorem dX1_colours_15 : decode cX1_colours 15 = .ok (.aload_n 0, 1) := dk_42 (dk_at dksX1_colours_0 15 rfl rfl)
theorem dX1_colours_16 : decode cX1_colours 16 = .ok (.aload_n 0, 1) := dk_42 (dk_at dksX1_colours_0 16 rfl rfl)
theorem dX1_colours_17 : decode cX1_colours 17 = .ok (.iconst 0, 1) := dk_3 (dk_at dksX1_colours_0 17 rfl rfl)
theorem dX1_colours_18 : decode cX1_colours 18 = .ok (.iconst 1, 1) := dk_4 (dk_at dksX1_colours_0 18 rfl rfl)
theorem dX1_colours_19 : decode cX1_colours 19 = .ok (.invokevirtual 270, 3) := dk_182 1 14 (dk_at dksX1_colours_0 19 rfl rfl)
theorem dX1_colours_22 : decode cX1_colours 22 = .ok (.getfield 274, 3) := dk_180 1 18 (dk_at dksX1_colours_1 0 rfl rfl)
theorem dX1_colours_25 : decode cX1_colours 25 = .ok (.invokevirtual 44, 3) := dk_182 0 44 (dk_at dksX1_colours_1 3 rfl rfl)
theorem dX1_colours_28 : decode cX1_colours 28 = .ok (.ireturn, 1) := dk_172 (dk_at dksX1_colours_1 6 rfl rfl)
abbrev cX1_coloured : ByteArray := prog_1_method_49_code
def yX1_coloured : MethodName := ⟨RX1, "coloured", "(IZ)LNotAtOnce$Colouring;"⟩
def dkwX1_coloured_0 : List UInt8 := [187, 1, 2, 89, 42, 180, 0, 75, 27, 183, 1, 4, 78, 45, 3, 3, 28, 182, 1, 7, 45, 176]
abbrev dktX1_coloured_0 : List UInt8 := dkwX1_coloured_0 ++ []
theorem dksX1_coloured_0 : cX1_coloured.data.toList.drop 0 = dktX1_coloured_0 := by decide +kernel
theorem dX1_coloured_0 : decode cX1_coloured 0 = .ok (.new 258, 3) := dk_187 1 2 (dk_at dksX1_coloured_0 0 rfl rfl)
theorem dX1_coloured_3 : decode cX1_coloured 3 = .ok (.dup, 1) := dk_89 (dk_at dksX1_coloured_0 3 rfl rfl)
theorem dX1_coloured_4 : decode cX1_coloured 4 = .ok (.aload_n 0, 1) := dk_42 (dk_at dksX1_coloured_0 4 rfl rfl)
theorem dX1_coloured_5 : decode cX1_coloured 5 = .ok (.getfield 75, 3) := dk_180 0 75 (dk_at dksX1_coloured_0 5 rfl rfl)
theorem dX1_coloured_8 : decode cX1_coloured 8 = .ok (.iload_n 1, 1) := dk_27 (dk_at dksX1_coloured_0 8 rfl rfl)
theorem dX1_coloured_9 : decode cX1_coloured 9 = .ok (.invokespecial 260, 3) := dk_183 1 4 (dk_at dksX1_coloured_0 9 rfl rfl)
theorem dX1_coloured_12 : decode cX1_coloured 12 = .ok (.astore_n 3, 1) := dk_78 (dk_at dksX1_coloured_0 12 rfl rfl)
theorem dX1_coloured_13 : decode cX1_coloured 13 = .ok (.aload_n 3, 1) := dk_45 (dk_at dksX1_coloured_0 13 rfl rfl)
theorem dX1_coloured_14 : decode cX1_coloured 14 = .ok (.iconst 0, 1) := dk_3 (dk_at dksX1_coloured_0 14 rfl rfl)
theorem dX1_coloured_15 : decode cX1_coloured 15 = .ok (.iconst 0, 1) := dk_3 (dk_at dksX1_coloured_0 15 rfl rfl)
theorem dX1_coloured_16 : decode cX1_coloured 16 = .ok (.iload_n 2, 1) := dk_28 (dk_at dksX1_coloured_0 16 rfl rfl)
theorem dX1_coloured_17 : decode cX1_coloured 17 = .ok (.invokevirtual 263, 3) := dk_182 1 7 (dk_at dksX1_coloured_0 17 rfl rfl)
theorem dX1_coloured_20 : decode cX1_coloured 20 = .ok (.aload_n 3, 1) := dk_45 (dk_at dksX1_coloured_0 20 rfl rfl)
theorem dX1_coloured_21 : decode cX1_coloured 21 = .ok (.areturn, 1) := dk_176 (dk_at dksX1_coloured_0 21 rfl rfl)
abbrev cX1_ones : ByteArray := prog_1_method_52_code
def yX1_ones : MethodName := ⟨RX1, "ones", "()I"⟩
def dkwX1_ones_1 : List UInt8 := [2, 160, 0, 12, 42, 16, 6, 182, 0, 40, 167, 0, 8, 42, 27, 182, 0, 44, 172]
abbrev dktX1_ones_1 : List UInt8 := dkwX1_ones_1 ++ []
def dkwX1_ones_0 : List UInt8 := [42, 180, 0, 75, 199, 0, 9, 42, 4, 182, 0, 40, 172, 42, 3, 4, 182, 1, 14, 180, 1, 21, 60, 27]
abbrev dktX1_ones_0 : List UInt8 := dkwX1_ones_0 ++ dktX1_ones_1
theorem dksX1_ones_0 : cX1_ones.data.toList.drop 0 = dktX1_ones_0 := by decide +kernel
theorem dksX1_ones_1 : cX1_ones.data.toList.drop 24 = dktX1_ones_1 := dk_seg dksX1_ones_0 24 rfl rfl
theorem dX1_ones_0 : decode cX1_ones 0 = .ok (.aload_n 0, 1) := dk_42 (dk_at dksX1_ones_0 0 rfl rfl)
theorem dX1_ones_1 : decode cX1_ones 1 = .ok (.getfield 75, 3) := dk_180 0 75 (dk_at dksX1_ones_0 1 rfl rfl)
theorem dX1_ones_4 : decode cX1_ones 4 = .ok (.ifnonnull 9, 3) := dk_199 0 9 (dk_at dksX1_ones_0 4 rfl rfl)
theorem dX1_ones_7 : decode cX1_ones 7 = .ok (.aload_n 0, 1) := dk_42 (dk_at dksX1_ones_0 7 rfl rfl)
theorem dX1_ones_8 : decode cX1_ones 8 = .ok (.iconst 1, 1) := dk_4 (dk_at dksX1_ones_0 8 rfl rfl)
theorem dX1_ones_9 : decode cX1_ones 9 = .ok (.invokevirtual 40, 3) := dk_182 0 40 (dk_at dksX1_ones_0 9 rfl rfl)
theorem dX1_ones_12 : decode cX1_ones 12 = .ok (.ireturn, 1) := dk_172 (dk_at dksX1_ones_0 12 rfl rfl)
theorem dX1_ones_13 : decode cX1_ones 13 = .ok (.aload_n 0, 1) := dk_42 (dk_at dksX1_ones_0 13 rfl rfl)
theorem dX1_ones_14 : decode cX1_ones 14 = .ok (.iconst 0, 1) := dk_3 (dk_at dksX1_ones_0 14 rfl rfl)
theorem dX1_ones_15 : decode cX1_ones 15 = .ok (.iconst 1, 1) := dk_4 (dk_at dksX1_ones_0 15 rfl rfl)
theorem dX1_ones_16 : decode cX1_ones 16 = .ok (.invokevirtual 270, 3) := dk_182 1 14 (dk_at dksX1_ones_0 16 rfl rfl)
theorem dX1_ones_19 : decode cX1_ones 19 = .ok (.getfield 277, 3) := dk_180 1 21 (dk_at dksX1_ones_0 19 rfl rfl)
theorem dX1_ones_22 : decode cX1_ones 22 = .ok (.istore_n 1, 1) := dk_60 (dk_at dksX1_ones_0 22 rfl rfl)
theorem dX1_ones_23 : decode cX1_ones 23 = .ok (.iload_n 1, 1) := dk_27 (dk_at dksX1_ones_0 23 rfl rfl)
theorem dX1_ones_24 : decode cX1_ones 24 = .ok (.iconst (-1), 1) := dk_2 (dk_at dksX1_ones_1 0 rfl rfl)
theorem dX1_ones_25 : decode cX1_ones 25 = .ok (.if_icmp .ne 12, 3) := dk_160 0 12 (dk_at dksX1_ones_1 1 rfl rfl)
theorem dX1_ones_28 : decode cX1_ones 28 = .ok (.aload_n 0, 1) := dk_42 (dk_at dksX1_ones_1 4 rfl rfl)
theorem dX1_ones_29 : decode cX1_ones 29 = .ok (.bipush 6, 2) := dk_16 6 (dk_at dksX1_ones_1 5 rfl rfl)
theorem dX1_ones_31 : decode cX1_ones 31 = .ok (.invokevirtual 40, 3) := dk_182 0 40 (dk_at dksX1_ones_1 7 rfl rfl)
theorem dX1_ones_34 : decode cX1_ones 34 = .ok (.goto 8, 3) := dk_167 0 8 (dk_at dksX1_ones_1 10 rfl rfl)
theorem dX1_ones_37 : decode cX1_ones 37 = .ok (.aload_n 0, 1) := dk_42 (dk_at dksX1_ones_1 13 rfl rfl)
theorem dX1_ones_38 : decode cX1_ones 38 = .ok (.iload_n 1, 1) := dk_27 (dk_at dksX1_ones_1 14 rfl rfl)
theorem dX1_ones_39 : decode cX1_ones 39 = .ok (.invokevirtual 44, 3) := dk_182 0 44 (dk_at dksX1_ones_1 15 rfl rfl)
theorem dX1_ones_42 : decode cX1_ones 42 = .ok (.ireturn, 1) := dk_172 (dk_at dksX1_ones_1 18 rfl rfl)
abbrev cX1_spare : ByteArray := prog_1_method_53_code
def yX1_spare : MethodName := ⟨RX1, "spare", "()I"⟩
def dkwX1_spare_3 : List UInt8 := [3, 128, 60, 132, 2, 1, 167, 255, 215, 42, 27, 182, 0, 44, 172]
abbrev dktX1_spare_3 : List UInt8 := dkwX1_spare_3 ++ []
def dkwX1_spare_2 : List UInt8 := [162, 0, 33, 27, 42, 4, 28, 120, 3, 182, 1, 14, 180, 1, 18, 154, 0, 9, 4, 28, 120, 167, 0, 4]
abbrev dktX1_spare_2 : List UInt8 := dkwX1_spare_2 ++ dktX1_spare_3
def dkwX1_spare_1 : List UInt8 := [158, 0, 9, 42, 3, 182, 0, 44, 172, 3, 61, 28, 42, 180, 0, 75, 180, 0, 246, 182, 0, 214]
abbrev dktX1_spare_1 : List UInt8 := dkwX1_spare_1 ++ dktX1_spare_2
def dkwX1_spare_0 : List UInt8 := [42, 180, 0, 75, 199, 0, 9, 42, 4, 182, 0, 40, 172, 3, 60, 42, 3, 3, 182, 1, 14, 180, 1, 18]
abbrev dktX1_spare_0 : List UInt8 := dkwX1_spare_0 ++ dktX1_spare_1
theorem dksX1_spare_0 : cX1_spare.data.toList.drop 0 = dktX1_spare_0 := by decide +kernel
theorem dksX1_spare_1 : cX1_spare.data.toList.drop 24 = dktX1_spare_1 := dk_seg dksX1_spare_0 24 rfl rfl
theorem dksX1_spare_2 : cX1_spare.data.toList.drop 46 = dktX1_spare_2 := dk_seg dksX1_spare_1 22 rfl rfl
theorem dksX1_spare_3 : cX1_spare.data.toList.drop 70 = dktX1_spare_3 := dk_seg dksX1_spare_2 24 rfl rfl
theorem dX1_spare_0 : decode cX1_spare 0 = .ok (.aload_n 0, 1) := dk_42 (dk_at dksX1_spare_0 0 rfl rfl)
theorem dX1_spare_1 : decode cX1_spare 1 = .ok (.getfield 75, 3) := dk_180 0 75 (dk_at dksX1_spare_0 1 rfl rfl)
theorem dX1_spare_4 : decode cX1_spare 4 = .ok (.ifnonnull 9, 3) := dk_199 0 9 (dk_at dksX1_spare_0 4 rfl rfl)
theorem dX1_spare_7 : decode cX1_spare 7 = .ok (.aload_n 0, 1) := dk_42 (dk_at dksX1_spare_0 7 rfl rfl)
theorem dX1_spare_8 : decode cX1_spare 8 = .ok (.iconst 1, 1) := dk_4 (dk_at dksX1_spare_0 8 rfl rfl)
theorem dX1_spare_9 : decode cX1_spare 9 = .ok (.invokevirtual 40, 3) := dk_182 0 40 (dk_at dksX1_spare_0 9 rfl rfl)
theorem dX1_spare_12 : decode cX1_spare 12 = .ok (.ireturn, 1) := dk_172 (dk_at dksX1_spare_0 12 rfl rfl)
theorem dX1_spare_13 : decode cX1_spare 13 = .ok (.iconst 0, 1) := dk_3 (dk_at dksX1_spare_0 13 rfl rfl)
theorem dX1_spare_14 : decode cX1_spare 14 = .ok (.istore_n 1, 1) := dk_60 (dk_at dksX1_spare_0 14 rfl rfl)
theorem dX1_spare_15 : decode cX1_spare 15 = .ok (.aload_n 0, 1) := dk_42 (dk_at dksX1_spare_0 15 rfl rfl)
theorem dX1_spare_16 : decode cX1_spare 16 = .ok (.iconst 0, 1) := dk_3 (dk_at dksX1_spare_0 16 rfl rfl)
theorem dX1_spare_17 : decode cX1_spare 17 = .ok (.iconst 0, 1) := dk_3 (dk_at dksX1_spare_0 17 rfl rfl)
theorem dX1_spare_18 : decode cX1_spare 18 = .ok (.invokevirtual 270, 3) := dk_182 1 14 (dk_at dksX1_spare_0 18 rfl rfl)
theorem dX1_spare_21 : decode cX1_spare 21 = .ok (.getfield 274, 3) := dk_180 1 18 (dk_at dksX1_spare_0 21 rfl rfl)
theorem dX1_spare_24 : decode cX1_spare 24 = .ok (.ifCond .le 9, 3) := dk_158 0 9 (dk_at dksX1_spare_1 0 rfl rfl)
theorem dX1_spare_27 : decode cX1_spare 27 = .ok (.aload_n 0, 1) := dk_42 (dk_at dksX1_spare_1 3 rfl rfl)
theorem dX1_spare_28 : decode cX1_spare 28 = .ok (.iconst 0, 1) := dk_3 (dk_at dksX1_spare_1 4 rfl rfl)
theorem dX1_spare_29 : decode cX1_spare 29 = .ok (.invokevirtual 44, 3) := dk_182 0 44 (dk_at dksX1_spare_1 5 rfl rfl)
theorem dX1_spare_32 : decode cX1_spare 32 = .ok (.ireturn, 1) := dk_172 (dk_at dksX1_spare_1 8 rfl rfl)
theorem dX1_spare_33 : decode cX1_spare 33 = .ok (.iconst 0, 1) := dk_3 (dk_at dksX1_spare_1 9 rfl rfl)
theorem dX1_spare_34 : decode cX1_spare 34 = .ok (.istore_n 2, 1) := dk_61 (dk_at dksX1_spare_1 10 rfl rfl)
theorem dX1_spare_35 : decode cX1_spare 35 = .ok (.iload_n 2, 1) := dk_28 (dk_at dksX1_spare_1 11 rfl rfl)
theorem dX1_spare_36 : decode cX1_spare 36 = .ok (.aload_n 0, 1) := dk_42 (dk_at dksX1_spare_1 12 rfl rfl)
theorem dX1_spare_37 : decode cX1_spare 37 = .ok (.getfield 75, 3) := dk_180 0 75 (dk_at dksX1_spare_1 13 rfl rfl)
theorem dX1_spare_40 : decode cX1_spare 40 = .ok (.getfield 246, 3) := dk_180 0 246 (dk_at dksX1_spare_1 16 rfl rfl)
theorem dX1_spare_43 : decode cX1_spare 43 = .ok (.invokevirtual 214, 3) := dk_182 0 214 (dk_at dksX1_spare_1 19 rfl rfl)
theorem dX1_spare_46 : decode cX1_spare 46 = .ok (.if_icmp .ge 33, 3) := dk_162 0 33 (dk_at dksX1_spare_2 0 rfl rfl)
theorem dX1_spare_49 : decode cX1_spare 49 = .ok (.iload_n 1, 1) := dk_27 (dk_at dksX1_spare_2 3 rfl rfl)
theorem dX1_spare_50 : decode cX1_spare 50 = .ok (.aload_n 0, 1) := dk_42 (dk_at dksX1_spare_2 4 rfl rfl)
theorem dX1_spare_51 : decode cX1_spare 51 = .ok (.iconst 1, 1) := dk_4 (dk_at dksX1_spare_2 5 rfl rfl)
theorem dX1_spare_52 : decode cX1_spare 52 = .ok (.iload_n 2, 1) := dk_28 (dk_at dksX1_spare_2 6 rfl rfl)
theorem dX1_spare_53 : decode cX1_spare 53 = .ok (.ishl, 1) := dk_120 (dk_at dksX1_spare_2 7 rfl rfl)
theorem dX1_spare_54 : decode cX1_spare 54 = .ok (.iconst 0, 1) := dk_3 (dk_at dksX1_spare_2 8 rfl rfl)
theorem dX1_spare_55 : decode cX1_spare 55 = .ok (.invokevirtual 270, 3) := dk_182 1 14 (dk_at dksX1_spare_2 9 rfl rfl)
theorem dX1_spare_58 : decode cX1_spare 58 = .ok (.getfield 274, 3) := dk_180 1 18 (dk_at dksX1_spare_2 12 rfl rfl)
theorem dX1_spare_61 : decode cX1_spare 61 = .ok (.ifCond .ne 9, 3) := dk_154 0 9 (dk_at dksX1_spare_2 15 rfl rfl)
theorem dX1_spare_64 : decode cX1_spare 64 = .ok (.iconst 1, 1) := dk_4 (dk_at dksX1_spare_2 18 rfl rfl)
theorem dX1_spare_65 : decode cX1_spare 65 = .ok (.iload_n 2, 1) := dk_28 (dk_at dksX1_spare_2 19 rfl rfl)
theorem dX1_spare_66 : decode cX1_spare 66 = .ok (.ishl, 1) := dk_120 (dk_at dksX1_spare_2 20 rfl rfl)
theorem dX1_spare_67 : decode cX1_spare 67 = .ok (.goto 4, 3) := dk_167 0 4 (dk_at dksX1_spare_2 21 rfl rfl)
theorem dX1_spare_70 : decode cX1_spare 70 = .ok (.iconst 0, 1) := dk_3 (dk_at dksX1_spare_3 0 rfl rfl)
theorem dX1_spare_71 : decode cX1_spare 71 = .ok (.ior, 1) := dk_128 (dk_at dksX1_spare_3 1 rfl rfl)
theorem dX1_spare_72 : decode cX1_spare 72 = .ok (.istore_n 1, 1) := dk_60 (dk_at dksX1_spare_3 2 rfl rfl)
theorem dX1_spare_73 : decode cX1_spare 73 = .ok (.iinc 2 1, 3) := dk_132 2 1 (dk_at dksX1_spare_3 3 rfl rfl)
theorem dX1_spare_76 : decode cX1_spare 76 = .ok (.goto (-41), 3) := dk_167 255 215 (dk_at dksX1_spare_3 6 rfl rfl)
theorem dX1_spare_79 : decode cX1_spare 79 = .ok (.aload_n 0, 1) := dk_42 (dk_at dksX1_spare_3 9 rfl rfl)
theorem dX1_spare_80 : decode cX1_spare 80 = .ok (.iload_n 1, 1) := dk_27 (dk_at dksX1_spare_3 10 rfl rfl)
theorem dX1_spare_81 : decode cX1_spare 81 = .ok (.invokevirtual 44, 3) := dk_182 0 44 (dk_at dksX1_spare_3 11 rfl rfl)
theorem dX1_spare_84 : decode cX1_spare 84 = .ok (.ireturn, 1) := dk_172 (dk_at dksX1_spare_3 14 rfl rfl)
abbrev cX1_critical : ByteArray := prog_1_method_54_code
def yX1_critical : MethodName := ⟨RX1, "critical", "()I"⟩
def dkwX1_critical_4 : List UInt8 := [100, 27, 2, 130, 126, 182, 0, 44, 172]
abbrev dktX1_critical_4 : List UInt8 := dkwX1_critical_4 ++ []
def dkwX1_critical_3 : List UInt8 := [28, 120, 128, 60, 132, 2, 1, 167, 255, 217, 42, 4, 42, 180, 0, 75, 180, 0, 246, 182, 0, 214, 120, 4]
abbrev dktX1_critical_3 : List UInt8 := dkwX1_critical_3 ++ dktX1_critical_4
def dkwX1_critical_2 : List UInt8 := [182, 0, 214, 162, 0, 31, 42, 27, 4, 28, 120, 128, 3, 182, 1, 14, 180, 1, 18, 154, 0, 9, 27, 4]
abbrev dktX1_critical_2 : List UInt8 := dkwX1_critical_2 ++ dktX1_critical_3
def dkwX1_critical_1 : List UInt8 := [158, 0, 10, 42, 16, 6, 182, 0, 40, 172, 3, 60, 3, 61, 28, 42, 180, 0, 75, 180, 0, 246]
abbrev dktX1_critical_1 : List UInt8 := dkwX1_critical_1 ++ dktX1_critical_2
def dkwX1_critical_0 : List UInt8 := [42, 180, 0, 75, 199, 0, 9, 42, 4, 182, 0, 40, 172, 42, 3, 3, 182, 1, 14, 180, 1, 18]
abbrev dktX1_critical_0 : List UInt8 := dkwX1_critical_0 ++ dktX1_critical_1
theorem dksX1_critical_0 : cX1_critical.data.toList.drop 0 = dktX1_critical_0 := by decide +kernel
theorem dksX1_critical_1 : cX1_critical.data.toList.drop 22 = dktX1_critical_1 := dk_seg dksX1_critical_0 22 rfl rfl
theorem dksX1_critical_2 : cX1_critical.data.toList.drop 44 = dktX1_critical_2 := dk_seg dksX1_critical_1 22 rfl rfl
theorem dksX1_critical_3 : cX1_critical.data.toList.drop 68 = dktX1_critical_3 := dk_seg dksX1_critical_2 24 rfl rfl
theorem dksX1_critical_4 : cX1_critical.data.toList.drop 92 = dktX1_critical_4 := dk_seg dksX1_critical_3 24 rfl rfl
theorem dX1_critical_0 : decode cX1_critical 0 = .ok (.aload_n 0, 1) := dk_42 (dk_at dksX1_critical_0 0 rfl rfl)
theorem dX1_critical_1 : decode cX1_critical 1 = .ok (.getfield 75, 3) := dk_180 0 75 (dk_at dksX1_critical_0 1 rfl rfl)
theorem dX1_critical_4 : decode cX1_critical 4 = .ok (.ifnonnull 9, 3) := dk_199 0 9 (dk_at dksX1_critical_0 4 rfl rfl)
theorem dX1_critical_7 : decode cX1_critical 7 = .ok (.aload_n 0, 1) := dk_42 (dk_at dksX1_critical_0 7 rfl rfl)
theorem dX1_critical_8 : decode cX1_critical 8 = .ok (.iconst 1, 1) := dk_4 (dk_at dksX1_critical_0 8 rfl rfl)
theorem dX1_critical_9 : decode cX1_critical 9 = .ok (.invokevirtual 40, 3) := dk_182 0 40 (dk_at dksX1_critical_0 9 rfl rfl)
theorem dX1_critical_12 : decode cX1_critical 12 = .ok (.ireturn, 1) := dk_172 (dk_at dksX1_critical_0 12 rfl rfl)
theorem dX1_critical_13 : decode cX1_critical 13 = .ok (.aload_n 0, 1) := dk_42 (dk_at dksX1_critical_0 13 rfl rfl)
theorem dX1_critical_14 : decode cX1_critical 14 = .ok (.iconst 0, 1) := dk_3 (dk_at dksX1_critical_0 14 rfl rfl)
theorem dX1_critical_15 : decode cX1_critical 15 = .ok (.iconst 0, 1) := dk_3 (dk_at dksX1_critical_0 15 rfl rfl)
theorem dX1_critical_16 : decode cX1_critical 16 = .ok (.invokevirtual 270, 3) := dk_182 1 14 (dk_at dksX1_critical_0 16 rfl rfl)
theorem dX1_critical_19 : decode cX1_critical 19 = .ok (.getfield 274, 3) := dk_180 1 18 (dk_at dksX1_critical_0 19 rfl rfl)
theorem dX1_critical_22 : decode cX1_critical 22 = .ok (.ifCond .le 10, 3) := dk_158 0 10 (dk_at dksX1_critical_1 0 rfl rfl)
theorem dX1_critical_25 : decode cX1_critical 25 = .ok (.aload_n 0, 1) := dk_42 (dk_at dksX1_critical_1 3 rfl rfl)
theorem dX1_critical_26 : decode cX1_critical 26 = .ok (.bipush 6, 2) := dk_16 6 (dk_at dksX1_critical_1 4 rfl rfl)
theorem dX1_critical_28 : decode cX1_critical 28 = .ok (.invokevirtual 40, 3) := dk_182 0 40 (dk_at dksX1_critical_1 6 rfl rfl)
theorem dX1_critical_31 : decode cX1_critical 31 = .ok (.ireturn, 1) := dk_172 (dk_at dksX1_critical_1 9 rfl rfl)
theorem dX1_critical_32 : decode cX1_critical 32 = .ok (.iconst 0, 1) := dk_3 (dk_at dksX1_critical_1 10 rfl rfl)
theorem dX1_critical_33 : decode cX1_critical 33 = .ok (.istore_n 1, 1) := dk_60 (dk_at dksX1_critical_1 11 rfl rfl)
theorem dX1_critical_34 : decode cX1_critical 34 = .ok (.iconst 0, 1) := dk_3 (dk_at dksX1_critical_1 12 rfl rfl)
theorem dX1_critical_35 : decode cX1_critical 35 = .ok (.istore_n 2, 1) := dk_61 (dk_at dksX1_critical_1 13 rfl rfl)
theorem dX1_critical_36 : decode cX1_critical 36 = .ok (.iload_n 2, 1) := dk_28 (dk_at dksX1_critical_1 14 rfl rfl)
theorem dX1_critical_37 : decode cX1_critical 37 = .ok (.aload_n 0, 1) := dk_42 (dk_at dksX1_critical_1 15 rfl rfl)
theorem dX1_critical_38 : decode cX1_critical 38 = .ok (.getfield 75, 3) := dk_180 0 75 (dk_at dksX1_critical_1 16 rfl rfl)
theorem dX1_critical_41 : decode cX1_critical 41 = .ok (.getfield 246, 3) := dk_180 0 246 (dk_at dksX1_critical_1 19 rfl rfl)
theorem dX1_critical_44 : decode cX1_critical 44 = .ok (.invokevirtual 214, 3) := dk_182 0 214 (dk_at dksX1_critical_2 0 rfl rfl)
theorem dX1_critical_47 : decode cX1_critical 47 = .ok (.if_icmp .ge 31, 3) := dk_162 0 31 (dk_at dksX1_critical_2 3 rfl rfl)
theorem dX1_critical_50 : decode cX1_critical 50 = .ok (.aload_n 0, 1) := dk_42 (dk_at dksX1_critical_2 6 rfl rfl)
theorem dX1_critical_51 : decode cX1_critical 51 = .ok (.iload_n 1, 1) := dk_27 (dk_at dksX1_critical_2 7 rfl rfl)
theorem dX1_critical_52 : decode cX1_critical 52 = .ok (.iconst 1, 1) := dk_4 (dk_at dksX1_critical_2 8 rfl rfl)
theorem dX1_critical_53 : decode cX1_critical 53 = .ok (.iload_n 2, 1) := dk_28 (dk_at dksX1_critical_2 9 rfl rfl)
theorem dX1_critical_54 : decode cX1_critical 54 = .ok (.ishl, 1) := dk_120 (dk_at dksX1_critical_2 10 rfl rfl)
theorem dX1_critical_55 : decode cX1_critical 55 = .ok (.ior, 1) := dk_128 (dk_at dksX1_critical_2 11 rfl rfl)
theorem dX1_critical_56 : decode cX1_critical 56 = .ok (.iconst 0, 1) := dk_3 (dk_at dksX1_critical_2 12 rfl rfl)
theorem dX1_critical_57 : decode cX1_critical 57 = .ok (.invokevirtual 270, 3) := dk_182 1 14 (dk_at dksX1_critical_2 13 rfl rfl)
theorem dX1_critical_60 : decode cX1_critical 60 = .ok (.getfield 274, 3) := dk_180 1 18 (dk_at dksX1_critical_2 16 rfl rfl)
theorem dX1_critical_63 : decode cX1_critical 63 = .ok (.ifCond .ne 9, 3) := dk_154 0 9 (dk_at dksX1_critical_2 19 rfl rfl)
theorem dX1_critical_66 : decode cX1_critical 66 = .ok (.iload_n 1, 1) := dk_27 (dk_at dksX1_critical_2 22 rfl rfl)
theorem dX1_critical_67 : decode cX1_critical 67 = .ok (.iconst 1, 1) := dk_4 (dk_at dksX1_critical_2 23 rfl rfl)
theorem dX1_critical_68 : decode cX1_critical 68 = .ok (.iload_n 2, 1) := dk_28 (dk_at dksX1_critical_3 0 rfl rfl)
theorem dX1_critical_69 : decode cX1_critical 69 = .ok (.ishl, 1) := dk_120 (dk_at dksX1_critical_3 1 rfl rfl)
theorem dX1_critical_70 : decode cX1_critical 70 = .ok (.ior, 1) := dk_128 (dk_at dksX1_critical_3 2 rfl rfl)
theorem dX1_critical_71 : decode cX1_critical 71 = .ok (.istore_n 1, 1) := dk_60 (dk_at dksX1_critical_3 3 rfl rfl)
theorem dX1_critical_72 : decode cX1_critical 72 = .ok (.iinc 2 1, 3) := dk_132 2 1 (dk_at dksX1_critical_3 4 rfl rfl)
theorem dX1_critical_75 : decode cX1_critical 75 = .ok (.goto (-39), 3) := dk_167 255 217 (dk_at dksX1_critical_3 7 rfl rfl)
theorem dX1_critical_78 : decode cX1_critical 78 = .ok (.aload_n 0, 1) := dk_42 (dk_at dksX1_critical_3 10 rfl rfl)
theorem dX1_critical_79 : decode cX1_critical 79 = .ok (.iconst 1, 1) := dk_4 (dk_at dksX1_critical_3 11 rfl rfl)
theorem dX1_critical_80 : decode cX1_critical 80 = .ok (.aload_n 0, 1) := dk_42 (dk_at dksX1_critical_3 12 rfl rfl)
theorem dX1_critical_81 : decode cX1_critical 81 = .ok (.getfield 75, 3) := dk_180 0 75 (dk_at dksX1_critical_3 13 rfl rfl)
theorem dX1_critical_84 : decode cX1_critical 84 = .ok (.getfield 246, 3) := dk_180 0 246 (dk_at dksX1_critical_3 16 rfl rfl)
theorem dX1_critical_87 : decode cX1_critical 87 = .ok (.invokevirtual 214, 3) := dk_182 0 214 (dk_at dksX1_critical_3 19 rfl rfl)
theorem dX1_critical_90 : decode cX1_critical 90 = .ok (.ishl, 1) := dk_120 (dk_at dksX1_critical_3 22 rfl rfl)
theorem dX1_critical_91 : decode cX1_critical 91 = .ok (.iconst 1, 1) := dk_4 (dk_at dksX1_critical_3 23 rfl rfl)
theorem dX1_critical_92 : decode cX1_critical 92 = .ok (.isub, 1) := dk_100 (dk_at dksX1_critical_4 0 rfl rfl)
theorem dX1_critical_93 : decode cX1_critical 93 = .ok (.iload_n 1, 1) := dk_27 (dk_at dksX1_critical_4 1 rfl rfl)
theorem dX1_critical_94 : decode cX1_critical 94 = .ok (.iconst (-1), 1) := dk_2 (dk_at dksX1_critical_4 2 rfl rfl)
theorem dX1_critical_95 : decode cX1_critical 95 = .ok (.ixor, 1) := dk_130 (dk_at dksX1_critical_4 3 rfl rfl)
theorem dX1_critical_96 : decode cX1_critical 96 = .ok (.iand, 1) := dk_126 (dk_at dksX1_critical_4 4 rfl rfl)
theorem dX1_critical_97 : decode cX1_critical 97 = .ok (.invokevirtual 44, 3) := dk_182 0 44 (dk_at dksX1_critical_4 5 rfl rfl)
theorem dX1_critical_100 : decode cX1_critical 100 = .ok (.ireturn, 1) := dk_172 (dk_at dksX1_critical_4 8 rfl rfl)
abbrev cX1_memory : ByteArray := prog_1_method_56_code
def yX1_memory : MethodName := ⟨RX1, "memory", "()I"⟩
def dkwX1_memory_1 : List UInt8 := [16, 254, 167, 0, 7, 43, 180, 1, 39, 182, 0, 44, 172]
abbrev dktX1_memory_1 : List UInt8 := dkwX1_memory_1 ++ []
def dkwX1_memory_0 : List UInt8 := [42, 180, 0, 75, 199, 0, 9, 42, 4, 182, 0, 40, 172, 42, 182, 1, 35, 76, 42, 43, 199, 0, 8]
abbrev dktX1_memory_0 : List UInt8 := dkwX1_memory_0 ++ dktX1_memory_1
theorem dksX1_memory_0 : cX1_memory.data.toList.drop 0 = dktX1_memory_0 := by decide +kernel
theorem dksX1_memory_1 : cX1_memory.data.toList.drop 23 = dktX1_memory_1 := dk_seg dksX1_memory_0 23 rfl rfl
theorem dX1_memory_0 : decode cX1_memory 0 = .ok (.aload_n 0, 1) := dk_42 (dk_at dksX1_memory_0 0 rfl rfl)
theorem dX1_memory_1 : decode cX1_memory 1 = .ok (.getfield 75, 3) := dk_180 0 75 (dk_at dksX1_memory_0 1 rfl rfl)
theorem dX1_memory_4 : decode cX1_memory 4 = .ok (.ifnonnull 9, 3) := dk_199 0 9 (dk_at dksX1_memory_0 4 rfl rfl)
theorem dX1_memory_7 : decode cX1_memory 7 = .ok (.aload_n 0, 1) := dk_42 (dk_at dksX1_memory_0 7 rfl rfl)
theorem dX1_memory_8 : decode cX1_memory 8 = .ok (.iconst 1, 1) := dk_4 (dk_at dksX1_memory_0 8 rfl rfl)
theorem dX1_memory_9 : decode cX1_memory 9 = .ok (.invokevirtual 40, 3) := dk_182 0 40 (dk_at dksX1_memory_0 9 rfl rfl)
theorem dX1_memory_12 : decode cX1_memory 12 = .ok (.ireturn, 1) := dk_172 (dk_at dksX1_memory_0 12 rfl rfl)
theorem dX1_memory_13 : decode cX1_memory 13 = .ok (.aload_n 0, 1) := dk_42 (dk_at dksX1_memory_0 13 rfl rfl)
theorem dX1_memory_14 : decode cX1_memory 14 = .ok (.invokevirtual 291, 3) := dk_182 1 35 (dk_at dksX1_memory_0 14 rfl rfl)
theorem dX1_memory_17 : decode cX1_memory 17 = .ok (.astore_n 1, 1) := dk_76 (dk_at dksX1_memory_0 17 rfl rfl)
theorem dX1_memory_18 : decode cX1_memory 18 = .ok (.aload_n 0, 1) := dk_42 (dk_at dksX1_memory_0 18 rfl rfl)
theorem dX1_memory_19 : decode cX1_memory 19 = .ok (.aload_n 1, 1) := dk_43 (dk_at dksX1_memory_0 19 rfl rfl)
theorem dX1_memory_20 : decode cX1_memory 20 = .ok (.ifnonnull 8, 3) := dk_199 0 8 (dk_at dksX1_memory_0 20 rfl rfl)
theorem dX1_memory_23 : decode cX1_memory 23 = .ok (.bipush (-2), 2) := dk_16 254 (dk_at dksX1_memory_1 0 rfl rfl)
theorem dX1_memory_25 : decode cX1_memory 25 = .ok (.goto 7, 3) := dk_167 0 7 (dk_at dksX1_memory_1 2 rfl rfl)
theorem dX1_memory_28 : decode cX1_memory 28 = .ok (.aload_n 1, 1) := dk_43 (dk_at dksX1_memory_1 5 rfl rfl)
theorem dX1_memory_29 : decode cX1_memory 29 = .ok (.getfield 295, 3) := dk_180 1 39 (dk_at dksX1_memory_1 6 rfl rfl)
theorem dX1_memory_32 : decode cX1_memory 32 = .ok (.invokevirtual 44, 3) := dk_182 0 44 (dk_at dksX1_memory_1 9 rfl rfl)
theorem dX1_memory_35 : decode cX1_memory 35 = .ok (.ireturn, 1) := dk_172 (dk_at dksX1_memory_1 12 rfl rfl)
abbrev cX1_leastMachine : ByteArray := prog_1_method_55_code
def yX1_leastMachine : MethodName := ⟨RX1, "leastMachine", "()LNotAtOnce$Machine;"⟩
def dkwX1_leastMachine_1 : List UInt8 := [3, 3, 3, 182, 1, 32, 153, 0, 5, 44, 176, 132, 1, 1, 167, 255, 220, 1, 176]
abbrev dktX1_leastMachine_1 : List UInt8 := dkwX1_leastMachine_1 ++ []
def dkwX1_leastMachine_0 : List UInt8 := [4, 60, 27, 6, 163, 0, 37, 187, 1, 24, 89, 42, 180, 0, 75, 180, 1, 26, 27, 183, 1, 29, 77, 44]
abbrev dktX1_leastMachine_0 : List UInt8 := dkwX1_leastMachine_0 ++ dktX1_leastMachine_1
theorem dksX1_leastMachine_0 : cX1_leastMachine.data.toList.drop 0 = dktX1_leastMachine_0 := by decide +kernel
theorem dksX1_leastMachine_1 : cX1_leastMachine.data.toList.drop 24 = dktX1_leastMachine_1 := dk_seg dksX1_leastMachine_0 24 rfl rfl
theorem dX1_leastMachine_0 : decode cX1_leastMachine 0 = .ok (.iconst 1, 1) := dk_4 (dk_at dksX1_leastMachine_0 0 rfl rfl)
theorem dX1_leastMachine_1 : decode cX1_leastMachine 1 = .ok (.istore_n 1, 1) := dk_60 (dk_at dksX1_leastMachine_0 1 rfl rfl)
theorem dX1_leastMachine_2 : decode cX1_leastMachine 2 = .ok (.iload_n 1, 1) := dk_27 (dk_at dksX1_leastMachine_0 2 rfl rfl)
theorem dX1_leastMachine_3 : decode cX1_leastMachine 3 = .ok (.iconst 3, 1) := dk_6 (dk_at dksX1_leastMachine_0 3 rfl rfl)
theorem dX1_leastMachine_4 : decode cX1_leastMachine 4 = .ok (.if_icmp .gt 37, 3) := dk_163 0 37 (dk_at dksX1_leastMachine_0 4 rfl rfl)
theorem dX1_leastMachine_7 : decode cX1_leastMachine 7 = .ok (.new 280, 3) := dk_187 1 24 (dk_at dksX1_leastMachine_0 7 rfl rfl)
theorem dX1_leastMachine_10 : decode cX1_leastMachine 10 = .ok (.dup, 1) := dk_89 (dk_at dksX1_leastMachine_0 10 rfl rfl)
theorem dX1_leastMachine_11 : decode cX1_leastMachine 11 = .ok (.aload_n 0, 1) := dk_42 (dk_at dksX1_leastMachine_0 11 rfl rfl)
theorem dX1_leastMachine_12 : decode cX1_leastMachine 12 = .ok (.getfield 75, 3) := dk_180 0 75 (dk_at dksX1_leastMachine_0 12 rfl rfl)
theorem dX1_leastMachine_15 : decode cX1_leastMachine 15 = .ok (.getfield 282, 3) := dk_180 1 26 (dk_at dksX1_leastMachine_0 15 rfl rfl)
theorem dX1_leastMachine_18 : decode cX1_leastMachine 18 = .ok (.iload_n 1, 1) := dk_27 (dk_at dksX1_leastMachine_0 18 rfl rfl)
theorem dX1_leastMachine_19 : decode cX1_leastMachine 19 = .ok (.invokespecial 285, 3) := dk_183 1 29 (dk_at dksX1_leastMachine_0 19 rfl rfl)
theorem dX1_leastMachine_22 : decode cX1_leastMachine 22 = .ok (.astore_n 2, 1) := dk_77 (dk_at dksX1_leastMachine_0 22 rfl rfl)
theorem dX1_leastMachine_23 : decode cX1_leastMachine 23 = .ok (.aload_n 2, 1) := dk_44 (dk_at dksX1_leastMachine_0 23 rfl rfl)
theorem dX1_leastMachine_24 : decode cX1_leastMachine 24 = .ok (.iconst 0, 1) := dk_3 (dk_at dksX1_leastMachine_1 0 rfl rfl)
theorem dX1_leastMachine_25 : decode cX1_leastMachine 25 = .ok (.iconst 0, 1) := dk_3 (dk_at dksX1_leastMachine_1 1 rfl rfl)
theorem dX1_leastMachine_26 : decode cX1_leastMachine 26 = .ok (.iconst 0, 1) := dk_3 (dk_at dksX1_leastMachine_1 2 rfl rfl)
theorem dX1_leastMachine_27 : decode cX1_leastMachine 27 = .ok (.invokevirtual 288, 3) := dk_182 1 32 (dk_at dksX1_leastMachine_1 3 rfl rfl)
theorem dX1_leastMachine_30 : decode cX1_leastMachine 30 = .ok (.ifCond .eq 5, 3) := dk_153 0 5 (dk_at dksX1_leastMachine_1 6 rfl rfl)
theorem dX1_leastMachine_33 : decode cX1_leastMachine 33 = .ok (.aload_n 2, 1) := dk_44 (dk_at dksX1_leastMachine_1 9 rfl rfl)
theorem dX1_leastMachine_34 : decode cX1_leastMachine 34 = .ok (.areturn, 1) := dk_176 (dk_at dksX1_leastMachine_1 10 rfl rfl)
theorem dX1_leastMachine_35 : decode cX1_leastMachine 35 = .ok (.iinc 1 1, 3) := dk_132 1 1 (dk_at dksX1_leastMachine_1 11 rfl rfl)
theorem dX1_leastMachine_38 : decode cX1_leastMachine 38 = .ok (.goto (-36), 3) := dk_167 255 220 (dk_at dksX1_leastMachine_1 14 rfl rfl)
theorem dX1_leastMachine_41 : decode cX1_leastMachine 41 = .ok (.aconst_null, 1) := dk_1 (dk_at dksX1_leastMachine_1 17 rfl rfl)
theorem dX1_leastMachine_42 : decode cX1_leastMachine 42 = .ok (.areturn, 1) := dk_176 (dk_at dksX1_leastMachine_1 18 rfl rfl)
abbrev cX1_machine : ByteArray := prog_1_method_57_code
def yX1_machine : MethodName := ⟨RX1, "machine", "(IIZ)I"⟩
def dkwX1_machine_3 : List UInt8 := [25, 4, 180, 1, 45, 21, 5, 46, 167, 0, 11, 25, 4, 180, 1, 42, 21, 5, 46, 182, 0, 44, 172]
abbrev dktX1_machine_3 : List UInt8 := dkwX1_machine_3 ++ []
def dkwX1_machine_2 : List UInt8 := [54, 5, 42, 25, 4, 180, 1, 42, 21, 5, 46, 2, 160, 0, 8, 16, 254, 167, 0, 26, 29, 153, 0, 14]
abbrev dktX1_machine_2 : List UInt8 := dkwX1_machine_2 ++ dktX1_machine_3
def dkwX1_machine_1 : List UInt8 := [182, 1, 35, 58, 4, 25, 4, 199, 0, 10, 42, 16, 6, 182, 0, 40, 172, 16, 6, 27, 104, 28, 96]
abbrev dktX1_machine_1 : List UInt8 := dkwX1_machine_1 ++ dktX1_machine_2
def dkwX1_machine_0 : List UInt8 := [27, 3, 5, 184, 0, 50, 153, 0, 11, 42, 28, 182, 0, 136, 154, 0, 9, 42, 4, 182, 0, 40, 172, 42]
abbrev dktX1_machine_0 : List UInt8 := dkwX1_machine_0 ++ dktX1_machine_1
theorem dksX1_machine_0 : cX1_machine.data.toList.drop 0 = dktX1_machine_0 := by decide +kernel
theorem dksX1_machine_1 : cX1_machine.data.toList.drop 24 = dktX1_machine_1 := dk_seg dksX1_machine_0 24 rfl rfl
theorem dksX1_machine_2 : cX1_machine.data.toList.drop 47 = dktX1_machine_2 := dk_seg dksX1_machine_1 23 rfl rfl
theorem dksX1_machine_3 : cX1_machine.data.toList.drop 71 = dktX1_machine_3 := dk_seg dksX1_machine_2 24 rfl rfl
theorem dX1_machine_0 : decode cX1_machine 0 = .ok (.iload_n 1, 1) := dk_27 (dk_at dksX1_machine_0 0 rfl rfl)
theorem dX1_machine_1 : decode cX1_machine 1 = .ok (.iconst 0, 1) := dk_3 (dk_at dksX1_machine_0 1 rfl rfl)
theorem dX1_machine_2 : decode cX1_machine 2 = .ok (.iconst 2, 1) := dk_5 (dk_at dksX1_machine_0 2 rfl rfl)
theorem dX1_machine_3 : decode cX1_machine 3 = .ok (.invokestatic 50, 3) := dk_184 0 50 (dk_at dksX1_machine_0 3 rfl rfl)
theorem dX1_machine_6 : decode cX1_machine 6 = .ok (.ifCond .eq 11, 3) := dk_153 0 11 (dk_at dksX1_machine_0 6 rfl rfl)
theorem dX1_machine_9 : decode cX1_machine 9 = .ok (.aload_n 0, 1) := dk_42 (dk_at dksX1_machine_0 9 rfl rfl)
theorem dX1_machine_10 : decode cX1_machine 10 = .ok (.iload_n 2, 1) := dk_28 (dk_at dksX1_machine_0 10 rfl rfl)
theorem dX1_machine_11 : decode cX1_machine 11 = .ok (.invokevirtual 136, 3) := dk_182 0 136 (dk_at dksX1_machine_0 11 rfl rfl)
theorem dX1_machine_14 : decode cX1_machine 14 = .ok (.ifCond .ne 9, 3) := dk_154 0 9 (dk_at dksX1_machine_0 14 rfl rfl)
theorem dX1_machine_17 : decode cX1_machine 17 = .ok (.aload_n 0, 1) := dk_42 (dk_at dksX1_machine_0 17 rfl rfl)
theorem dX1_machine_18 : decode cX1_machine 18 = .ok (.iconst 1, 1) := dk_4 (dk_at dksX1_machine_0 18 rfl rfl)
theorem dX1_machine_19 : decode cX1_machine 19 = .ok (.invokevirtual 40, 3) := dk_182 0 40 (dk_at dksX1_machine_0 19 rfl rfl)
theorem dX1_machine_22 : decode cX1_machine 22 = .ok (.ireturn, 1) := dk_172 (dk_at dksX1_machine_0 22 rfl rfl)
theorem dX1_machine_23 : decode cX1_machine 23 = .ok (.aload_n 0, 1) := dk_42 (dk_at dksX1_machine_0 23 rfl rfl)
theorem dX1_machine_24 : decode cX1_machine 24 = .ok (.invokevirtual 291, 3) := dk_182 1 35 (dk_at dksX1_machine_1 0 rfl rfl)
theorem dX1_machine_27 : decode cX1_machine 27 = .ok (.astore 4, 2) := dk_58 4 (dk_at dksX1_machine_1 3 rfl rfl)
theorem dX1_machine_29 : decode cX1_machine 29 = .ok (.aload 4, 2) := dk_25 4 (dk_at dksX1_machine_1 5 rfl rfl)
theorem dX1_machine_31 : decode cX1_machine 31 = .ok (.ifnonnull 10, 3) := dk_199 0 10 (dk_at dksX1_machine_1 7 rfl rfl)
theorem dX1_machine_34 : decode cX1_machine 34 = .ok (.aload_n 0, 1) := dk_42 (dk_at dksX1_machine_1 10 rfl rfl)
theorem dX1_machine_35 : decode cX1_machine 35 = .ok (.bipush 6, 2) := dk_16 6 (dk_at dksX1_machine_1 11 rfl rfl)
theorem dX1_machine_37 : decode cX1_machine 37 = .ok (.invokevirtual 40, 3) := dk_182 0 40 (dk_at dksX1_machine_1 13 rfl rfl)
theorem dX1_machine_40 : decode cX1_machine 40 = .ok (.ireturn, 1) := dk_172 (dk_at dksX1_machine_1 16 rfl rfl)
theorem dX1_machine_41 : decode cX1_machine 41 = .ok (.bipush 6, 2) := dk_16 6 (dk_at dksX1_machine_1 17 rfl rfl)
theorem dX1_machine_43 : decode cX1_machine 43 = .ok (.iload_n 1, 1) := dk_27 (dk_at dksX1_machine_1 19 rfl rfl)
theorem dX1_machine_44 : decode cX1_machine 44 = .ok (.imul, 1) := dk_104 (dk_at dksX1_machine_1 20 rfl rfl)
theorem dX1_machine_45 : decode cX1_machine 45 = .ok (.iload_n 2, 1) := dk_28 (dk_at dksX1_machine_1 21 rfl rfl)
theorem dX1_machine_46 : decode cX1_machine 46 = .ok (.iadd, 1) := dk_96 (dk_at dksX1_machine_1 22 rfl rfl)
theorem dX1_machine_47 : decode cX1_machine 47 = .ok (.istore 5, 2) := dk_54 5 (dk_at dksX1_machine_2 0 rfl rfl)
theorem dX1_machine_49 : decode cX1_machine 49 = .ok (.aload_n 0, 1) := dk_42 (dk_at dksX1_machine_2 2 rfl rfl)
theorem dX1_machine_50 : decode cX1_machine 50 = .ok (.aload 4, 2) := dk_25 4 (dk_at dksX1_machine_2 3 rfl rfl)
theorem dX1_machine_52 : decode cX1_machine 52 = .ok (.getfield 298, 3) := dk_180 1 42 (dk_at dksX1_machine_2 5 rfl rfl)
theorem dX1_machine_55 : decode cX1_machine 55 = .ok (.iload 5, 2) := dk_21 5 (dk_at dksX1_machine_2 8 rfl rfl)
theorem dX1_machine_57 : decode cX1_machine 57 = .ok (.iaload, 1) := dk_46 (dk_at dksX1_machine_2 10 rfl rfl)
theorem dX1_machine_58 : decode cX1_machine 58 = .ok (.iconst (-1), 1) := dk_2 (dk_at dksX1_machine_2 11 rfl rfl)
theorem dX1_machine_59 : decode cX1_machine 59 = .ok (.if_icmp .ne 8, 3) := dk_160 0 8 (dk_at dksX1_machine_2 12 rfl rfl)
theorem dX1_machine_62 : decode cX1_machine 62 = .ok (.bipush (-2), 2) := dk_16 254 (dk_at dksX1_machine_2 15 rfl rfl)
theorem dX1_machine_64 : decode cX1_machine 64 = .ok (.goto 26, 3) := dk_167 0 26 (dk_at dksX1_machine_2 17 rfl rfl)
theorem dX1_machine_67 : decode cX1_machine 67 = .ok (.iload_n 3, 1) := dk_29 (dk_at dksX1_machine_2 20 rfl rfl)
theorem dX1_machine_68 : decode cX1_machine 68 = .ok (.ifCond .eq 14, 3) := dk_153 0 14 (dk_at dksX1_machine_2 21 rfl rfl)
theorem dX1_machine_71 : decode cX1_machine 71 = .ok (.aload 4, 2) := dk_25 4 (dk_at dksX1_machine_3 0 rfl rfl)
theorem dX1_machine_73 : decode cX1_machine 73 = .ok (.getfield 301, 3) := dk_180 1 45 (dk_at dksX1_machine_3 2 rfl rfl)
theorem dX1_machine_76 : decode cX1_machine 76 = .ok (.iload 5, 2) := dk_21 5 (dk_at dksX1_machine_3 5 rfl rfl)
theorem dX1_machine_78 : decode cX1_machine 78 = .ok (.iaload, 1) := dk_46 (dk_at dksX1_machine_3 7 rfl rfl)
theorem dX1_machine_79 : decode cX1_machine 79 = .ok (.goto 11, 3) := dk_167 0 11 (dk_at dksX1_machine_3 8 rfl rfl)
theorem dX1_machine_82 : decode cX1_machine 82 = .ok (.aload 4, 2) := dk_25 4 (dk_at dksX1_machine_3 11 rfl rfl)
theorem dX1_machine_84 : decode cX1_machine 84 = .ok (.getfield 298, 3) := dk_180 1 42 (dk_at dksX1_machine_3 13 rfl rfl)
theorem dX1_machine_87 : decode cX1_machine 87 = .ok (.iload 5, 2) := dk_21 5 (dk_at dksX1_machine_3 16 rfl rfl)
theorem dX1_machine_89 : decode cX1_machine 89 = .ok (.iaload, 1) := dk_46 (dk_at dksX1_machine_3 18 rfl rfl)
theorem dX1_machine_90 : decode cX1_machine 90 = .ok (.invokevirtual 44, 3) := dk_182 0 44 (dk_at dksX1_machine_3 19 rfl rfl)
theorem dX1_machine_93 : decode cX1_machine 93 = .ok (.ireturn, 1) := dk_172 (dk_at dksX1_machine_3 22 rfl rfl)
abbrev cX1_flip : ByteArray := prog_1_method_59_code
def yX1_flip : MethodName := ⟨RX1, "flip", "(I)Z"⟩
def dkwX1_flip_1 : List UInt8 := [180, 0, 91, 27, 182, 1, 63, 42, 182, 0, 199, 172]
abbrev dktX1_flip_1 : List UInt8 := dkwX1_flip_1 ++ []
def dkwX1_flip_0 : List UInt8 := [42, 27, 182, 0, 136, 154, 0, 9, 42, 4, 182, 0, 192, 172, 42, 3, 27, 182, 1, 59, 87, 42]
abbrev dktX1_flip_0 : List UInt8 := dkwX1_flip_0 ++ dktX1_flip_1
theorem dksX1_flip_0 : cX1_flip.data.toList.drop 0 = dktX1_flip_0 := by decide +kernel
theorem dksX1_flip_1 : cX1_flip.data.toList.drop 22 = dktX1_flip_1 := dk_seg dksX1_flip_0 22 rfl rfl
theorem dX1_flip_0 : decode cX1_flip 0 = .ok (.aload_n 0, 1) := dk_42 (dk_at dksX1_flip_0 0 rfl rfl)
theorem dX1_flip_1 : decode cX1_flip 1 = .ok (.iload_n 1, 1) := dk_27 (dk_at dksX1_flip_0 1 rfl rfl)
theorem dX1_flip_2 : decode cX1_flip 2 = .ok (.invokevirtual 136, 3) := dk_182 0 136 (dk_at dksX1_flip_0 2 rfl rfl)
theorem dX1_flip_5 : decode cX1_flip 5 = .ok (.ifCond .ne 9, 3) := dk_154 0 9 (dk_at dksX1_flip_0 5 rfl rfl)
theorem dX1_flip_8 : decode cX1_flip 8 = .ok (.aload_n 0, 1) := dk_42 (dk_at dksX1_flip_0 8 rfl rfl)
theorem dX1_flip_9 : decode cX1_flip 9 = .ok (.iconst 1, 1) := dk_4 (dk_at dksX1_flip_0 9 rfl rfl)
theorem dX1_flip_10 : decode cX1_flip 10 = .ok (.invokevirtual 192, 3) := dk_182 0 192 (dk_at dksX1_flip_0 10 rfl rfl)
theorem dX1_flip_13 : decode cX1_flip 13 = .ok (.ireturn, 1) := dk_172 (dk_at dksX1_flip_0 13 rfl rfl)
theorem dX1_flip_14 : decode cX1_flip 14 = .ok (.aload_n 0, 1) := dk_42 (dk_at dksX1_flip_0 14 rfl rfl)
theorem dX1_flip_15 : decode cX1_flip 15 = .ok (.iconst 0, 1) := dk_3 (dk_at dksX1_flip_0 15 rfl rfl)
theorem dX1_flip_16 : decode cX1_flip 16 = .ok (.iload_n 1, 1) := dk_27 (dk_at dksX1_flip_0 16 rfl rfl)
theorem dX1_flip_17 : decode cX1_flip 17 = .ok (.invokevirtual 315, 3) := dk_182 1 59 (dk_at dksX1_flip_0 17 rfl rfl)
theorem dX1_flip_20 : decode cX1_flip 20 = .ok (.pop, 1) := dk_87 (dk_at dksX1_flip_0 20 rfl rfl)
theorem dX1_flip_21 : decode cX1_flip 21 = .ok (.aload_n 0, 1) := dk_42 (dk_at dksX1_flip_0 21 rfl rfl)
theorem dX1_flip_22 : decode cX1_flip 22 = .ok (.getfield 91, 3) := dk_180 0 91 (dk_at dksX1_flip_1 0 rfl rfl)
theorem dX1_flip_25 : decode cX1_flip 25 = .ok (.iload_n 1, 1) := dk_27 (dk_at dksX1_flip_1 3 rfl rfl)
theorem dX1_flip_26 : decode cX1_flip 26 = .ok (.invokevirtual 319, 3) := dk_182 1 63 (dk_at dksX1_flip_1 4 rfl rfl)
theorem dX1_flip_29 : decode cX1_flip 29 = .ok (.aload_n 0, 1) := dk_42 (dk_at dksX1_flip_1 7 rfl rfl)
theorem dX1_flip_30 : decode cX1_flip 30 = .ok (.invokevirtual 199, 3) := dk_182 0 199 (dk_at dksX1_flip_1 8 rfl rfl)
theorem dX1_flip_33 : decode cX1_flip 33 = .ok (.ireturn, 1) := dk_172 (dk_at dksX1_flip_1 11 rfl rfl)
abbrev cX1_keeps : ByteArray := prog_1_method_58_code
def yX1_keeps : MethodName := ⟨RX1, "keeps", "(II)LNotAtOnce$Step;"⟩
def dkwX1_keeps_2 : List UInt8 := [180, 0, 91, 4, 182, 0, 85, 181, 0, 91, 42, 180, 0, 31, 182, 0, 92, 45, 176]
abbrev dktX1_keeps_2 : List UInt8 := dkwX1_keeps_2 ++ []
def dkwX1_keeps_1 : List UInt8 := [89, 42, 180, 0, 91, 27, 28, 183, 1, 53, 78, 42, 180, 0, 27, 45, 182, 1, 55, 87, 42, 42]
abbrev dktX1_keeps_1 : List UInt8 := dkwX1_keeps_1 ++ dktX1_keeps_2
def dkwX1_keeps_0 : List UInt8 := [42, 180, 0, 27, 182, 0, 214, 16, 20, 160, 0, 12, 42, 180, 0, 27, 3, 182, 1, 48, 87, 187, 1, 51]
abbrev dktX1_keeps_0 : List UInt8 := dkwX1_keeps_0 ++ dktX1_keeps_1
theorem dksX1_keeps_0 : cX1_keeps.data.toList.drop 0 = dktX1_keeps_0 := by decide +kernel
theorem dksX1_keeps_1 : cX1_keeps.data.toList.drop 24 = dktX1_keeps_1 := dk_seg dksX1_keeps_0 24 rfl rfl
theorem dksX1_keeps_2 : cX1_keeps.data.toList.drop 46 = dktX1_keeps_2 := dk_seg dksX1_keeps_1 22 rfl rfl
theorem dX1_keeps_0 : decode cX1_keeps 0 = .ok (.aload_n 0, 1) := dk_42 (dk_at dksX1_keeps_0 0 rfl rfl)
theorem dX1_keeps_1 : decode cX1_keeps 1 = .ok (.getfield 27, 3) := dk_180 0 27 (dk_at dksX1_keeps_0 1 rfl rfl)
theorem dX1_keeps_4 : decode cX1_keeps 4 = .ok (.invokevirtual 214, 3) := dk_182 0 214 (dk_at dksX1_keeps_0 4 rfl rfl)
theorem dX1_keeps_7 : decode cX1_keeps 7 = .ok (.bipush 20, 2) := dk_16 20 (dk_at dksX1_keeps_0 7 rfl rfl)
theorem dX1_keeps_9 : decode cX1_keeps 9 = .ok (.if_icmp .ne 12, 3) := dk_160 0 12 (dk_at dksX1_keeps_0 9 rfl rfl)
theorem dX1_keeps_12 : decode cX1_keeps 12 = .ok (.aload_n 0, 1) := dk_42 (dk_at dksX1_keeps_0 12 rfl rfl)
theorem dX1_keeps_13 : decode cX1_keeps 13 = .ok (.getfield 27, 3) := dk_180 0 27 (dk_at dksX1_keeps_0 13 rfl rfl)
theorem dX1_keeps_16 : decode cX1_keeps 16 = .ok (.iconst 0, 1) := dk_3 (dk_at dksX1_keeps_0 16 rfl rfl)
theorem dX1_keeps_17 : decode cX1_keeps 17 = .ok (.invokevirtual 304, 3) := dk_182 1 48 (dk_at dksX1_keeps_0 17 rfl rfl)
theorem dX1_keeps_20 : decode cX1_keeps 20 = .ok (.pop, 1) := dk_87 (dk_at dksX1_keeps_0 20 rfl rfl)
theorem dX1_keeps_21 : decode cX1_keeps 21 = .ok (.new 307, 3) := dk_187 1 51 (dk_at dksX1_keeps_0 21 rfl rfl)
theorem dX1_keeps_24 : decode cX1_keeps 24 = .ok (.dup, 1) := dk_89 (dk_at dksX1_keeps_1 0 rfl rfl)
theorem dX1_keeps_25 : decode cX1_keeps 25 = .ok (.aload_n 0, 1) := dk_42 (dk_at dksX1_keeps_1 1 rfl rfl)
theorem dX1_keeps_26 : decode cX1_keeps 26 = .ok (.getfield 91, 3) := dk_180 0 91 (dk_at dksX1_keeps_1 2 rfl rfl)
theorem dX1_keeps_29 : decode cX1_keeps 29 = .ok (.iload_n 1, 1) := dk_27 (dk_at dksX1_keeps_1 5 rfl rfl)
theorem dX1_keeps_30 : decode cX1_keeps 30 = .ok (.iload_n 2, 1) := dk_28 (dk_at dksX1_keeps_1 6 rfl rfl)
theorem dX1_keeps_31 : decode cX1_keeps 31 = .ok (.invokespecial 309, 3) := dk_183 1 53 (dk_at dksX1_keeps_1 7 rfl rfl)
theorem dX1_keeps_34 : decode cX1_keeps 34 = .ok (.astore_n 3, 1) := dk_78 (dk_at dksX1_keeps_1 10 rfl rfl)
theorem dX1_keeps_35 : decode cX1_keeps 35 = .ok (.aload_n 0, 1) := dk_42 (dk_at dksX1_keeps_1 11 rfl rfl)
theorem dX1_keeps_36 : decode cX1_keeps 36 = .ok (.getfield 27, 3) := dk_180 0 27 (dk_at dksX1_keeps_1 12 rfl rfl)
theorem dX1_keeps_39 : decode cX1_keeps 39 = .ok (.aload_n 3, 1) := dk_45 (dk_at dksX1_keeps_1 15 rfl rfl)
theorem dX1_keeps_40 : decode cX1_keeps 40 = .ok (.invokevirtual 311, 3) := dk_182 1 55 (dk_at dksX1_keeps_1 16 rfl rfl)
theorem dX1_keeps_43 : decode cX1_keeps 43 = .ok (.pop, 1) := dk_87 (dk_at dksX1_keeps_1 19 rfl rfl)
theorem dX1_keeps_44 : decode cX1_keeps 44 = .ok (.aload_n 0, 1) := dk_42 (dk_at dksX1_keeps_1 20 rfl rfl)
theorem dX1_keeps_45 : decode cX1_keeps 45 = .ok (.aload_n 0, 1) := dk_42 (dk_at dksX1_keeps_1 21 rfl rfl)
theorem dX1_keeps_46 : decode cX1_keeps 46 = .ok (.getfield 91, 3) := dk_180 0 91 (dk_at dksX1_keeps_2 0 rfl rfl)
theorem dX1_keeps_49 : decode cX1_keeps 49 = .ok (.iconst 1, 1) := dk_4 (dk_at dksX1_keeps_2 3 rfl rfl)
theorem dX1_keeps_50 : decode cX1_keeps 50 = .ok (.invokevirtual 85, 3) := dk_182 0 85 (dk_at dksX1_keeps_2 4 rfl rfl)
theorem dX1_keeps_53 : decode cX1_keeps 53 = .ok (.putfield 91, 3) := dk_181 0 91 (dk_at dksX1_keeps_2 7 rfl rfl)
theorem dX1_keeps_56 : decode cX1_keeps 56 = .ok (.aload_n 0, 1) := dk_42 (dk_at dksX1_keeps_2 10 rfl rfl)
theorem dX1_keeps_57 : decode cX1_keeps 57 = .ok (.getfield 31, 3) := dk_180 0 31 (dk_at dksX1_keeps_2 11 rfl rfl)
theorem dX1_keeps_60 : decode cX1_keeps 60 = .ok (.invokevirtual 92, 3) := dk_182 0 92 (dk_at dksX1_keeps_2 14 rfl rfl)
theorem dX1_keeps_63 : decode cX1_keeps 63 = .ok (.aload_n 3, 1) := dk_45 (dk_at dksX1_keeps_2 17 rfl rfl)
theorem dX1_keeps_64 : decode cX1_keeps 64 = .ok (.areturn, 1) := dk_176 (dk_at dksX1_keeps_2 18 rfl rfl)
abbrev cX1_drop : ByteArray := prog_1_method_60_code
def yX1_drop : MethodName := ⟨RX1, "drop", "(I)Z"⟩
def dkwX1_drop_1 : List UInt8 := [180, 0, 91, 180, 1, 67, 27, 182, 1, 48, 87, 42, 182, 0, 199, 172]
abbrev dktX1_drop_1 : List UInt8 := dkwX1_drop_1 ++ []
def dkwX1_drop_0 : List UInt8 := [42, 27, 182, 0, 179, 154, 0, 9, 42, 4, 182, 0, 192, 172, 42, 4, 27, 182, 1, 59, 87, 42]
abbrev dktX1_drop_0 : List UInt8 := dkwX1_drop_0 ++ dktX1_drop_1
theorem dksX1_drop_0 : cX1_drop.data.toList.drop 0 = dktX1_drop_0 := by decide +kernel
theorem dksX1_drop_1 : cX1_drop.data.toList.drop 22 = dktX1_drop_1 := dk_seg dksX1_drop_0 22 rfl rfl
theorem dX1_drop_0 : decode cX1_drop 0 = .ok (.aload_n 0, 1) := dk_42 (dk_at dksX1_drop_0 0 rfl rfl)
theorem dX1_drop_1 : decode cX1_drop 1 = .ok (.iload_n 1, 1) := dk_27 (dk_at dksX1_drop_0 1 rfl rfl)
theorem dX1_drop_2 : decode cX1_drop 2 = .ok (.invokevirtual 179, 3) := dk_182 0 179 (dk_at dksX1_drop_0 2 rfl rfl)
theorem dX1_drop_5 : decode cX1_drop 5 = .ok (.ifCond .ne 9, 3) := dk_154 0 9 (dk_at dksX1_drop_0 5 rfl rfl)
theorem dX1_drop_8 : decode cX1_drop 8 = .ok (.aload_n 0, 1) := dk_42 (dk_at dksX1_drop_0 8 rfl rfl)
theorem dX1_drop_9 : decode cX1_drop 9 = .ok (.iconst 1, 1) := dk_4 (dk_at dksX1_drop_0 9 rfl rfl)
theorem dX1_drop_10 : decode cX1_drop 10 = .ok (.invokevirtual 192, 3) := dk_182 0 192 (dk_at dksX1_drop_0 10 rfl rfl)
theorem dX1_drop_13 : decode cX1_drop 13 = .ok (.ireturn, 1) := dk_172 (dk_at dksX1_drop_0 13 rfl rfl)
theorem dX1_drop_14 : decode cX1_drop 14 = .ok (.aload_n 0, 1) := dk_42 (dk_at dksX1_drop_0 14 rfl rfl)
theorem dX1_drop_15 : decode cX1_drop 15 = .ok (.iconst 1, 1) := dk_4 (dk_at dksX1_drop_0 15 rfl rfl)
theorem dX1_drop_16 : decode cX1_drop 16 = .ok (.iload_n 1, 1) := dk_27 (dk_at dksX1_drop_0 16 rfl rfl)
theorem dX1_drop_17 : decode cX1_drop 17 = .ok (.invokevirtual 315, 3) := dk_182 1 59 (dk_at dksX1_drop_0 17 rfl rfl)
theorem dX1_drop_20 : decode cX1_drop 20 = .ok (.pop, 1) := dk_87 (dk_at dksX1_drop_0 20 rfl rfl)
theorem dX1_drop_21 : decode cX1_drop 21 = .ok (.aload_n 0, 1) := dk_42 (dk_at dksX1_drop_0 21 rfl rfl)
theorem dX1_drop_22 : decode cX1_drop 22 = .ok (.getfield 91, 3) := dk_180 0 91 (dk_at dksX1_drop_1 0 rfl rfl)
theorem dX1_drop_25 : decode cX1_drop 25 = .ok (.getfield 323, 3) := dk_180 1 67 (dk_at dksX1_drop_1 3 rfl rfl)
theorem dX1_drop_28 : decode cX1_drop 28 = .ok (.iload_n 1, 1) := dk_27 (dk_at dksX1_drop_1 6 rfl rfl)
theorem dX1_drop_29 : decode cX1_drop 29 = .ok (.invokevirtual 304, 3) := dk_182 1 48 (dk_at dksX1_drop_1 7 rfl rfl)
theorem dX1_drop_32 : decode cX1_drop 32 = .ok (.pop, 1) := dk_87 (dk_at dksX1_drop_1 10 rfl rfl)
theorem dX1_drop_33 : decode cX1_drop 33 = .ok (.aload_n 0, 1) := dk_42 (dk_at dksX1_drop_1 11 rfl rfl)
theorem dX1_drop_34 : decode cX1_drop 34 = .ok (.invokevirtual 199, 3) := dk_182 0 199 (dk_at dksX1_drop_1 12 rfl rfl)
theorem dX1_drop_37 : decode cX1_drop 37 = .ok (.ireturn, 1) := dk_172 (dk_at dksX1_drop_1 15 rfl rfl)
abbrev cX1_forget : ByteArray := prog_1_method_61_code
def yX1_forget : MethodName := ⟨RX1, "forget", "(I)Z"⟩
def dkwX1_forget_2 : List UInt8 := [42, 182, 0, 199, 172]
abbrev dktX1_forget_2 : List UInt8 := dkwX1_forget_2 ++ []
def dkwX1_forget_1 : List UInt8 := [154, 0, 9, 42, 8, 182, 0, 192, 172, 42, 5, 27, 182, 1, 59, 87, 42, 180, 0, 91, 27, 182, 1, 73]
abbrev dktX1_forget_1 : List UInt8 := dkwX1_forget_1 ++ dktX1_forget_2
def dkwX1_forget_0 : List UInt8 := [42, 27, 182, 0, 136, 154, 0, 9, 42, 4, 182, 0, 192, 172, 42, 180, 0, 91, 27, 182, 1, 70]
abbrev dktX1_forget_0 : List UInt8 := dkwX1_forget_0 ++ dktX1_forget_1
theorem dksX1_forget_0 : cX1_forget.data.toList.drop 0 = dktX1_forget_0 := by decide +kernel
theorem dksX1_forget_1 : cX1_forget.data.toList.drop 22 = dktX1_forget_1 := dk_seg dksX1_forget_0 22 rfl rfl
theorem dksX1_forget_2 : cX1_forget.data.toList.drop 46 = dktX1_forget_2 := dk_seg dksX1_forget_1 24 rfl rfl
theorem dX1_forget_0 : decode cX1_forget 0 = .ok (.aload_n 0, 1) := dk_42 (dk_at dksX1_forget_0 0 rfl rfl)
theorem dX1_forget_1 : decode cX1_forget 1 = .ok (.iload_n 1, 1) := dk_27 (dk_at dksX1_forget_0 1 rfl rfl)
theorem dX1_forget_2 : decode cX1_forget 2 = .ok (.invokevirtual 136, 3) := dk_182 0 136 (dk_at dksX1_forget_0 2 rfl rfl)
theorem dX1_forget_5 : decode cX1_forget 5 = .ok (.ifCond .ne 9, 3) := dk_154 0 9 (dk_at dksX1_forget_0 5 rfl rfl)
theorem dX1_forget_8 : decode cX1_forget 8 = .ok (.aload_n 0, 1) := dk_42 (dk_at dksX1_forget_0 8 rfl rfl)
theorem dX1_forget_9 : decode cX1_forget 9 = .ok (.iconst 1, 1) := dk_4 (dk_at dksX1_forget_0 9 rfl rfl)
theorem dX1_forget_10 : decode cX1_forget 10 = .ok (.invokevirtual 192, 3) := dk_182 0 192 (dk_at dksX1_forget_0 10 rfl rfl)
theorem dX1_forget_13 : decode cX1_forget 13 = .ok (.ireturn, 1) := dk_172 (dk_at dksX1_forget_0 13 rfl rfl)
theorem dX1_forget_14 : decode cX1_forget 14 = .ok (.aload_n 0, 1) := dk_42 (dk_at dksX1_forget_0 14 rfl rfl)
theorem dX1_forget_15 : decode cX1_forget 15 = .ok (.getfield 91, 3) := dk_180 0 91 (dk_at dksX1_forget_0 15 rfl rfl)
theorem dX1_forget_18 : decode cX1_forget 18 = .ok (.iload_n 1, 1) := dk_27 (dk_at dksX1_forget_0 18 rfl rfl)
theorem dX1_forget_19 : decode cX1_forget 19 = .ok (.invokevirtual 326, 3) := dk_182 1 70 (dk_at dksX1_forget_0 19 rfl rfl)
theorem dX1_forget_22 : decode cX1_forget 22 = .ok (.ifCond .ne 9, 3) := dk_154 0 9 (dk_at dksX1_forget_1 0 rfl rfl)
theorem dX1_forget_25 : decode cX1_forget 25 = .ok (.aload_n 0, 1) := dk_42 (dk_at dksX1_forget_1 3 rfl rfl)
theorem dX1_forget_26 : decode cX1_forget 26 = .ok (.iconst 5, 1) := dk_8 (dk_at dksX1_forget_1 4 rfl rfl)
theorem dX1_forget_27 : decode cX1_forget 27 = .ok (.invokevirtual 192, 3) := dk_182 0 192 (dk_at dksX1_forget_1 5 rfl rfl)
theorem dX1_forget_30 : decode cX1_forget 30 = .ok (.ireturn, 1) := dk_172 (dk_at dksX1_forget_1 8 rfl rfl)
theorem dX1_forget_31 : decode cX1_forget 31 = .ok (.aload_n 0, 1) := dk_42 (dk_at dksX1_forget_1 9 rfl rfl)
theorem dX1_forget_32 : decode cX1_forget 32 = .ok (.iconst 2, 1) := dk_5 (dk_at dksX1_forget_1 10 rfl rfl)
theorem dX1_forget_33 : decode cX1_forget 33 = .ok (.iload_n 1, 1) := dk_27 (dk_at dksX1_forget_1 11 rfl rfl)
theorem dX1_forget_34 : decode cX1_forget 34 = .ok (.invokevirtual 315, 3) := dk_182 1 59 (dk_at dksX1_forget_1 12 rfl rfl)
theorem dX1_forget_37 : decode cX1_forget 37 = .ok (.pop, 1) := dk_87 (dk_at dksX1_forget_1 15 rfl rfl)
theorem dX1_forget_38 : decode cX1_forget 38 = .ok (.aload_n 0, 1) := dk_42 (dk_at dksX1_forget_1 16 rfl rfl)
theorem dX1_forget_39 : decode cX1_forget 39 = .ok (.getfield 91, 3) := dk_180 0 91 (dk_at dksX1_forget_1 17 rfl rfl)
theorem dX1_forget_42 : decode cX1_forget 42 = .ok (.iload_n 1, 1) := dk_27 (dk_at dksX1_forget_1 20 rfl rfl)
theorem dX1_forget_43 : decode cX1_forget 43 = .ok (.invokevirtual 329, 3) := dk_182 1 73 (dk_at dksX1_forget_1 21 rfl rfl)
theorem dX1_forget_46 : decode cX1_forget 46 = .ok (.aload_n 0, 1) := dk_42 (dk_at dksX1_forget_2 0 rfl rfl)
theorem dX1_forget_47 : decode cX1_forget 47 = .ok (.invokevirtual 199, 3) := dk_182 0 199 (dk_at dksX1_forget_2 1 rfl rfl)
theorem dX1_forget_50 : decode cX1_forget 50 = .ok (.ireturn, 1) := dk_172 (dk_at dksX1_forget_2 4 rfl rfl)
abbrev cX1_shift : ByteArray := prog_1_method_62_code
def yX1_shift : MethodName := ⟨RX1, "shift", "(IIII)Z"⟩
def dkwX1_shift_6 : List UInt8 := [182, 0, 199, 172]
abbrev dktX1_shift_6 : List UInt8 := dkwX1_shift_6 ++ []
def dkwX1_shift_5 : List UInt8 := [21, 4, 100, 79, 42, 180, 0, 91, 27, 182, 0, 153, 180, 1, 76, 29, 92, 46, 21, 4, 96, 79, 42]
abbrev dktX1_shift_5 : List UInt8 := dkwX1_shift_5 ++ dktX1_shift_6
def dkwX1_shift_4 : List UInt8 := [25, 5, 180, 1, 79, 7, 21, 4, 79, 42, 180, 0, 91, 27, 182, 0, 153, 180, 1, 76, 28, 92, 46]
abbrev dktX1_shift_4 : List UInt8 := dkwX1_shift_4 ++ dktX1_shift_5
def dkwX1_shift_3 : List UInt8 := [6, 27, 182, 1, 59, 58, 5, 25, 5, 180, 1, 79, 5, 28, 79, 25, 5, 180, 1, 79, 6, 29, 79]
abbrev dktX1_shift_3 : List UInt8 := dkwX1_shift_3 ++ dktX1_shift_4
def dkwX1_shift_2 : List UInt8 := [180, 0, 91, 27, 182, 0, 153, 180, 1, 76, 28, 46, 21, 4, 162, 0, 9, 42, 8, 182, 0, 192, 172, 42]
abbrev dktX1_shift_2 : List UInt8 := dkwX1_shift_2 ++ dktX1_shift_3
def dkwX1_shift_1 : List UInt8 := [4, 182, 0, 192, 172, 21, 4, 4, 16, 60, 184, 0, 50, 154, 0, 9, 42, 5, 182, 0, 192, 172, 42]
abbrev dktX1_shift_1 : List UInt8 := dkwX1_shift_1 ++ dktX1_shift_2
def dkwX1_shift_0 : List UInt8 := [42, 27, 28, 182, 0, 149, 153, 0, 17, 42, 27, 29, 182, 0, 149, 153, 0, 8, 28, 29, 160, 0, 9, 42]
abbrev dktX1_shift_0 : List UInt8 := dkwX1_shift_0 ++ dktX1_shift_1
theorem dksX1_shift_0 : cX1_shift.data.toList.drop 0 = dktX1_shift_0 := by decide +kernel
theorem dksX1_shift_1 : cX1_shift.data.toList.drop 24 = dktX1_shift_1 := dk_seg dksX1_shift_0 24 rfl rfl
theorem dksX1_shift_2 : cX1_shift.data.toList.drop 47 = dktX1_shift_2 := dk_seg dksX1_shift_1 23 rfl rfl
theorem dksX1_shift_3 : cX1_shift.data.toList.drop 71 = dktX1_shift_3 := dk_seg dksX1_shift_2 24 rfl rfl
theorem dksX1_shift_4 : cX1_shift.data.toList.drop 94 = dktX1_shift_4 := dk_seg dksX1_shift_3 23 rfl rfl
theorem dksX1_shift_5 : cX1_shift.data.toList.drop 117 = dktX1_shift_5 := dk_seg dksX1_shift_4 23 rfl rfl
theorem dksX1_shift_6 : cX1_shift.data.toList.drop 140 = dktX1_shift_6 := dk_seg dksX1_shift_5 23 rfl rfl
theorem dX1_shift_0 : decode cX1_shift 0 = .ok (.aload_n 0, 1) := dk_42 (dk_at dksX1_shift_0 0 rfl rfl)
theorem dX1_shift_1 : decode cX1_shift 1 = .ok (.iload_n 1, 1) := dk_27 (dk_at dksX1_shift_0 1 rfl rfl)
theorem dX1_shift_2 : decode cX1_shift 2 = .ok (.iload_n 2, 1) := dk_28 (dk_at dksX1_shift_0 2 rfl rfl)
theorem dX1_shift_3 : decode cX1_shift 3 = .ok (.invokevirtual 149, 3) := dk_182 0 149 (dk_at dksX1_shift_0 3 rfl rfl)
theorem dX1_shift_6 : decode cX1_shift 6 = .ok (.ifCond .eq 17, 3) := dk_153 0 17 (dk_at dksX1_shift_0 6 rfl rfl)
theorem dX1_shift_9 : decode cX1_shift 9 = .ok (.aload_n 0, 1) := dk_42 (dk_at dksX1_shift_0 9 rfl rfl)
theorem dX1_shift_10 : decode cX1_shift 10 = .ok (.iload_n 1, 1) := dk_27 (dk_at dksX1_shift_0 10 rfl rfl)
theorem dX1_shift_11 : decode cX1_shift 11 = .ok (.iload_n 3, 1) := dk_29 (dk_at dksX1_shift_0 11 rfl rfl)
theorem dX1_shift_12 : decode cX1_shift 12 = .ok (.invokevirtual 149, 3) := dk_182 0 149 (dk_at dksX1_shift_0 12 rfl rfl)
theorem dX1_shift_15 : decode cX1_shift 15 = .ok (.ifCond .eq 8, 3) := dk_153 0 8 (dk_at dksX1_shift_0 15 rfl rfl)
theorem dX1_shift_18 : decode cX1_shift 18 = .ok (.iload_n 2, 1) := dk_28 (dk_at dksX1_shift_0 18 rfl rfl)
theorem dX1_shift_19 : decode cX1_shift 19 = .ok (.iload_n 3, 1) := dk_29 (dk_at dksX1_shift_0 19 rfl rfl)
theorem dX1_shift_20 : decode cX1_shift 20 = .ok (.if_icmp .ne 9, 3) := dk_160 0 9 (dk_at dksX1_shift_0 20 rfl rfl)
theorem dX1_shift_23 : decode cX1_shift 23 = .ok (.aload_n 0, 1) := dk_42 (dk_at dksX1_shift_0 23 rfl rfl)
theorem dX1_shift_24 : decode cX1_shift 24 = .ok (.iconst 1, 1) := dk_4 (dk_at dksX1_shift_1 0 rfl rfl)
theorem dX1_shift_25 : decode cX1_shift 25 = .ok (.invokevirtual 192, 3) := dk_182 0 192 (dk_at dksX1_shift_1 1 rfl rfl)
theorem dX1_shift_28 : decode cX1_shift 28 = .ok (.ireturn, 1) := dk_172 (dk_at dksX1_shift_1 4 rfl rfl)
theorem dX1_shift_29 : decode cX1_shift 29 = .ok (.iload 4, 2) := dk_21 4 (dk_at dksX1_shift_1 5 rfl rfl)
theorem dX1_shift_31 : decode cX1_shift 31 = .ok (.iconst 1, 1) := dk_4 (dk_at dksX1_shift_1 7 rfl rfl)
theorem dX1_shift_32 : decode cX1_shift 32 = .ok (.bipush 60, 2) := dk_16 60 (dk_at dksX1_shift_1 8 rfl rfl)
theorem dX1_shift_34 : decode cX1_shift 34 = .ok (.invokestatic 50, 3) := dk_184 0 50 (dk_at dksX1_shift_1 10 rfl rfl)
theorem dX1_shift_37 : decode cX1_shift 37 = .ok (.ifCond .ne 9, 3) := dk_154 0 9 (dk_at dksX1_shift_1 13 rfl rfl)
theorem dX1_shift_40 : decode cX1_shift 40 = .ok (.aload_n 0, 1) := dk_42 (dk_at dksX1_shift_1 16 rfl rfl)
theorem dX1_shift_41 : decode cX1_shift 41 = .ok (.iconst 2, 1) := dk_5 (dk_at dksX1_shift_1 17 rfl rfl)
theorem dX1_shift_42 : decode cX1_shift 42 = .ok (.invokevirtual 192, 3) := dk_182 0 192 (dk_at dksX1_shift_1 18 rfl rfl)
theorem dX1_shift_45 : decode cX1_shift 45 = .ok (.ireturn, 1) := dk_172 (dk_at dksX1_shift_1 21 rfl rfl)
theorem dX1_shift_46 : decode cX1_shift 46 = .ok (.aload_n 0, 1) := dk_42 (dk_at dksX1_shift_1 22 rfl rfl)
theorem dX1_shift_47 : decode cX1_shift 47 = .ok (.getfield 91, 3) := dk_180 0 91 (dk_at dksX1_shift_2 0 rfl rfl)
theorem dX1_shift_50 : decode cX1_shift 50 = .ok (.iload_n 1, 1) := dk_27 (dk_at dksX1_shift_2 3 rfl rfl)
theorem dX1_shift_51 : decode cX1_shift 51 = .ok (.invokevirtual 153, 3) := dk_182 0 153 (dk_at dksX1_shift_2 4 rfl rfl)
theorem dX1_shift_54 : decode cX1_shift 54 = .ok (.getfield 332, 3) := dk_180 1 76 (dk_at dksX1_shift_2 7 rfl rfl)
theorem dX1_shift_57 : decode cX1_shift 57 = .ok (.iload_n 2, 1) := dk_28 (dk_at dksX1_shift_2 10 rfl rfl)
theorem dX1_shift_58 : decode cX1_shift 58 = .ok (.iaload, 1) := dk_46 (dk_at dksX1_shift_2 11 rfl rfl)
theorem dX1_shift_59 : decode cX1_shift 59 = .ok (.iload 4, 2) := dk_21 4 (dk_at dksX1_shift_2 12 rfl rfl)
theorem dX1_shift_61 : decode cX1_shift 61 = .ok (.if_icmp .ge 9, 3) := dk_162 0 9 (dk_at dksX1_shift_2 14 rfl rfl)
theorem dX1_shift_64 : decode cX1_shift 64 = .ok (.aload_n 0, 1) := dk_42 (dk_at dksX1_shift_2 17 rfl rfl)
theorem dX1_shift_65 : decode cX1_shift 65 = .ok (.iconst 5, 1) := dk_8 (dk_at dksX1_shift_2 18 rfl rfl)
theorem dX1_shift_66 : decode cX1_shift 66 = .ok (.invokevirtual 192, 3) := dk_182 0 192 (dk_at dksX1_shift_2 19 rfl rfl)
theorem dX1_shift_69 : decode cX1_shift 69 = .ok (.ireturn, 1) := dk_172 (dk_at dksX1_shift_2 22 rfl rfl)
theorem dX1_shift_70 : decode cX1_shift 70 = .ok (.aload_n 0, 1) := dk_42 (dk_at dksX1_shift_2 23 rfl rfl)
theorem dX1_shift_71 : decode cX1_shift 71 = .ok (.iconst 3, 1) := dk_6 (dk_at dksX1_shift_3 0 rfl rfl)
theorem dX1_shift_72 : decode cX1_shift 72 = .ok (.iload_n 1, 1) := dk_27 (dk_at dksX1_shift_3 1 rfl rfl)
theorem dX1_shift_73 : decode cX1_shift 73 = .ok (.invokevirtual 315, 3) := dk_182 1 59 (dk_at dksX1_shift_3 2 rfl rfl)
theorem dX1_shift_76 : decode cX1_shift 76 = .ok (.astore 5, 2) := dk_58 5 (dk_at dksX1_shift_3 5 rfl rfl)
theorem dX1_shift_78 : decode cX1_shift 78 = .ok (.aload 5, 2) := dk_25 5 (dk_at dksX1_shift_3 7 rfl rfl)
theorem dX1_shift_80 : decode cX1_shift 80 = .ok (.getfield 335, 3) := dk_180 1 79 (dk_at dksX1_shift_3 9 rfl rfl)
theorem dX1_shift_83 : decode cX1_shift 83 = .ok (.iconst 2, 1) := dk_5 (dk_at dksX1_shift_3 12 rfl rfl)
theorem dX1_shift_84 : decode cX1_shift 84 = .ok (.iload_n 2, 1) := dk_28 (dk_at dksX1_shift_3 13 rfl rfl)
theorem dX1_shift_85 : decode cX1_shift 85 = .ok (.iastore, 1) := dk_79 (dk_at dksX1_shift_3 14 rfl rfl)
theorem dX1_shift_86 : decode cX1_shift 86 = .ok (.aload 5, 2) := dk_25 5 (dk_at dksX1_shift_3 15 rfl rfl)
theorem dX1_shift_88 : decode cX1_shift 88 = .ok (.getfield 335, 3) := dk_180 1 79 (dk_at dksX1_shift_3 17 rfl rfl)
theorem dX1_shift_91 : decode cX1_shift 91 = .ok (.iconst 3, 1) := dk_6 (dk_at dksX1_shift_3 20 rfl rfl)
theorem dX1_shift_92 : decode cX1_shift 92 = .ok (.iload_n 3, 1) := dk_29 (dk_at dksX1_shift_3 21 rfl rfl)
theorem dX1_shift_93 : decode cX1_shift 93 = .ok (.iastore, 1) := dk_79 (dk_at dksX1_shift_3 22 rfl rfl)
theorem dX1_shift_94 : decode cX1_shift 94 = .ok (.aload 5, 2) := dk_25 5 (dk_at dksX1_shift_4 0 rfl rfl)
theorem dX1_shift_96 : decode cX1_shift 96 = .ok (.getfield 335, 3) := dk_180 1 79 (dk_at dksX1_shift_4 2 rfl rfl)
theorem dX1_shift_99 : decode cX1_shift 99 = .ok (.iconst 4, 1) := dk_7 (dk_at dksX1_shift_4 5 rfl rfl)
theorem dX1_shift_100 : decode cX1_shift 100 = .ok (.iload 4, 2) := dk_21 4 (dk_at dksX1_shift_4 6 rfl rfl)
theorem dX1_shift_102 : decode cX1_shift 102 = .ok (.iastore, 1) := dk_79 (dk_at dksX1_shift_4 8 rfl rfl)
theorem dX1_shift_103 : decode cX1_shift 103 = .ok (.aload_n 0, 1) := dk_42 (dk_at dksX1_shift_4 9 rfl rfl)
theorem dX1_shift_104 : decode cX1_shift 104 = .ok (.getfield 91, 3) := dk_180 0 91 (dk_at dksX1_shift_4 10 rfl rfl)
theorem dX1_shift_107 : decode cX1_shift 107 = .ok (.iload_n 1, 1) := dk_27 (dk_at dksX1_shift_4 13 rfl rfl)
theorem dX1_shift_108 : decode cX1_shift 108 = .ok (.invokevirtual 153, 3) := dk_182 0 153 (dk_at dksX1_shift_4 14 rfl rfl)
theorem dX1_shift_111 : decode cX1_shift 111 = .ok (.getfield 332, 3) := dk_180 1 76 (dk_at dksX1_shift_4 17 rfl rfl)
theorem dX1_shift_114 : decode cX1_shift 114 = .ok (.iload_n 2, 1) := dk_28 (dk_at dksX1_shift_4 20 rfl rfl)
theorem dX1_shift_115 : decode cX1_shift 115 = .ok (.dup2, 1) := dk_92 (dk_at dksX1_shift_4 21 rfl rfl)
theorem dX1_shift_116 : decode cX1_shift 116 = .ok (.iaload, 1) := dk_46 (dk_at dksX1_shift_4 22 rfl rfl)
theorem dX1_shift_117 : decode cX1_shift 117 = .ok (.iload 4, 2) := dk_21 4 (dk_at dksX1_shift_5 0 rfl rfl)
theorem dX1_shift_119 : decode cX1_shift 119 = .ok (.isub, 1) := dk_100 (dk_at dksX1_shift_5 2 rfl rfl)
theorem dX1_shift_120 : decode cX1_shift 120 = .ok (.iastore, 1) := dk_79 (dk_at dksX1_shift_5 3 rfl rfl)
theorem dX1_shift_121 : decode cX1_shift 121 = .ok (.aload_n 0, 1) := dk_42 (dk_at dksX1_shift_5 4 rfl rfl)
theorem dX1_shift_122 : decode cX1_shift 122 = .ok (.getfield 91, 3) := dk_180 0 91 (dk_at dksX1_shift_5 5 rfl rfl)
theorem dX1_shift_125 : decode cX1_shift 125 = .ok (.iload_n 1, 1) := dk_27 (dk_at dksX1_shift_5 8 rfl rfl)
theorem dX1_shift_126 : decode cX1_shift 126 = .ok (.invokevirtual 153, 3) := dk_182 0 153 (dk_at dksX1_shift_5 9 rfl rfl)
theorem dX1_shift_129 : decode cX1_shift 129 = .ok (.getfield 332, 3) := dk_180 1 76 (dk_at dksX1_shift_5 12 rfl rfl)
theorem dX1_shift_132 : decode cX1_shift 132 = .ok (.iload_n 3, 1) := dk_29 (dk_at dksX1_shift_5 15 rfl rfl)
theorem dX1_shift_133 : decode cX1_shift 133 = .ok (.dup2, 1) := dk_92 (dk_at dksX1_shift_5 16 rfl rfl)
theorem dX1_shift_134 : decode cX1_shift 134 = .ok (.iaload, 1) := dk_46 (dk_at dksX1_shift_5 17 rfl rfl)
theorem dX1_shift_135 : decode cX1_shift 135 = .ok (.iload 4, 2) := dk_21 4 (dk_at dksX1_shift_5 18 rfl rfl)
theorem dX1_shift_137 : decode cX1_shift 137 = .ok (.iadd, 1) := dk_96 (dk_at dksX1_shift_5 20 rfl rfl)
theorem dX1_shift_138 : decode cX1_shift 138 = .ok (.iastore, 1) := dk_79 (dk_at dksX1_shift_5 21 rfl rfl)
theorem dX1_shift_139 : decode cX1_shift 139 = .ok (.aload_n 0, 1) := dk_42 (dk_at dksX1_shift_5 22 rfl rfl)
theorem dX1_shift_140 : decode cX1_shift 140 = .ok (.invokevirtual 199, 3) := dk_182 0 199 (dk_at dksX1_shift_6 0 rfl rfl)
theorem dX1_shift_143 : decode cX1_shift 143 = .ok (.ireturn, 1) := dk_172 (dk_at dksX1_shift_6 3 rfl rfl)
abbrev cX1_undo : ByteArray := prog_1_method_64_code
def yX1_undo : MethodName := ⟨RX1, "undo", "()Z"⟩
def dkwX1_undo_0 : List UInt8 := [42, 42, 180, 0, 27, 42, 180, 0, 31, 182, 1, 89, 172]
abbrev dktX1_undo_0 : List UInt8 := dkwX1_undo_0 ++ []
theorem dksX1_undo_0 : cX1_undo.data.toList.drop 0 = dktX1_undo_0 := by decide +kernel
theorem dX1_undo_0 : decode cX1_undo 0 = .ok (.aload_n 0, 1) := dk_42 (dk_at dksX1_undo_0 0 rfl rfl)
theorem dX1_undo_1 : decode cX1_undo 1 = .ok (.aload_n 0, 1) := dk_42 (dk_at dksX1_undo_0 1 rfl rfl)
theorem dX1_undo_2 : decode cX1_undo 2 = .ok (.getfield 27, 3) := dk_180 0 27 (dk_at dksX1_undo_0 2 rfl rfl)
theorem dX1_undo_5 : decode cX1_undo 5 = .ok (.aload_n 0, 1) := dk_42 (dk_at dksX1_undo_0 5 rfl rfl)
theorem dX1_undo_6 : decode cX1_undo 6 = .ok (.getfield 31, 3) := dk_180 0 31 (dk_at dksX1_undo_0 6 rfl rfl)
theorem dX1_undo_9 : decode cX1_undo 9 = .ok (.invokevirtual 345, 3) := dk_182 1 89 (dk_at dksX1_undo_0 9 rfl rfl)
theorem dX1_undo_12 : decode cX1_undo 12 = .ok (.ireturn, 1) := dk_172 (dk_at dksX1_undo_0 12 rfl rfl)
abbrev cX1_steps : ByteArray := prog_1_method_63_code
def yX1_steps : MethodName := ⟨RX1, "steps", "(Ljava/util/ArrayList;Ljava/util/ArrayList;)Z"⟩
def dkwX1_steps_2 : List UInt8 := [180, 1, 88, 3, 182, 0, 85, 181, 0, 91, 42, 182, 0, 199, 172]
abbrev dktX1_steps_2 : List UInt8 := dkwX1_steps_2 ++ []
def dkwX1_steps_1 : List UInt8 := [192, 1, 51, 78, 44, 187, 1, 51, 89, 42, 180, 0, 91, 45, 183, 1, 85, 182, 1, 55, 87, 42, 45]
abbrev dktX1_steps_1 : List UInt8 := dkwX1_steps_1 ++ dktX1_steps_2
def dkwX1_steps_0 : List UInt8 := [43, 182, 1, 82, 153, 0, 10, 42, 16, 6, 182, 0, 192, 172, 43, 43, 182, 0, 214, 4, 100, 182, 1, 48]
abbrev dktX1_steps_0 : List UInt8 := dkwX1_steps_0 ++ dktX1_steps_1
theorem dksX1_steps_0 : cX1_steps.data.toList.drop 0 = dktX1_steps_0 := by decide +kernel
theorem dksX1_steps_1 : cX1_steps.data.toList.drop 24 = dktX1_steps_1 := dk_seg dksX1_steps_0 24 rfl rfl
theorem dksX1_steps_2 : cX1_steps.data.toList.drop 47 = dktX1_steps_2 := dk_seg dksX1_steps_1 23 rfl rfl
theorem dX1_steps_0 : decode cX1_steps 0 = .ok (.aload_n 1, 1) := dk_43 (dk_at dksX1_steps_0 0 rfl rfl)
theorem dX1_steps_1 : decode cX1_steps 1 = .ok (.invokevirtual 338, 3) := dk_182 1 82 (dk_at dksX1_steps_0 1 rfl rfl)
theorem dX1_steps_4 : decode cX1_steps 4 = .ok (.ifCond .eq 10, 3) := dk_153 0 10 (dk_at dksX1_steps_0 4 rfl rfl)
theorem dX1_steps_7 : decode cX1_steps 7 = .ok (.aload_n 0, 1) := dk_42 (dk_at dksX1_steps_0 7 rfl rfl)
theorem dX1_steps_8 : decode cX1_steps 8 = .ok (.bipush 6, 2) := dk_16 6 (dk_at dksX1_steps_0 8 rfl rfl)
theorem dX1_steps_10 : decode cX1_steps 10 = .ok (.invokevirtual 192, 3) := dk_182 0 192 (dk_at dksX1_steps_0 10 rfl rfl)
theorem dX1_steps_13 : decode cX1_steps 13 = .ok (.ireturn, 1) := dk_172 (dk_at dksX1_steps_0 13 rfl rfl)
theorem dX1_steps_14 : decode cX1_steps 14 = .ok (.aload_n 1, 1) := dk_43 (dk_at dksX1_steps_0 14 rfl rfl)
theorem dX1_steps_15 : decode cX1_steps 15 = .ok (.aload_n 1, 1) := dk_43 (dk_at dksX1_steps_0 15 rfl rfl)
theorem dX1_steps_16 : decode cX1_steps 16 = .ok (.invokevirtual 214, 3) := dk_182 0 214 (dk_at dksX1_steps_0 16 rfl rfl)
theorem dX1_steps_19 : decode cX1_steps 19 = .ok (.iconst 1, 1) := dk_4 (dk_at dksX1_steps_0 19 rfl rfl)
theorem dX1_steps_20 : decode cX1_steps 20 = .ok (.isub, 1) := dk_100 (dk_at dksX1_steps_0 20 rfl rfl)
theorem dX1_steps_21 : decode cX1_steps 21 = .ok (.invokevirtual 304, 3) := dk_182 1 48 (dk_at dksX1_steps_0 21 rfl rfl)
theorem dX1_steps_24 : decode cX1_steps 24 = .ok (.checkcast 307, 3) := dk_192 1 51 (dk_at dksX1_steps_1 0 rfl rfl)
theorem dX1_steps_27 : decode cX1_steps 27 = .ok (.astore_n 3, 1) := dk_78 (dk_at dksX1_steps_1 3 rfl rfl)
theorem dX1_steps_28 : decode cX1_steps 28 = .ok (.aload_n 2, 1) := dk_44 (dk_at dksX1_steps_1 4 rfl rfl)
theorem dX1_steps_29 : decode cX1_steps 29 = .ok (.new 307, 3) := dk_187 1 51 (dk_at dksX1_steps_1 5 rfl rfl)
theorem dX1_steps_32 : decode cX1_steps 32 = .ok (.dup, 1) := dk_89 (dk_at dksX1_steps_1 8 rfl rfl)
theorem dX1_steps_33 : decode cX1_steps 33 = .ok (.aload_n 0, 1) := dk_42 (dk_at dksX1_steps_1 9 rfl rfl)
theorem dX1_steps_34 : decode cX1_steps 34 = .ok (.getfield 91, 3) := dk_180 0 91 (dk_at dksX1_steps_1 10 rfl rfl)
theorem dX1_steps_37 : decode cX1_steps 37 = .ok (.aload_n 3, 1) := dk_45 (dk_at dksX1_steps_1 13 rfl rfl)
theorem dX1_steps_38 : decode cX1_steps 38 = .ok (.invokespecial 341, 3) := dk_183 1 85 (dk_at dksX1_steps_1 14 rfl rfl)
theorem dX1_steps_41 : decode cX1_steps 41 = .ok (.invokevirtual 311, 3) := dk_182 1 55 (dk_at dksX1_steps_1 17 rfl rfl)
theorem dX1_steps_44 : decode cX1_steps 44 = .ok (.pop, 1) := dk_87 (dk_at dksX1_steps_1 20 rfl rfl)
theorem dX1_steps_45 : decode cX1_steps 45 = .ok (.aload_n 0, 1) := dk_42 (dk_at dksX1_steps_1 21 rfl rfl)
theorem dX1_steps_46 : decode cX1_steps 46 = .ok (.aload_n 3, 1) := dk_45 (dk_at dksX1_steps_1 22 rfl rfl)
theorem dX1_steps_47 : decode cX1_steps 47 = .ok (.getfield 344, 3) := dk_180 1 88 (dk_at dksX1_steps_2 0 rfl rfl)
theorem dX1_steps_50 : decode cX1_steps 50 = .ok (.iconst 0, 1) := dk_3 (dk_at dksX1_steps_2 3 rfl rfl)
theorem dX1_steps_51 : decode cX1_steps 51 = .ok (.invokevirtual 85, 3) := dk_182 0 85 (dk_at dksX1_steps_2 4 rfl rfl)
theorem dX1_steps_54 : decode cX1_steps 54 = .ok (.putfield 91, 3) := dk_181 0 91 (dk_at dksX1_steps_2 7 rfl rfl)
theorem dX1_steps_57 : decode cX1_steps 57 = .ok (.aload_n 0, 1) := dk_42 (dk_at dksX1_steps_2 10 rfl rfl)
theorem dX1_steps_58 : decode cX1_steps 58 = .ok (.invokevirtual 199, 3) := dk_182 0 199 (dk_at dksX1_steps_2 11 rfl rfl)
theorem dX1_steps_61 : decode cX1_steps 61 = .ok (.ireturn, 1) := dk_172 (dk_at dksX1_steps_2 14 rfl rfl)
abbrev cX1_redo : ByteArray := prog_1_method_65_code
def yX1_redo : MethodName := ⟨RX1, "redo", "()Z"⟩
def dkwX1_redo_0 : List UInt8 := [42, 42, 180, 0, 31, 42, 180, 0, 27, 182, 1, 89, 172]
abbrev dktX1_redo_0 : List UInt8 := dkwX1_redo_0 ++ []
theorem dksX1_redo_0 : cX1_redo.data.toList.drop 0 = dktX1_redo_0 := by decide +kernel
theorem dX1_redo_0 : decode cX1_redo 0 = .ok (.aload_n 0, 1) := dk_42 (dk_at dksX1_redo_0 0 rfl rfl)
theorem dX1_redo_1 : decode cX1_redo 1 = .ok (.aload_n 0, 1) := dk_42 (dk_at dksX1_redo_0 1 rfl rfl)
theorem dX1_redo_2 : decode cX1_redo 2 = .ok (.getfield 31, 3) := dk_180 0 31 (dk_at dksX1_redo_0 2 rfl rfl)
theorem dX1_redo_5 : decode cX1_redo 5 = .ok (.aload_n 0, 1) := dk_42 (dk_at dksX1_redo_0 5 rfl rfl)
theorem dX1_redo_6 : decode cX1_redo 6 = .ok (.getfield 27, 3) := dk_180 0 27 (dk_at dksX1_redo_0 6 rfl rfl)
theorem dX1_redo_9 : decode cX1_redo 9 = .ok (.invokevirtual 345, 3) := dk_182 1 89 (dk_at dksX1_redo_0 9 rfl rfl)
theorem dX1_redo_12 : decode cX1_redo 12 = .ok (.ireturn, 1) := dk_172 (dk_at dksX1_redo_0 12 rfl rfl)
abbrev cX1_mark : ByteArray := prog_1_method_66_code
def yX1_mark : MethodName := ⟨RX1, "mark", "()I"⟩
def dkwX1_mark_2 : List UInt8 := [180, 0, 34, 182, 0, 214, 4, 100, 182, 0, 44, 172]
abbrev dktX1_mark_2 : List UInt8 := dkwX1_mark_2 ++ []
def dkwX1_mark_1 : List UInt8 := [42, 6, 182, 0, 40, 172, 42, 180, 0, 34, 42, 180, 0, 91, 3, 182, 0, 85, 182, 1, 55, 87, 42, 42]
abbrev dktX1_mark_1 : List UInt8 := dkwX1_mark_1 ++ dktX1_mark_2
def dkwX1_mark_0 : List UInt8 := [42, 180, 0, 75, 199, 0, 9, 42, 4, 182, 0, 40, 172, 42, 180, 0, 34, 182, 0, 214, 7, 160, 0, 9]
abbrev dktX1_mark_0 : List UInt8 := dkwX1_mark_0 ++ dktX1_mark_1
theorem dksX1_mark_0 : cX1_mark.data.toList.drop 0 = dktX1_mark_0 := by decide +kernel
theorem dksX1_mark_1 : cX1_mark.data.toList.drop 24 = dktX1_mark_1 := dk_seg dksX1_mark_0 24 rfl rfl
theorem dksX1_mark_2 : cX1_mark.data.toList.drop 48 = dktX1_mark_2 := dk_seg dksX1_mark_1 24 rfl rfl
theorem dX1_mark_0 : decode cX1_mark 0 = .ok (.aload_n 0, 1) := dk_42 (dk_at dksX1_mark_0 0 rfl rfl)
theorem dX1_mark_1 : decode cX1_mark 1 = .ok (.getfield 75, 3) := dk_180 0 75 (dk_at dksX1_mark_0 1 rfl rfl)
theorem dX1_mark_4 : decode cX1_mark 4 = .ok (.ifnonnull 9, 3) := dk_199 0 9 (dk_at dksX1_mark_0 4 rfl rfl)
theorem dX1_mark_7 : decode cX1_mark 7 = .ok (.aload_n 0, 1) := dk_42 (dk_at dksX1_mark_0 7 rfl rfl)
theorem dX1_mark_8 : decode cX1_mark 8 = .ok (.iconst 1, 1) := dk_4 (dk_at dksX1_mark_0 8 rfl rfl)
theorem dX1_mark_9 : decode cX1_mark 9 = .ok (.invokevirtual 40, 3) := dk_182 0 40 (dk_at dksX1_mark_0 9 rfl rfl)
theorem dX1_mark_12 : decode cX1_mark 12 = .ok (.ireturn, 1) := dk_172 (dk_at dksX1_mark_0 12 rfl rfl)
theorem dX1_mark_13 : decode cX1_mark 13 = .ok (.aload_n 0, 1) := dk_42 (dk_at dksX1_mark_0 13 rfl rfl)
theorem dX1_mark_14 : decode cX1_mark 14 = .ok (.getfield 34, 3) := dk_180 0 34 (dk_at dksX1_mark_0 14 rfl rfl)
theorem dX1_mark_17 : decode cX1_mark 17 = .ok (.invokevirtual 214, 3) := dk_182 0 214 (dk_at dksX1_mark_0 17 rfl rfl)
theorem dX1_mark_20 : decode cX1_mark 20 = .ok (.iconst 4, 1) := dk_7 (dk_at dksX1_mark_0 20 rfl rfl)
theorem dX1_mark_21 : decode cX1_mark 21 = .ok (.if_icmp .ne 9, 3) := dk_160 0 9 (dk_at dksX1_mark_0 21 rfl rfl)
theorem dX1_mark_24 : decode cX1_mark 24 = .ok (.aload_n 0, 1) := dk_42 (dk_at dksX1_mark_1 0 rfl rfl)
theorem dX1_mark_25 : decode cX1_mark 25 = .ok (.iconst 3, 1) := dk_6 (dk_at dksX1_mark_1 1 rfl rfl)
theorem dX1_mark_26 : decode cX1_mark 26 = .ok (.invokevirtual 40, 3) := dk_182 0 40 (dk_at dksX1_mark_1 2 rfl rfl)
theorem dX1_mark_29 : decode cX1_mark 29 = .ok (.ireturn, 1) := dk_172 (dk_at dksX1_mark_1 5 rfl rfl)
theorem dX1_mark_30 : decode cX1_mark 30 = .ok (.aload_n 0, 1) := dk_42 (dk_at dksX1_mark_1 6 rfl rfl)
theorem dX1_mark_31 : decode cX1_mark 31 = .ok (.getfield 34, 3) := dk_180 0 34 (dk_at dksX1_mark_1 7 rfl rfl)
theorem dX1_mark_34 : decode cX1_mark 34 = .ok (.aload_n 0, 1) := dk_42 (dk_at dksX1_mark_1 10 rfl rfl)
theorem dX1_mark_35 : decode cX1_mark 35 = .ok (.getfield 91, 3) := dk_180 0 91 (dk_at dksX1_mark_1 11 rfl rfl)
theorem dX1_mark_38 : decode cX1_mark 38 = .ok (.iconst 0, 1) := dk_3 (dk_at dksX1_mark_1 14 rfl rfl)
theorem dX1_mark_39 : decode cX1_mark 39 = .ok (.invokevirtual 85, 3) := dk_182 0 85 (dk_at dksX1_mark_1 15 rfl rfl)
theorem dX1_mark_42 : decode cX1_mark 42 = .ok (.invokevirtual 311, 3) := dk_182 1 55 (dk_at dksX1_mark_1 18 rfl rfl)
theorem dX1_mark_45 : decode cX1_mark 45 = .ok (.pop, 1) := dk_87 (dk_at dksX1_mark_1 21 rfl rfl)
theorem dX1_mark_46 : decode cX1_mark 46 = .ok (.aload_n 0, 1) := dk_42 (dk_at dksX1_mark_1 22 rfl rfl)
theorem dX1_mark_47 : decode cX1_mark 47 = .ok (.aload_n 0, 1) := dk_42 (dk_at dksX1_mark_1 23 rfl rfl)
theorem dX1_mark_48 : decode cX1_mark 48 = .ok (.getfield 34, 3) := dk_180 0 34 (dk_at dksX1_mark_2 0 rfl rfl)
theorem dX1_mark_51 : decode cX1_mark 51 = .ok (.invokevirtual 214, 3) := dk_182 0 214 (dk_at dksX1_mark_2 3 rfl rfl)
theorem dX1_mark_54 : decode cX1_mark 54 = .ok (.iconst 1, 1) := dk_4 (dk_at dksX1_mark_2 6 rfl rfl)
theorem dX1_mark_55 : decode cX1_mark 55 = .ok (.isub, 1) := dk_100 (dk_at dksX1_mark_2 7 rfl rfl)
theorem dX1_mark_56 : decode cX1_mark 56 = .ok (.invokevirtual 44, 3) := dk_182 0 44 (dk_at dksX1_mark_2 8 rfl rfl)
theorem dX1_mark_59 : decode cX1_mark 59 = .ok (.ireturn, 1) := dk_172 (dk_at dksX1_mark_2 11 rfl rfl)
abbrev cX1_back : ByteArray := prog_1_method_67_code
def yX1_back : MethodName := ⟨RX1, "back", "(I)Z"⟩
def dkwX1_back_2 : List UInt8 := [182, 0, 92, 42, 180, 0, 31, 182, 0, 92, 42, 182, 0, 199, 172]
abbrev dktX1_back_2 : List UInt8 := dkwX1_back_2 ++ []
def dkwX1_back_1 : List UInt8 := [42, 180, 0, 34, 27, 182, 0, 232, 192, 0, 86, 3, 182, 0, 85, 181, 0, 91, 42, 180, 0, 27]
abbrev dktX1_back_1 : List UInt8 := dkwX1_back_1 ++ dktX1_back_2
def dkwX1_back_0 : List UInt8 := [27, 3, 42, 180, 0, 34, 182, 0, 214, 4, 100, 184, 0, 50, 154, 0, 9, 42, 4, 182, 0, 192, 172, 42]
abbrev dktX1_back_0 : List UInt8 := dkwX1_back_0 ++ dktX1_back_1
theorem dksX1_back_0 : cX1_back.data.toList.drop 0 = dktX1_back_0 := by decide +kernel
theorem dksX1_back_1 : cX1_back.data.toList.drop 24 = dktX1_back_1 := dk_seg dksX1_back_0 24 rfl rfl
theorem dksX1_back_2 : cX1_back.data.toList.drop 46 = dktX1_back_2 := dk_seg dksX1_back_1 22 rfl rfl
theorem dX1_back_0 : decode cX1_back 0 = .ok (.iload_n 1, 1) := dk_27 (dk_at dksX1_back_0 0 rfl rfl)
theorem dX1_back_1 : decode cX1_back 1 = .ok (.iconst 0, 1) := dk_3 (dk_at dksX1_back_0 1 rfl rfl)
theorem dX1_back_2 : decode cX1_back 2 = .ok (.aload_n 0, 1) := dk_42 (dk_at dksX1_back_0 2 rfl rfl)
theorem dX1_back_3 : decode cX1_back 3 = .ok (.getfield 34, 3) := dk_180 0 34 (dk_at dksX1_back_0 3 rfl rfl)
theorem dX1_back_6 : decode cX1_back 6 = .ok (.invokevirtual 214, 3) := dk_182 0 214 (dk_at dksX1_back_0 6 rfl rfl)
theorem dX1_back_9 : decode cX1_back 9 = .ok (.iconst 1, 1) := dk_4 (dk_at dksX1_back_0 9 rfl rfl)
theorem dX1_back_10 : decode cX1_back 10 = .ok (.isub, 1) := dk_100 (dk_at dksX1_back_0 10 rfl rfl)
theorem dX1_back_11 : decode cX1_back 11 = .ok (.invokestatic 50, 3) := dk_184 0 50 (dk_at dksX1_back_0 11 rfl rfl)
theorem dX1_back_14 : decode cX1_back 14 = .ok (.ifCond .ne 9, 3) := dk_154 0 9 (dk_at dksX1_back_0 14 rfl rfl)
theorem dX1_back_17 : decode cX1_back 17 = .ok (.aload_n 0, 1) := dk_42 (dk_at dksX1_back_0 17 rfl rfl)
theorem dX1_back_18 : decode cX1_back 18 = .ok (.iconst 1, 1) := dk_4 (dk_at dksX1_back_0 18 rfl rfl)
theorem dX1_back_19 : decode cX1_back 19 = .ok (.invokevirtual 192, 3) := dk_182 0 192 (dk_at dksX1_back_0 19 rfl rfl)
theorem dX1_back_22 : decode cX1_back 22 = .ok (.ireturn, 1) := dk_172 (dk_at dksX1_back_0 22 rfl rfl)
theorem dX1_back_23 : decode cX1_back 23 = .ok (.aload_n 0, 1) := dk_42 (dk_at dksX1_back_0 23 rfl rfl)
theorem dX1_back_24 : decode cX1_back 24 = .ok (.aload_n 0, 1) := dk_42 (dk_at dksX1_back_1 0 rfl rfl)
theorem dX1_back_25 : decode cX1_back 25 = .ok (.getfield 34, 3) := dk_180 0 34 (dk_at dksX1_back_1 1 rfl rfl)
theorem dX1_back_28 : decode cX1_back 28 = .ok (.iload_n 1, 1) := dk_27 (dk_at dksX1_back_1 4 rfl rfl)
theorem dX1_back_29 : decode cX1_back 29 = .ok (.invokevirtual 232, 3) := dk_182 0 232 (dk_at dksX1_back_1 5 rfl rfl)
theorem dX1_back_32 : decode cX1_back 32 = .ok (.checkcast 86, 3) := dk_192 0 86 (dk_at dksX1_back_1 8 rfl rfl)
theorem dX1_back_35 : decode cX1_back 35 = .ok (.iconst 0, 1) := dk_3 (dk_at dksX1_back_1 11 rfl rfl)
theorem dX1_back_36 : decode cX1_back 36 = .ok (.invokevirtual 85, 3) := dk_182 0 85 (dk_at dksX1_back_1 12 rfl rfl)
theorem dX1_back_39 : decode cX1_back 39 = .ok (.putfield 91, 3) := dk_181 0 91 (dk_at dksX1_back_1 15 rfl rfl)
theorem dX1_back_42 : decode cX1_back 42 = .ok (.aload_n 0, 1) := dk_42 (dk_at dksX1_back_1 18 rfl rfl)
theorem dX1_back_43 : decode cX1_back 43 = .ok (.getfield 27, 3) := dk_180 0 27 (dk_at dksX1_back_1 19 rfl rfl)
theorem dX1_back_46 : decode cX1_back 46 = .ok (.invokevirtual 92, 3) := dk_182 0 92 (dk_at dksX1_back_2 0 rfl rfl)
theorem dX1_back_49 : decode cX1_back 49 = .ok (.aload_n 0, 1) := dk_42 (dk_at dksX1_back_2 3 rfl rfl)
theorem dX1_back_50 : decode cX1_back 50 = .ok (.getfield 31, 3) := dk_180 0 31 (dk_at dksX1_back_2 4 rfl rfl)
theorem dX1_back_53 : decode cX1_back 53 = .ok (.invokevirtual 92, 3) := dk_182 0 92 (dk_at dksX1_back_2 7 rfl rfl)
theorem dX1_back_56 : decode cX1_back 56 = .ok (.aload_n 0, 1) := dk_42 (dk_at dksX1_back_2 10 rfl rfl)
theorem dX1_back_57 : decode cX1_back 57 = .ok (.invokevirtual 199, 3) := dk_182 0 199 (dk_at dksX1_back_2 11 rfl rfl)
theorem dX1_back_60 : decode cX1_back 60 = .ok (.ireturn, 1) := dk_172 (dk_at dksX1_back_2 14 rfl rfl)
abbrev cX1_act : ByteArray := prog_1_method_68_code
def yX1_act : MethodName := ⟨RX1, "act", "(II)I"⟩
def dkwX1_act_2 : List UInt8 := [167, 0, 8, 42, 4, 182, 0, 40, 172]
abbrev dktX1_act_2 : List UInt8 := dkwX1_act_2 ++ []
def dkwX1_act_1 : List UInt8 := [153, 0, 26, 42, 42, 180, 0, 27, 27, 182, 0, 232, 192, 1, 51, 180, 1, 79, 28, 46, 182, 0, 44]
abbrev dktX1_act_1 : List UInt8 := dkwX1_act_1 ++ dktX1_act_2
def dkwX1_act_0 : List UInt8 := [27, 3, 42, 180, 0, 27, 182, 0, 214, 4, 100, 184, 0, 50, 153, 0, 35, 28, 3, 7, 184, 0, 50]
abbrev dktX1_act_0 : List UInt8 := dkwX1_act_0 ++ dktX1_act_1
theorem dksX1_act_0 : cX1_act.data.toList.drop 0 = dktX1_act_0 := by decide +kernel
theorem dksX1_act_1 : cX1_act.data.toList.drop 23 = dktX1_act_1 := dk_seg dksX1_act_0 23 rfl rfl
theorem dksX1_act_2 : cX1_act.data.toList.drop 46 = dktX1_act_2 := dk_seg dksX1_act_1 23 rfl rfl
theorem dX1_act_0 : decode cX1_act 0 = .ok (.iload_n 1, 1) := dk_27 (dk_at dksX1_act_0 0 rfl rfl)
theorem dX1_act_1 : decode cX1_act 1 = .ok (.iconst 0, 1) := dk_3 (dk_at dksX1_act_0 1 rfl rfl)
theorem dX1_act_2 : decode cX1_act 2 = .ok (.aload_n 0, 1) := dk_42 (dk_at dksX1_act_0 2 rfl rfl)
theorem dX1_act_3 : decode cX1_act 3 = .ok (.getfield 27, 3) := dk_180 0 27 (dk_at dksX1_act_0 3 rfl rfl)
theorem dX1_act_6 : decode cX1_act 6 = .ok (.invokevirtual 214, 3) := dk_182 0 214 (dk_at dksX1_act_0 6 rfl rfl)
theorem dX1_act_9 : decode cX1_act 9 = .ok (.iconst 1, 1) := dk_4 (dk_at dksX1_act_0 9 rfl rfl)
theorem dX1_act_10 : decode cX1_act 10 = .ok (.isub, 1) := dk_100 (dk_at dksX1_act_0 10 rfl rfl)
theorem dX1_act_11 : decode cX1_act 11 = .ok (.invokestatic 50, 3) := dk_184 0 50 (dk_at dksX1_act_0 11 rfl rfl)
theorem dX1_act_14 : decode cX1_act 14 = .ok (.ifCond .eq 35, 3) := dk_153 0 35 (dk_at dksX1_act_0 14 rfl rfl)
theorem dX1_act_17 : decode cX1_act 17 = .ok (.iload_n 2, 1) := dk_28 (dk_at dksX1_act_0 17 rfl rfl)
theorem dX1_act_18 : decode cX1_act 18 = .ok (.iconst 0, 1) := dk_3 (dk_at dksX1_act_0 18 rfl rfl)
theorem dX1_act_19 : decode cX1_act 19 = .ok (.iconst 4, 1) := dk_7 (dk_at dksX1_act_0 19 rfl rfl)
theorem dX1_act_20 : decode cX1_act 20 = .ok (.invokestatic 50, 3) := dk_184 0 50 (dk_at dksX1_act_0 20 rfl rfl)
theorem dX1_act_23 : decode cX1_act 23 = .ok (.ifCond .eq 26, 3) := dk_153 0 26 (dk_at dksX1_act_1 0 rfl rfl)
theorem dX1_act_26 : decode cX1_act 26 = .ok (.aload_n 0, 1) := dk_42 (dk_at dksX1_act_1 3 rfl rfl)
theorem dX1_act_27 : decode cX1_act 27 = .ok (.aload_n 0, 1) := dk_42 (dk_at dksX1_act_1 4 rfl rfl)
theorem dX1_act_28 : decode cX1_act 28 = .ok (.getfield 27, 3) := dk_180 0 27 (dk_at dksX1_act_1 5 rfl rfl)
theorem dX1_act_31 : decode cX1_act 31 = .ok (.iload_n 1, 1) := dk_27 (dk_at dksX1_act_1 8 rfl rfl)
theorem dX1_act_32 : decode cX1_act 32 = .ok (.invokevirtual 232, 3) := dk_182 0 232 (dk_at dksX1_act_1 9 rfl rfl)
theorem dX1_act_35 : decode cX1_act 35 = .ok (.checkcast 307, 3) := dk_192 1 51 (dk_at dksX1_act_1 12 rfl rfl)
theorem dX1_act_38 : decode cX1_act 38 = .ok (.getfield 335, 3) := dk_180 1 79 (dk_at dksX1_act_1 15 rfl rfl)
theorem dX1_act_41 : decode cX1_act 41 = .ok (.iload_n 2, 1) := dk_28 (dk_at dksX1_act_1 18 rfl rfl)
theorem dX1_act_42 : decode cX1_act 42 = .ok (.iaload, 1) := dk_46 (dk_at dksX1_act_1 19 rfl rfl)
theorem dX1_act_43 : decode cX1_act 43 = .ok (.invokevirtual 44, 3) := dk_182 0 44 (dk_at dksX1_act_1 20 rfl rfl)
theorem dX1_act_46 : decode cX1_act 46 = .ok (.goto 8, 3) := dk_167 0 8 (dk_at dksX1_act_2 0 rfl rfl)
theorem dX1_act_49 : decode cX1_act 49 = .ok (.aload_n 0, 1) := dk_42 (dk_at dksX1_act_2 3 rfl rfl)
theorem dX1_act_50 : decode cX1_act 50 = .ok (.iconst 1, 1) := dk_4 (dk_at dksX1_act_2 4 rfl rfl)
theorem dX1_act_51 : decode cX1_act 51 = .ok (.invokevirtual 40, 3) := dk_182 0 40 (dk_at dksX1_act_2 5 rfl rfl)
theorem dX1_act_54 : decode cX1_act 54 = .ok (.ireturn, 1) := dk_172 (dk_at dksX1_act_2 8 rfl rfl)
abbrev cX1_times : ByteArray := prog_1_method_69_code
def yX1_times : MethodName := ⟨RX1, "times", "(II)I"⟩
def dkwX1_times_1 : List UInt8 := [182, 0, 44, 167, 0, 8, 42, 4, 182, 0, 40, 172]
abbrev dktX1_times_1 : List UInt8 := dkwX1_times_1 ++ []
def dkwX1_times_0 : List UInt8 := [42, 27, 28, 182, 0, 149, 153, 0, 23, 42, 42, 180, 0, 91, 27, 182, 0, 153, 180, 1, 76, 28, 46]
abbrev dktX1_times_0 : List UInt8 := dkwX1_times_0 ++ dktX1_times_1
theorem dksX1_times_0 : cX1_times.data.toList.drop 0 = dktX1_times_0 := by decide +kernel
theorem dksX1_times_1 : cX1_times.data.toList.drop 23 = dktX1_times_1 := dk_seg dksX1_times_0 23 rfl rfl
theorem dX1_times_0 : decode cX1_times 0 = .ok (.aload_n 0, 1) := dk_42 (dk_at dksX1_times_0 0 rfl rfl)
theorem dX1_times_1 : decode cX1_times 1 = .ok (.iload_n 1, 1) := dk_27 (dk_at dksX1_times_0 1 rfl rfl)
theorem dX1_times_2 : decode cX1_times 2 = .ok (.iload_n 2, 1) := dk_28 (dk_at dksX1_times_0 2 rfl rfl)
theorem dX1_times_3 : decode cX1_times 3 = .ok (.invokevirtual 149, 3) := dk_182 0 149 (dk_at dksX1_times_0 3 rfl rfl)
theorem dX1_times_6 : decode cX1_times 6 = .ok (.ifCond .eq 23, 3) := dk_153 0 23 (dk_at dksX1_times_0 6 rfl rfl)
theorem dX1_times_9 : decode cX1_times 9 = .ok (.aload_n 0, 1) := dk_42 (dk_at dksX1_times_0 9 rfl rfl)
theorem dX1_times_10 : decode cX1_times 10 = .ok (.aload_n 0, 1) := dk_42 (dk_at dksX1_times_0 10 rfl rfl)
theorem dX1_times_11 : decode cX1_times 11 = .ok (.getfield 91, 3) := dk_180 0 91 (dk_at dksX1_times_0 11 rfl rfl)
theorem dX1_times_14 : decode cX1_times 14 = .ok (.iload_n 1, 1) := dk_27 (dk_at dksX1_times_0 14 rfl rfl)
theorem dX1_times_15 : decode cX1_times 15 = .ok (.invokevirtual 153, 3) := dk_182 0 153 (dk_at dksX1_times_0 15 rfl rfl)
theorem dX1_times_18 : decode cX1_times 18 = .ok (.getfield 332, 3) := dk_180 1 76 (dk_at dksX1_times_0 18 rfl rfl)
theorem dX1_times_21 : decode cX1_times 21 = .ok (.iload_n 2, 1) := dk_28 (dk_at dksX1_times_0 21 rfl rfl)
theorem dX1_times_22 : decode cX1_times 22 = .ok (.iaload, 1) := dk_46 (dk_at dksX1_times_0 22 rfl rfl)
theorem dX1_times_23 : decode cX1_times 23 = .ok (.invokevirtual 44, 3) := dk_182 0 44 (dk_at dksX1_times_1 0 rfl rfl)
theorem dX1_times_26 : decode cX1_times 26 = .ok (.goto 8, 3) := dk_167 0 8 (dk_at dksX1_times_1 3 rfl rfl)
theorem dX1_times_29 : decode cX1_times 29 = .ok (.aload_n 0, 1) := dk_42 (dk_at dksX1_times_1 6 rfl rfl)
theorem dX1_times_30 : decode cX1_times 30 = .ok (.iconst 1, 1) := dk_4 (dk_at dksX1_times_1 7 rfl rfl)
theorem dX1_times_31 : decode cX1_times 31 = .ok (.invokevirtual 40, 3) := dk_182 0 40 (dk_at dksX1_times_1 8 rfl rfl)
theorem dX1_times_34 : decode cX1_times 34 = .ok (.ireturn, 1) := dk_172 (dk_at dksX1_times_1 11 rfl rfl)
abbrev cX1_look : ByteArray := prog_1_method_70_code
def yX1_look : MethodName := ⟨RX1, "look", "(IZ)I"⟩
def dkwX1_look_2 : List UInt8 := [182, 0, 40, 172]
abbrev dktX1_look_2 : List UInt8 := dkwX1_look_2 ++ []
def dkwX1_look_1 : List UInt8 := [167, 0, 14, 42, 180, 0, 91, 27, 182, 0, 153, 182, 1, 96, 182, 0, 44, 167, 0, 8, 42, 4]
abbrev dktX1_look_1 : List UInt8 := dkwX1_look_1 ++ dktX1_look_2
def dkwX1_look_0 : List UInt8 := [42, 27, 182, 0, 179, 153, 0, 39, 42, 28, 153, 0, 17, 42, 180, 0, 91, 27, 182, 0, 153, 182, 1, 93]
abbrev dktX1_look_0 : List UInt8 := dkwX1_look_0 ++ dktX1_look_1
theorem dksX1_look_0 : cX1_look.data.toList.drop 0 = dktX1_look_0 := by decide +kernel
theorem dksX1_look_1 : cX1_look.data.toList.drop 24 = dktX1_look_1 := dk_seg dksX1_look_0 24 rfl rfl
theorem dksX1_look_2 : cX1_look.data.toList.drop 46 = dktX1_look_2 := dk_seg dksX1_look_1 22 rfl rfl
theorem dX1_look_0 : decode cX1_look 0 = .ok (.aload_n 0, 1) := dk_42 (dk_at dksX1_look_0 0 rfl rfl)
theorem dX1_look_1 : decode cX1_look 1 = .ok (.iload_n 1, 1) := dk_27 (dk_at dksX1_look_0 1 rfl rfl)
theorem dX1_look_2 : decode cX1_look 2 = .ok (.invokevirtual 179, 3) := dk_182 0 179 (dk_at dksX1_look_0 2 rfl rfl)
theorem dX1_look_5 : decode cX1_look 5 = .ok (.ifCond .eq 39, 3) := dk_153 0 39 (dk_at dksX1_look_0 5 rfl rfl)
theorem dX1_look_8 : decode cX1_look 8 = .ok (.aload_n 0, 1) := dk_42 (dk_at dksX1_look_0 8 rfl rfl)
theorem dX1_look_9 : decode cX1_look 9 = .ok (.iload_n 2, 1) := dk_28 (dk_at dksX1_look_0 9 rfl rfl)
theorem dX1_look_10 : decode cX1_look 10 = .ok (.ifCond .eq 17, 3) := dk_153 0 17 (dk_at dksX1_look_0 10 rfl rfl)
theorem dX1_look_13 : decode cX1_look 13 = .ok (.aload_n 0, 1) := dk_42 (dk_at dksX1_look_0 13 rfl rfl)
theorem dX1_look_14 : decode cX1_look 14 = .ok (.getfield 91, 3) := dk_180 0 91 (dk_at dksX1_look_0 14 rfl rfl)
theorem dX1_look_17 : decode cX1_look 17 = .ok (.iload_n 1, 1) := dk_27 (dk_at dksX1_look_0 17 rfl rfl)
theorem dX1_look_18 : decode cX1_look 18 = .ok (.invokevirtual 153, 3) := dk_182 0 153 (dk_at dksX1_look_0 18 rfl rfl)
theorem dX1_look_21 : decode cX1_look 21 = .ok (.invokevirtual 349, 3) := dk_182 1 93 (dk_at dksX1_look_0 21 rfl rfl)
theorem dX1_look_24 : decode cX1_look 24 = .ok (.goto 14, 3) := dk_167 0 14 (dk_at dksX1_look_1 0 rfl rfl)
theorem dX1_look_27 : decode cX1_look 27 = .ok (.aload_n 0, 1) := dk_42 (dk_at dksX1_look_1 3 rfl rfl)
theorem dX1_look_28 : decode cX1_look 28 = .ok (.getfield 91, 3) := dk_180 0 91 (dk_at dksX1_look_1 4 rfl rfl)
theorem dX1_look_31 : decode cX1_look 31 = .ok (.iload_n 1, 1) := dk_27 (dk_at dksX1_look_1 7 rfl rfl)
theorem dX1_look_32 : decode cX1_look 32 = .ok (.invokevirtual 153, 3) := dk_182 0 153 (dk_at dksX1_look_1 8 rfl rfl)
theorem dX1_look_35 : decode cX1_look 35 = .ok (.invokevirtual 352, 3) := dk_182 1 96 (dk_at dksX1_look_1 11 rfl rfl)
theorem dX1_look_38 : decode cX1_look 38 = .ok (.invokevirtual 44, 3) := dk_182 0 44 (dk_at dksX1_look_1 14 rfl rfl)
theorem dX1_look_41 : decode cX1_look 41 = .ok (.goto 8, 3) := dk_167 0 8 (dk_at dksX1_look_1 17 rfl rfl)
theorem dX1_look_44 : decode cX1_look 44 = .ok (.aload_n 0, 1) := dk_42 (dk_at dksX1_look_1 20 rfl rfl)
theorem dX1_look_45 : decode cX1_look 45 = .ok (.iconst 1, 1) := dk_4 (dk_at dksX1_look_1 21 rfl rfl)
theorem dX1_look_46 : decode cX1_look 46 = .ok (.invokevirtual 40, 3) := dk_182 0 40 (dk_at dksX1_look_2 0 rfl rfl)
theorem dX1_look_49 : decode cX1_look 49 = .ok (.ireturn, 1) := dk_172 (dk_at dksX1_look_2 3 rfl rfl)
abbrev cX1_coins : ByteArray := prog_1_method_71_code
def yX1_coins : MethodName := ⟨RX1, "coins", "(II)I"⟩
def dkwX1_coins_1 : List UInt8 := [182, 0, 44, 167, 0, 8, 42, 4, 182, 0, 40, 172]
abbrev dktX1_coins_1 : List UInt8 := dkwX1_coins_1 ++ []
def dkwX1_coins_0 : List UInt8 := [42, 27, 28, 182, 0, 149, 153, 0, 23, 42, 42, 180, 0, 91, 27, 182, 0, 153, 180, 0, 195, 28, 46]
abbrev dktX1_coins_0 : List UInt8 := dkwX1_coins_0 ++ dktX1_coins_1
theorem dksX1_coins_0 : cX1_coins.data.toList.drop 0 = dktX1_coins_0 := by decide +kernel
theorem dksX1_coins_1 : cX1_coins.data.toList.drop 23 = dktX1_coins_1 := dk_seg dksX1_coins_0 23 rfl rfl
theorem dX1_coins_0 : decode cX1_coins 0 = .ok (.aload_n 0, 1) := dk_42 (dk_at dksX1_coins_0 0 rfl rfl)
theorem dX1_coins_1 : decode cX1_coins 1 = .ok (.iload_n 1, 1) := dk_27 (dk_at dksX1_coins_0 1 rfl rfl)
theorem dX1_coins_2 : decode cX1_coins 2 = .ok (.iload_n 2, 1) := dk_28 (dk_at dksX1_coins_0 2 rfl rfl)
theorem dX1_coins_3 : decode cX1_coins 3 = .ok (.invokevirtual 149, 3) := dk_182 0 149 (dk_at dksX1_coins_0 3 rfl rfl)
theorem dX1_coins_6 : decode cX1_coins 6 = .ok (.ifCond .eq 23, 3) := dk_153 0 23 (dk_at dksX1_coins_0 6 rfl rfl)
theorem dX1_coins_9 : decode cX1_coins 9 = .ok (.aload_n 0, 1) := dk_42 (dk_at dksX1_coins_0 9 rfl rfl)
theorem dX1_coins_10 : decode cX1_coins 10 = .ok (.aload_n 0, 1) := dk_42 (dk_at dksX1_coins_0 10 rfl rfl)
theorem dX1_coins_11 : decode cX1_coins 11 = .ok (.getfield 91, 3) := dk_180 0 91 (dk_at dksX1_coins_0 11 rfl rfl)
theorem dX1_coins_14 : decode cX1_coins 14 = .ok (.iload_n 1, 1) := dk_27 (dk_at dksX1_coins_0 14 rfl rfl)
theorem dX1_coins_15 : decode cX1_coins 15 = .ok (.invokevirtual 153, 3) := dk_182 0 153 (dk_at dksX1_coins_0 15 rfl rfl)
theorem dX1_coins_18 : decode cX1_coins 18 = .ok (.getfield 195, 3) := dk_180 0 195 (dk_at dksX1_coins_0 18 rfl rfl)
theorem dX1_coins_21 : decode cX1_coins 21 = .ok (.iload_n 2, 1) := dk_28 (dk_at dksX1_coins_0 21 rfl rfl)
theorem dX1_coins_22 : decode cX1_coins 22 = .ok (.iaload, 1) := dk_46 (dk_at dksX1_coins_0 22 rfl rfl)
theorem dX1_coins_23 : decode cX1_coins 23 = .ok (.invokevirtual 44, 3) := dk_182 0 44 (dk_at dksX1_coins_1 0 rfl rfl)
theorem dX1_coins_26 : decode cX1_coins 26 = .ok (.goto 8, 3) := dk_167 0 8 (dk_at dksX1_coins_1 3 rfl rfl)
theorem dX1_coins_29 : decode cX1_coins 29 = .ok (.aload_n 0, 1) := dk_42 (dk_at dksX1_coins_1 6 rfl rfl)
theorem dX1_coins_30 : decode cX1_coins 30 = .ok (.iconst 1, 1) := dk_4 (dk_at dksX1_coins_1 7 rfl rfl)
theorem dX1_coins_31 : decode cX1_coins 31 = .ok (.invokevirtual 40, 3) := dk_182 0 40 (dk_at dksX1_coins_1 8 rfl rfl)
theorem dX1_coins_34 : decode cX1_coins 34 = .ok (.ireturn, 1) := dk_172 (dk_at dksX1_coins_1 11 rfl rfl)
abbrev cX1_size : ByteArray := prog_1_method_73_code
def yX1_size : MethodName := ⟨RX1, "size", "(I)I"⟩
def dkwX1_size_6 : List UInt8 := [182, 0, 214, 172, 42, 180, 0, 31, 182, 0, 214, 172, 42, 180, 0, 34, 182, 0, 214, 172]
abbrev dktX1_size_6 : List UInt8 := dkwX1_size_6 ++ []
def dkwX1_size_5 : List UInt8 := [180, 0, 75, 180, 1, 26, 182, 0, 214, 172, 42, 180, 0, 75, 180, 0, 113, 172, 42, 180, 0, 27]
abbrev dktX1_size_5 : List UInt8 := dkwX1_size_5 ++ dktX1_size_6
def dkwX1_size_4 : List UInt8 := [42, 180, 0, 75, 180, 0, 211, 182, 0, 214, 172, 42, 180, 0, 75, 180, 0, 246, 182, 0, 214, 172, 42]
abbrev dktX1_size_4 : List UInt8 := dkwX1_size_4 ++ dktX1_size_5
def dkwX1_size_3 : List UInt8 := [42, 180, 0, 75, 180, 0, 95, 172, 42, 180, 0, 75, 180, 0, 215, 172, 42, 180, 0, 91, 182, 0, 98, 172]
abbrev dktX1_size_3 : List UInt8 := dkwX1_size_3 ++ dktX1_size_4
def dkwX1_size_2 : List UInt8 := [170, 0, 0, 0, 0, 0, 132, 0, 0, 0, 0, 0, 0, 0, 8, 0, 0, 0, 51, 0, 0, 0, 59, 0, 0, 0, 67, 0, 0, 0, 75, 0, 0, 0, 86, 0, 0, 0, 97, 0, 0, 0, 108, 0, 0, 0, 116, 0, 0, 0, 124]
abbrev dktX1_size_2 : List UInt8 := dkwX1_size_2 ++ dktX1_size_3
def dkwX1_size_1 : List UInt8 := [180, 0, 75, 199, 0, 5, 3, 172, 27]
abbrev dktX1_size_1 : List UInt8 := dkwX1_size_1 ++ dktX1_size_2
def dkwX1_size_0 : List UInt8 := [27, 16, 10, 160, 0, 8, 42, 180, 0, 47, 172, 27, 3, 16, 9, 184, 0, 50, 154, 0, 5, 2, 172, 42]
abbrev dktX1_size_0 : List UInt8 := dkwX1_size_0 ++ dktX1_size_1
theorem dksX1_size_0 : cX1_size.data.toList.drop 0 = dktX1_size_0 := by decide +kernel
theorem dksX1_size_1 : cX1_size.data.toList.drop 24 = dktX1_size_1 := dk_seg dksX1_size_0 24 rfl rfl
theorem dksX1_size_2 : cX1_size.data.toList.drop 33 = dktX1_size_2 := dk_seg dksX1_size_1 9 rfl rfl
theorem dksX1_size_3 : cX1_size.data.toList.drop 84 = dktX1_size_3 := dk_seg dksX1_size_2 51 rfl rfl
theorem dksX1_size_4 : cX1_size.data.toList.drop 108 = dktX1_size_4 := dk_seg dksX1_size_3 24 rfl rfl
theorem dksX1_size_5 : cX1_size.data.toList.drop 131 = dktX1_size_5 := dk_seg dksX1_size_4 23 rfl rfl
theorem dksX1_size_6 : cX1_size.data.toList.drop 153 = dktX1_size_6 := dk_seg dksX1_size_5 22 rfl rfl
theorem dX1_size_0 : decode cX1_size 0 = .ok (.iload_n 1, 1) := dk_27 (dk_at dksX1_size_0 0 rfl rfl)
theorem dX1_size_1 : decode cX1_size 1 = .ok (.bipush 10, 2) := dk_16 10 (dk_at dksX1_size_0 1 rfl rfl)
theorem dX1_size_3 : decode cX1_size 3 = .ok (.if_icmp .ne 8, 3) := dk_160 0 8 (dk_at dksX1_size_0 3 rfl rfl)
theorem dX1_size_6 : decode cX1_size 6 = .ok (.aload_n 0, 1) := dk_42 (dk_at dksX1_size_0 6 rfl rfl)
theorem dX1_size_7 : decode cX1_size 7 = .ok (.getfield 47, 3) := dk_180 0 47 (dk_at dksX1_size_0 7 rfl rfl)
theorem dX1_size_10 : decode cX1_size 10 = .ok (.ireturn, 1) := dk_172 (dk_at dksX1_size_0 10 rfl rfl)
theorem dX1_size_11 : decode cX1_size 11 = .ok (.iload_n 1, 1) := dk_27 (dk_at dksX1_size_0 11 rfl rfl)
theorem dX1_size_12 : decode cX1_size 12 = .ok (.iconst 0, 1) := dk_3 (dk_at dksX1_size_0 12 rfl rfl)
theorem dX1_size_13 : decode cX1_size 13 = .ok (.bipush 9, 2) := dk_16 9 (dk_at dksX1_size_0 13 rfl rfl)
theorem dX1_size_15 : decode cX1_size 15 = .ok (.invokestatic 50, 3) := dk_184 0 50 (dk_at dksX1_size_0 15 rfl rfl)
theorem dX1_size_18 : decode cX1_size 18 = .ok (.ifCond .ne 5, 3) := dk_154 0 5 (dk_at dksX1_size_0 18 rfl rfl)
theorem dX1_size_21 : decode cX1_size 21 = .ok (.iconst (-1), 1) := dk_2 (dk_at dksX1_size_0 21 rfl rfl)
theorem dX1_size_22 : decode cX1_size 22 = .ok (.ireturn, 1) := dk_172 (dk_at dksX1_size_0 22 rfl rfl)
theorem dX1_size_23 : decode cX1_size 23 = .ok (.aload_n 0, 1) := dk_42 (dk_at dksX1_size_0 23 rfl rfl)
theorem dX1_size_24 : decode cX1_size 24 = .ok (.getfield 75, 3) := dk_180 0 75 (dk_at dksX1_size_1 0 rfl rfl)
theorem dX1_size_27 : decode cX1_size 27 = .ok (.ifnonnull 5, 3) := dk_199 0 5 (dk_at dksX1_size_1 3 rfl rfl)
theorem dX1_size_30 : decode cX1_size 30 = .ok (.iconst 0, 1) := dk_3 (dk_at dksX1_size_1 6 rfl rfl)
theorem dX1_size_31 : decode cX1_size 31 = .ok (.ireturn, 1) := dk_172 (dk_at dksX1_size_1 7 rfl rfl)
theorem dX1_size_32 : decode cX1_size 32 = .ok (.iload_n 1, 1) := dk_27 (dk_at dksX1_size_1 8 rfl rfl)
theorem dX1_size_33 : decode cX1_size 33 = .ok (.tableswitch 132 0 8 #[51, 59, 67, 75, 86, 97, 108, 116, 124], 51) := by decide +kernel
theorem dX1_size_84 : decode cX1_size 84 = .ok (.aload_n 0, 1) := dk_42 (dk_at dksX1_size_3 0 rfl rfl)
theorem dX1_size_85 : decode cX1_size 85 = .ok (.getfield 75, 3) := dk_180 0 75 (dk_at dksX1_size_3 1 rfl rfl)
theorem dX1_size_88 : decode cX1_size 88 = .ok (.getfield 95, 3) := dk_180 0 95 (dk_at dksX1_size_3 4 rfl rfl)
theorem dX1_size_91 : decode cX1_size 91 = .ok (.ireturn, 1) := dk_172 (dk_at dksX1_size_3 7 rfl rfl)
theorem dX1_size_92 : decode cX1_size 92 = .ok (.aload_n 0, 1) := dk_42 (dk_at dksX1_size_3 8 rfl rfl)
theorem dX1_size_93 : decode cX1_size 93 = .ok (.getfield 75, 3) := dk_180 0 75 (dk_at dksX1_size_3 9 rfl rfl)
theorem dX1_size_96 : decode cX1_size 96 = .ok (.getfield 215, 3) := dk_180 0 215 (dk_at dksX1_size_3 12 rfl rfl)
theorem dX1_size_99 : decode cX1_size 99 = .ok (.ireturn, 1) := dk_172 (dk_at dksX1_size_3 15 rfl rfl)
theorem dX1_size_100 : decode cX1_size 100 = .ok (.aload_n 0, 1) := dk_42 (dk_at dksX1_size_3 16 rfl rfl)
theorem dX1_size_101 : decode cX1_size 101 = .ok (.getfield 91, 3) := dk_180 0 91 (dk_at dksX1_size_3 17 rfl rfl)
theorem dX1_size_104 : decode cX1_size 104 = .ok (.invokevirtual 98, 3) := dk_182 0 98 (dk_at dksX1_size_3 20 rfl rfl)
theorem dX1_size_107 : decode cX1_size 107 = .ok (.ireturn, 1) := dk_172 (dk_at dksX1_size_3 23 rfl rfl)
theorem dX1_size_108 : decode cX1_size 108 = .ok (.aload_n 0, 1) := dk_42 (dk_at dksX1_size_4 0 rfl rfl)
theorem dX1_size_109 : decode cX1_size 109 = .ok (.getfield 75, 3) := dk_180 0 75 (dk_at dksX1_size_4 1 rfl rfl)
theorem dX1_size_112 : decode cX1_size 112 = .ok (.getfield 211, 3) := dk_180 0 211 (dk_at dksX1_size_4 4 rfl rfl)
theorem dX1_size_115 : decode cX1_size 115 = .ok (.invokevirtual 214, 3) := dk_182 0 214 (dk_at dksX1_size_4 7 rfl rfl)
theorem dX1_size_118 : decode cX1_size 118 = .ok (.ireturn, 1) := dk_172 (dk_at dksX1_size_4 10 rfl rfl)
theorem dX1_size_119 : decode cX1_size 119 = .ok (.aload_n 0, 1) := dk_42 (dk_at dksX1_size_4 11 rfl rfl)
theorem dX1_size_120 : decode cX1_size 120 = .ok (.getfield 75, 3) := dk_180 0 75 (dk_at dksX1_size_4 12 rfl rfl)
theorem dX1_size_123 : decode cX1_size 123 = .ok (.getfield 246, 3) := dk_180 0 246 (dk_at dksX1_size_4 15 rfl rfl)
theorem dX1_size_126 : decode cX1_size 126 = .ok (.invokevirtual 214, 3) := dk_182 0 214 (dk_at dksX1_size_4 18 rfl rfl)
theorem dX1_size_129 : decode cX1_size 129 = .ok (.ireturn, 1) := dk_172 (dk_at dksX1_size_4 21 rfl rfl)
theorem dX1_size_130 : decode cX1_size 130 = .ok (.aload_n 0, 1) := dk_42 (dk_at dksX1_size_4 22 rfl rfl)
theorem dX1_size_131 : decode cX1_size 131 = .ok (.getfield 75, 3) := dk_180 0 75 (dk_at dksX1_size_5 0 rfl rfl)
theorem dX1_size_134 : decode cX1_size 134 = .ok (.getfield 282, 3) := dk_180 1 26 (dk_at dksX1_size_5 3 rfl rfl)
theorem dX1_size_137 : decode cX1_size 137 = .ok (.invokevirtual 214, 3) := dk_182 0 214 (dk_at dksX1_size_5 6 rfl rfl)
theorem dX1_size_140 : decode cX1_size 140 = .ok (.ireturn, 1) := dk_172 (dk_at dksX1_size_5 9 rfl rfl)
theorem dX1_size_141 : decode cX1_size 141 = .ok (.aload_n 0, 1) := dk_42 (dk_at dksX1_size_5 10 rfl rfl)
theorem dX1_size_142 : decode cX1_size 142 = .ok (.getfield 75, 3) := dk_180 0 75 (dk_at dksX1_size_5 11 rfl rfl)
theorem dX1_size_145 : decode cX1_size 145 = .ok (.getfield 113, 3) := dk_180 0 113 (dk_at dksX1_size_5 14 rfl rfl)
theorem dX1_size_148 : decode cX1_size 148 = .ok (.ireturn, 1) := dk_172 (dk_at dksX1_size_5 17 rfl rfl)
theorem dX1_size_149 : decode cX1_size 149 = .ok (.aload_n 0, 1) := dk_42 (dk_at dksX1_size_5 18 rfl rfl)
theorem dX1_size_150 : decode cX1_size 150 = .ok (.getfield 27, 3) := dk_180 0 27 (dk_at dksX1_size_5 19 rfl rfl)
theorem dX1_size_153 : decode cX1_size 153 = .ok (.invokevirtual 214, 3) := dk_182 0 214 (dk_at dksX1_size_6 0 rfl rfl)
theorem dX1_size_156 : decode cX1_size 156 = .ok (.ireturn, 1) := dk_172 (dk_at dksX1_size_6 3 rfl rfl)
theorem dX1_size_157 : decode cX1_size 157 = .ok (.aload_n 0, 1) := dk_42 (dk_at dksX1_size_6 4 rfl rfl)
theorem dX1_size_158 : decode cX1_size 158 = .ok (.getfield 31, 3) := dk_180 0 31 (dk_at dksX1_size_6 5 rfl rfl)
theorem dX1_size_161 : decode cX1_size 161 = .ok (.invokevirtual 214, 3) := dk_182 0 214 (dk_at dksX1_size_6 8 rfl rfl)
theorem dX1_size_164 : decode cX1_size 164 = .ok (.ireturn, 1) := dk_172 (dk_at dksX1_size_6 11 rfl rfl)
theorem dX1_size_165 : decode cX1_size 165 = .ok (.aload_n 0, 1) := dk_42 (dk_at dksX1_size_6 12 rfl rfl)
theorem dX1_size_166 : decode cX1_size 166 = .ok (.getfield 34, 3) := dk_180 0 34 (dk_at dksX1_size_6 13 rfl rfl)
theorem dX1_size_169 : decode cX1_size 169 = .ok (.invokevirtual 214, 3) := dk_182 0 214 (dk_at dksX1_size_6 16 rfl rfl)
theorem dX1_size_172 : decode cX1_size 172 = .ok (.ireturn, 1) := dk_172 (dk_at dksX1_size_6 19 rfl rfl)
abbrev cX1_trouble : ByteArray := prog_1_method_74_code
def yX1_trouble : MethodName := ⟨RX1, "trouble", "()I"⟩
theorem dX1_trouble_0 : decode cX1_trouble 0 = .ok (.aload_n 0, 1) := by decide +kernel
theorem dX1_trouble_1 : decode cX1_trouble 1 = .ok (.getfield 37, 3) := by decide +kernel
theorem dX1_trouble_4 : decode cX1_trouble 4 = .ok (.ireturn, 1) := by decide +kernel
abbrev cX1_led : ByteArray := prog_1_method_72_code
def yX1_led : MethodName := ⟨RX1, "led", "(I)I"⟩
def dkwX1_led_4 : List UInt8 := [167, 255, 166, 187, 1, 99, 89, 183, 1, 101, 191]
abbrev dktX1_led_4 : List UInt8 := dkwX1_led_4 ++ []
def dkwX1_led_3 : List UInt8 := [28, 27, 160, 0, 10, 7, 29, 104, 21, 4, 96, 172, 132, 2, 1, 132, 4, 1, 167, 255, 193, 132, 3, 1]
abbrev dktX1_led_3 : List UInt8 := dkwX1_led_3 ++ dktX1_led_4
def dkwX1_led_2 : List UInt8 := [182, 0, 153, 21, 4, 182, 0, 162, 153, 0, 31, 42, 29, 21, 4, 182, 0, 150, 153, 0, 6, 167, 0, 18]
abbrev dktX1_led_2 : List UInt8 := dkwX1_led_2 ++ dktX1_led_3
def dkwX1_led_1 : List UInt8 := [54, 4, 21, 4, 42, 180, 0, 91, 29, 182, 0, 153, 182, 0, 157, 162, 0, 53, 42, 180, 0, 91, 29]
abbrev dktX1_led_1 : List UInt8 := dkwX1_led_1 ++ dktX1_led_2
def dkwX1_led_0 : List UInt8 := [3, 61, 3, 62, 42, 180, 0, 75, 198, 0, 89, 29, 42, 180, 0, 91, 182, 0, 98, 162, 0, 78, 3]
abbrev dktX1_led_0 : List UInt8 := dkwX1_led_0 ++ dktX1_led_1
theorem dksX1_led_0 : cX1_led.data.toList.drop 0 = dktX1_led_0 := by decide +kernel
theorem dksX1_led_1 : cX1_led.data.toList.drop 23 = dktX1_led_1 := dk_seg dksX1_led_0 23 rfl rfl
theorem dksX1_led_2 : cX1_led.data.toList.drop 46 = dktX1_led_2 := dk_seg dksX1_led_1 23 rfl rfl
theorem dksX1_led_3 : cX1_led.data.toList.drop 70 = dktX1_led_3 := dk_seg dksX1_led_2 24 rfl rfl
theorem dksX1_led_4 : cX1_led.data.toList.drop 94 = dktX1_led_4 := dk_seg dksX1_led_3 24 rfl rfl
theorem dX1_led_0 : decode cX1_led 0 = .ok (.iconst 0, 1) := dk_3 (dk_at dksX1_led_0 0 rfl rfl)
theorem dX1_led_1 : decode cX1_led 1 = .ok (.istore_n 2, 1) := dk_61 (dk_at dksX1_led_0 1 rfl rfl)
theorem dX1_led_2 : decode cX1_led 2 = .ok (.iconst 0, 1) := dk_3 (dk_at dksX1_led_0 2 rfl rfl)
theorem dX1_led_3 : decode cX1_led 3 = .ok (.istore_n 3, 1) := dk_62 (dk_at dksX1_led_0 3 rfl rfl)
theorem dX1_led_4 : decode cX1_led 4 = .ok (.aload_n 0, 1) := dk_42 (dk_at dksX1_led_0 4 rfl rfl)
theorem dX1_led_5 : decode cX1_led 5 = .ok (.getfield 75, 3) := dk_180 0 75 (dk_at dksX1_led_0 5 rfl rfl)
theorem dX1_led_8 : decode cX1_led 8 = .ok (.ifnull 89, 3) := dk_198 0 89 (dk_at dksX1_led_0 8 rfl rfl)
theorem dX1_led_11 : decode cX1_led 11 = .ok (.iload_n 3, 1) := dk_29 (dk_at dksX1_led_0 11 rfl rfl)
theorem dX1_led_12 : decode cX1_led 12 = .ok (.aload_n 0, 1) := dk_42 (dk_at dksX1_led_0 12 rfl rfl)
theorem dX1_led_13 : decode cX1_led 13 = .ok (.getfield 91, 3) := dk_180 0 91 (dk_at dksX1_led_0 13 rfl rfl)
theorem dX1_led_16 : decode cX1_led 16 = .ok (.invokevirtual 98, 3) := dk_182 0 98 (dk_at dksX1_led_0 16 rfl rfl)
theorem dX1_led_19 : decode cX1_led 19 = .ok (.if_icmp .ge 78, 3) := dk_162 0 78 (dk_at dksX1_led_0 19 rfl rfl)
theorem dX1_led_22 : decode cX1_led 22 = .ok (.iconst 0, 1) := dk_3 (dk_at dksX1_led_0 22 rfl rfl)
theorem dX1_led_23 : decode cX1_led 23 = .ok (.istore 4, 2) := dk_54 4 (dk_at dksX1_led_1 0 rfl rfl)
theorem dX1_led_25 : decode cX1_led 25 = .ok (.iload 4, 2) := dk_21 4 (dk_at dksX1_led_1 2 rfl rfl)
theorem dX1_led_27 : decode cX1_led 27 = .ok (.aload_n 0, 1) := dk_42 (dk_at dksX1_led_1 4 rfl rfl)
theorem dX1_led_28 : decode cX1_led 28 = .ok (.getfield 91, 3) := dk_180 0 91 (dk_at dksX1_led_1 5 rfl rfl)
theorem dX1_led_31 : decode cX1_led 31 = .ok (.iload_n 3, 1) := dk_29 (dk_at dksX1_led_1 8 rfl rfl)
theorem dX1_led_32 : decode cX1_led 32 = .ok (.invokevirtual 153, 3) := dk_182 0 153 (dk_at dksX1_led_1 9 rfl rfl)
theorem dX1_led_35 : decode cX1_led 35 = .ok (.invokevirtual 157, 3) := dk_182 0 157 (dk_at dksX1_led_1 12 rfl rfl)
theorem dX1_led_38 : decode cX1_led 38 = .ok (.if_icmp .ge 53, 3) := dk_162 0 53 (dk_at dksX1_led_1 15 rfl rfl)
theorem dX1_led_41 : decode cX1_led 41 = .ok (.aload_n 0, 1) := dk_42 (dk_at dksX1_led_1 18 rfl rfl)
theorem dX1_led_42 : decode cX1_led 42 = .ok (.getfield 91, 3) := dk_180 0 91 (dk_at dksX1_led_1 19 rfl rfl)
theorem dX1_led_45 : decode cX1_led 45 = .ok (.iload_n 3, 1) := dk_29 (dk_at dksX1_led_1 22 rfl rfl)
theorem dX1_led_46 : decode cX1_led 46 = .ok (.invokevirtual 153, 3) := dk_182 0 153 (dk_at dksX1_led_2 0 rfl rfl)
theorem dX1_led_49 : decode cX1_led 49 = .ok (.iload 4, 2) := dk_21 4 (dk_at dksX1_led_2 3 rfl rfl)
theorem dX1_led_51 : decode cX1_led 51 = .ok (.invokevirtual 162, 3) := dk_182 0 162 (dk_at dksX1_led_2 5 rfl rfl)
theorem dX1_led_54 : decode cX1_led 54 = .ok (.ifCond .eq 31, 3) := dk_153 0 31 (dk_at dksX1_led_2 8 rfl rfl)
theorem dX1_led_57 : decode cX1_led 57 = .ok (.aload_n 0, 1) := dk_42 (dk_at dksX1_led_2 11 rfl rfl)
theorem dX1_led_58 : decode cX1_led 58 = .ok (.iload_n 3, 1) := dk_29 (dk_at dksX1_led_2 12 rfl rfl)
theorem dX1_led_59 : decode cX1_led 59 = .ok (.iload 4, 2) := dk_21 4 (dk_at dksX1_led_2 13 rfl rfl)
theorem dX1_led_61 : decode cX1_led 61 = .ok (.invokevirtual 150, 3) := dk_182 0 150 (dk_at dksX1_led_2 15 rfl rfl)
theorem dX1_led_64 : decode cX1_led 64 = .ok (.ifCond .eq 6, 3) := dk_153 0 6 (dk_at dksX1_led_2 18 rfl rfl)
theorem dX1_led_67 : decode cX1_led 67 = .ok (.goto 18, 3) := dk_167 0 18 (dk_at dksX1_led_2 21 rfl rfl)
theorem dX1_led_70 : decode cX1_led 70 = .ok (.iload_n 2, 1) := dk_28 (dk_at dksX1_led_3 0 rfl rfl)
theorem dX1_led_71 : decode cX1_led 71 = .ok (.iload_n 1, 1) := dk_27 (dk_at dksX1_led_3 1 rfl rfl)
theorem dX1_led_72 : decode cX1_led 72 = .ok (.if_icmp .ne 10, 3) := dk_160 0 10 (dk_at dksX1_led_3 2 rfl rfl)
theorem dX1_led_75 : decode cX1_led 75 = .ok (.iconst 4, 1) := dk_7 (dk_at dksX1_led_3 5 rfl rfl)
theorem dX1_led_76 : decode cX1_led 76 = .ok (.iload_n 3, 1) := dk_29 (dk_at dksX1_led_3 6 rfl rfl)
theorem dX1_led_77 : decode cX1_led 77 = .ok (.imul, 1) := dk_104 (dk_at dksX1_led_3 7 rfl rfl)
theorem dX1_led_78 : decode cX1_led 78 = .ok (.iload 4, 2) := dk_21 4 (dk_at dksX1_led_3 8 rfl rfl)
theorem dX1_led_80 : decode cX1_led 80 = .ok (.iadd, 1) := dk_96 (dk_at dksX1_led_3 10 rfl rfl)
theorem dX1_led_81 : decode cX1_led 81 = .ok (.ireturn, 1) := dk_172 (dk_at dksX1_led_3 11 rfl rfl)
theorem dX1_led_82 : decode cX1_led 82 = .ok (.iinc 2 1, 3) := dk_132 2 1 (dk_at dksX1_led_3 12 rfl rfl)
theorem dX1_led_85 : decode cX1_led 85 = .ok (.iinc 4 1, 3) := dk_132 4 1 (dk_at dksX1_led_3 15 rfl rfl)
theorem dX1_led_88 : decode cX1_led 88 = .ok (.goto (-63), 3) := dk_167 255 193 (dk_at dksX1_led_3 18 rfl rfl)
theorem dX1_led_91 : decode cX1_led 91 = .ok (.iinc 3 1, 3) := dk_132 3 1 (dk_at dksX1_led_3 21 rfl rfl)
theorem dX1_led_94 : decode cX1_led 94 = .ok (.goto (-90), 3) := dk_167 255 166 (dk_at dksX1_led_4 0 rfl rfl)
theorem dX1_led_97 : decode cX1_led 97 = .ok (.new 355, 3) := dk_187 1 99 (dk_at dksX1_led_4 3 rfl rfl)
theorem dX1_led_100 : decode cX1_led 100 = .ok (.dup, 1) := dk_89 (dk_at dksX1_led_4 6 rfl rfl)
theorem dX1_led_101 : decode cX1_led 101 = .ok (.invokespecial 357, 3) := dk_183 1 101 (dk_at dksX1_led_4 7 rfl rfl)
theorem dX1_led_104 : decode cX1_led 104 = .ok (.athrow, 1) := dk_191 (dk_at dksX1_led_4 10 rfl rfl)
theorem q113 : (Jvm.Cond.initialized "NotAtOnce") ∈ lw_all := lw_g (lw_at lw_m1 1 rfl) rfl
theorem q152 : (Jvm.Cond.instantiable "NotAtOnce" (11 : Nat)) ∈ lw_all := lw_g (lw_at lw_m1 40 rfl) rfl
theorem q154 : (Jvm.Cond.instanceMethod ({ cls := "NotAtOnce", name := "<init>", desc := "()V" } : Jvm.MethodName)) ∈ lw_all := lw_g (lw_at lw_m1 42 rfl) rfl
theorem q155 : (Jvm.Cond.code ({ cls := "NotAtOnce", name := "<init>", desc := "()V" } : Jvm.MethodName) prog_1_method_1_code (1 : Nat) (Option.none : Option Jvm.ClassFile.FieldType)) ∈ lw_all := lw_g (lw_at lw_m1 43 rfl) rfl
theorem q156 : (Jvm.Cond.methodLink "NotAtOnce" (1 : Nat) ({ cls := "java/lang/Object", name := "<init>", desc := "()V" } : Jvm.MethodName)) ∈ lw_all := lw_g (lw_at lw_m1 44 rfl) rfl
theorem q159 : (Jvm.Cond.classLink "NotAtOnce" (17 : Nat) "NotAtOnce$Program") ∈ lw_all := lw_g (lw_at lw_m1 47 rfl) rfl
theorem q161 : (Jvm.Cond.methodLinkNest "NotAtOnce" (19 : Nat) ({ cls := "NotAtOnce$Program", name := "<init>", desc := "()V" } : Jvm.MethodName) "NotAtOnce") ∈ lw_tbl := lw_at lw_m1 49 rfl
theorem q171 : (Jvm.Cond.fieldLink "NotAtOnce" (128 : Nat) "NotAtOnce$Program" "low" "J") ∈ lw_all := lw_g (lw_at lw_m1 59 rfl) rfl
theorem q188 : (Jvm.Cond.classLink "NotAtOnce" (24 : Nat) "java/util/ArrayList") ∈ lw_all := lw_g (lw_at lw_m1 76 rfl) rfl
theorem q190 : (Jvm.Cond.methodLink "NotAtOnce" (26 : Nat) ({ cls := "java/util/ArrayList", name := "<init>", desc := "()V" } : Jvm.MethodName)) ∈ lw_all := lw_g (lw_at lw_m1 78 rfl) rfl
theorem q214 : (Jvm.Cond.fieldLink "NotAtOnce" (9 : Nat) "NotAtOnce" "tape" "[B") ∈ lw_all := lw_g (lw_at lw_m1 102 rfl) rfl
theorem q215 : (Jvm.Cond.fieldLink "NotAtOnce" (47 : Nat) "NotAtOnce" "taped" "I") ∈ lw_all := lw_g (lw_at lw_m1 103 rfl) rfl
theorem q216 : (Jvm.Cond.fieldLink "NotAtOnce" (71 : Nat) "NotAtOnce" "fault" "I") ∈ lw_all := lw_g (lw_at lw_m1 104 rfl) rfl
theorem q217 : (Jvm.Cond.fieldLink "NotAtOnce" (13 : Nat) "NotAtOnce" "where" "I") ∈ lw_all := lw_g (lw_at lw_m1 105 rfl) rfl
theorem q218 : (Jvm.Cond.fieldLink "NotAtOnce" (37 : Nat) "NotAtOnce" "trouble" "I") ∈ lw_all := lw_g (lw_at lw_m1 106 rfl) rfl
theorem q219 : (Jvm.Cond.fieldLink "NotAtOnce" (75 : Nat) "NotAtOnce" "book" "LNotAtOnce$Book;") ∈ lw_all := lw_g (lw_at lw_m1 107 rfl) rfl
theorem q220 : (Jvm.Cond.fieldLink "NotAtOnce" (91 : Nat) "NotAtOnce" "table" "LNotAtOnce$Table;") ∈ lw_all := lw_g (lw_at lw_m1 108 rfl) rfl
theorem q221 : (Jvm.Cond.fieldLink "NotAtOnce" (20 : Nat) "NotAtOnce" "program" "LNotAtOnce$Program;") ∈ lw_all := lw_g (lw_at lw_m1 109 rfl) rfl
theorem q222 : (Jvm.Cond.fieldLink "NotAtOnce" (27 : Nat) "NotAtOnce" "past" "Ljava/util/ArrayList;") ∈ lw_all := lw_g (lw_at lw_m1 110 rfl) rfl
theorem q223 : (Jvm.Cond.fieldLink "NotAtOnce" (31 : Nat) "NotAtOnce" "future" "Ljava/util/ArrayList;") ∈ lw_all := lw_g (lw_at lw_m1 111 rfl) rfl
theorem q224 : (Jvm.Cond.fieldLink "NotAtOnce" (34 : Nat) "NotAtOnce" "marks" "Ljava/util/ArrayList;") ∈ lw_all := lw_g (lw_at lw_m1 112 rfl) rfl
theorem q225 : (Jvm.Cond.laysFinal "NotAtOnce" "NotAtOnce" "tape" "[B") ∈ lw_all := lw_g (lw_at lw_m1 113 rfl) rfl
theorem q226 : (Jvm.Cond.soleField "NotAtOnce" "tape") ∈ lw_all := lw_g (lw_at lw_m1 114 rfl) rfl
theorem q227 : (Jvm.Cond.lays "NotAtOnce" "NotAtOnce" "taped" "I") ∈ lw_all := lw_g (lw_at lw_m1 115 rfl) rfl
theorem q228 : (Jvm.Cond.soleField "NotAtOnce" "taped") ∈ lw_all := lw_g (lw_at lw_m1 116 rfl) rfl
theorem q229 : (Jvm.Cond.lays "NotAtOnce" "NotAtOnce" "fault" "I") ∈ lw_all := lw_g (lw_at lw_m1 117 rfl) rfl
theorem q230 : (Jvm.Cond.soleField "NotAtOnce" "fault") ∈ lw_all := lw_g (lw_at lw_m1 118 rfl) rfl
theorem q231 : (Jvm.Cond.lays "NotAtOnce" "NotAtOnce" "where" "I") ∈ lw_all := lw_g (lw_at lw_m1 119 rfl) rfl
theorem q232 : (Jvm.Cond.soleField "NotAtOnce" "where") ∈ lw_all := lw_g (lw_at lw_m1 120 rfl) rfl
theorem q233 : (Jvm.Cond.lays "NotAtOnce" "NotAtOnce" "trouble" "I") ∈ lw_all := lw_g (lw_at lw_m1 121 rfl) rfl
theorem q234 : (Jvm.Cond.soleField "NotAtOnce" "trouble") ∈ lw_all := lw_g (lw_at lw_m1 122 rfl) rfl
theorem q235 : (Jvm.Cond.lays "NotAtOnce" "NotAtOnce" "book" "LNotAtOnce$Book;") ∈ lw_all := lw_g (lw_at lw_m1 123 rfl) rfl
theorem q236 : (Jvm.Cond.soleField "NotAtOnce" "book") ∈ lw_all := lw_g (lw_at lw_m1 124 rfl) rfl
theorem q237 : (Jvm.Cond.lays "NotAtOnce" "NotAtOnce" "table" "LNotAtOnce$Table;") ∈ lw_all := lw_g (lw_at lw_m1 125 rfl) rfl
theorem q238 : (Jvm.Cond.soleField "NotAtOnce" "table") ∈ lw_all := lw_g (lw_at lw_m1 126 rfl) rfl
theorem q239 : (Jvm.Cond.laysFinal "NotAtOnce" "NotAtOnce" "program" "LNotAtOnce$Program;") ∈ lw_all := lw_g (lw_at lw_m1 127 rfl) rfl
theorem q240 : (Jvm.Cond.soleField "NotAtOnce" "program") ∈ lw_all := lw_g (lw_at lw_m1 128 rfl) rfl
theorem q241 : (Jvm.Cond.laysFinal "NotAtOnce" "NotAtOnce" "past" "Ljava/util/ArrayList;") ∈ lw_all := lw_g (lw_at lw_m1 129 rfl) rfl
theorem q242 : (Jvm.Cond.soleField "NotAtOnce" "past") ∈ lw_all := lw_g (lw_at lw_m1 130 rfl) rfl
theorem q243 : (Jvm.Cond.laysFinal "NotAtOnce" "NotAtOnce" "future" "Ljava/util/ArrayList;") ∈ lw_all := lw_g (lw_at lw_m1 131 rfl) rfl
theorem q244 : (Jvm.Cond.soleField "NotAtOnce" "future") ∈ lw_all := lw_g (lw_at lw_m1 132 rfl) rfl
theorem q245 : (Jvm.Cond.laysFinal "NotAtOnce" "NotAtOnce" "marks" "Ljava/util/ArrayList;") ∈ lw_all := lw_g (lw_at lw_m1 133 rfl) rfl
theorem q246 : (Jvm.Cond.soleField "NotAtOnce" "marks") ∈ lw_all := lw_g (lw_at lw_m1 134 rfl) rfl
theorem q247 : (Jvm.Cond.superclass "NotAtOnce" "java/lang/Object") ∈ lw_all := lw_g (lw_at lw_m1 135 rfl) rfl
theorem q249 : (Jvm.Cond.instanceMethod ({ cls := "NotAtOnce", name := "feed", desc := "(IIIII)I" } : Jvm.MethodName)) ∈ lw_all := lw_g (lw_at lw_m1 137 rfl) rfl
theorem q250 : (Jvm.Cond.selects "NotAtOnce" ({ cls := "NotAtOnce", name := "feed", desc := "(IIIII)I" } : Jvm.MethodName) ({ cls := "NotAtOnce", name := "feed", desc := "(IIIII)I" } : Jvm.MethodName)) ∈ lw_all := lw_g (lw_at lw_m1 138 rfl) rfl
theorem q251 : (Jvm.Cond.code ({ cls := "NotAtOnce", name := "feed", desc := "(IIIII)I" } : Jvm.MethodName) prog_1_method_10_code (8 : Nat) (Option.some Jvm.ClassFile.FieldType.int)) ∈ lw_all := lw_g (lw_at lw_m1 139 rfl) rfl
theorem q253 : (Jvm.Cond.instanceMethod ({ cls := "NotAtOnce", name := "book", desc := "(I)I" } : Jvm.MethodName)) ∈ lw_all := lw_g (lw_at lw_m1 141 rfl) rfl
theorem q254 : (Jvm.Cond.selects "NotAtOnce" ({ cls := "NotAtOnce", name := "book", desc := "(I)I" } : Jvm.MethodName) ({ cls := "NotAtOnce", name := "book", desc := "(I)I" } : Jvm.MethodName)) ∈ lw_all := lw_g (lw_at lw_m1 142 rfl) rfl
theorem q255 : (Jvm.Cond.code ({ cls := "NotAtOnce", name := "book", desc := "(I)I" } : Jvm.MethodName) prog_1_method_11_code (4 : Nat) (Option.some Jvm.ClassFile.FieldType.int)) ∈ lw_all := lw_g (lw_at lw_m1 143 rfl) rfl
theorem q256 : (Jvm.Cond.methodLink "NotAtOnce" (50 : Nat) ({ cls := "NotAtOnce", name := "in", desc := "(III)Z" } : Jvm.MethodName)) ∈ lw_all := lw_g (lw_at lw_m1 144 rfl) rfl
theorem q257 : (Jvm.Cond.static ({ cls := "NotAtOnce", name := "in", desc := "(III)Z" } : Jvm.MethodName)) ∈ lw_all := lw_g (lw_at lw_m1 145 rfl) rfl
theorem q258 : (Jvm.Cond.code ({ cls := "NotAtOnce", name := "in", desc := "(III)Z" } : Jvm.MethodName) prog_1_method_2_code (3 : Nat) (Option.some Jvm.ClassFile.FieldType.boolean)) ∈ lw_all := lw_g (lw_at lw_m1 146 rfl) rfl
theorem q259 : (Jvm.Cond.methodLink "NotAtOnce" (40 : Nat) ({ cls := "NotAtOnce", name := "refused", desc := "(I)I" } : Jvm.MethodName)) ∈ lw_all := lw_g (lw_at lw_m1 147 rfl) rfl
theorem q260 : (Jvm.Cond.privateMethod ({ cls := "NotAtOnce", name := "refused", desc := "(I)I" } : Jvm.MethodName)) ∈ lw_tbl := lw_at lw_m1 148 rfl
theorem q261 : (Jvm.Cond.instanceMethod ({ cls := "NotAtOnce", name := "refused", desc := "(I)I" } : Jvm.MethodName)) ∈ lw_all := lw_g (lw_at lw_m1 149 rfl) rfl
theorem q262 : (Jvm.Cond.code ({ cls := "NotAtOnce", name := "refused", desc := "(I)I" } : Jvm.MethodName) prog_1_method_6_code (2 : Nat) (Option.some Jvm.ClassFile.FieldType.int)) ∈ lw_all := lw_g (lw_at lw_m1 150 rfl) rfl
theorem q263 : (Jvm.Cond.classLink "NotAtOnce" (54 : Nat) "NotAtOnce$Reade\x72") ∈ lw_all := lw_g (lw_at lw_m1 151 rfl) rfl
theorem q265 : (Jvm.Cond.classLink "NotAtOnce" (56 : Nat) "NotAtOnce$Tokens") ∈ lw_all := lw_g (lw_at lw_m1 153 rfl) rfl
theorem q267 : (Jvm.Cond.methodLink "NotAtOnce" (58 : Nat) ({ cls := "NotAtOnce$Tokens", name := "<init>", desc := "([BI)V" } : Jvm.MethodName)) ∈ lw_all := lw_g (lw_at lw_m1 155 rfl) rfl
theorem q281 : (Jvm.Cond.methodLink "NotAtOnce" (61 : Nat) ({ cls := "NotAtOnce$Reade\x72", name := "<init>", desc := "(LNotAtOnce$Tokens;)V" } : Jvm.MethodName)) ∈ lw_all := lw_g (lw_at lw_m1 169 rfl) rfl
theorem q301 : (Jvm.Cond.fieldLink "NotAtOnce" (323 : Nat) "NotAtOnce$Table" "sets" "Ljava/util/ArrayList;") ∈ lw_all := lw_g (lw_at lw_m1 189 rfl) rfl
theorem q308 : (Jvm.Cond.fieldLink "NotAtOnce" (113 : Nat) "NotAtOnce$Book" "of" "I") ∈ lw_all := lw_g (lw_at lw_m1 196 rfl) rfl
theorem q310 : (Jvm.Cond.fieldLink "NotAtOnce" (95 : Nat) "NotAtOnce$Book" "looks" "I") ∈ lw_all := lw_g (lw_at lw_m1 198 rfl) rfl
theorem q314 : (Jvm.Cond.fieldLink "NotAtOnce" (215 : Nat) "NotAtOnce$Book" "points" "I") ∈ lw_all := lw_g (lw_at lw_m1 202 rfl) rfl
theorem q316 : (Jvm.Cond.fieldLink "NotAtOnce" (79 : Nat) "NotAtOnce$Book" "table" "LNotAtOnce$Table;") ∈ lw_all := lw_g (lw_at lw_m1 204 rfl) rfl
theorem q320 : (Jvm.Cond.fieldLink "NotAtOnce" (211 : Nat) "NotAtOnce$Book" "lines" "Ljava/util/ArrayList;") ∈ lw_all := lw_g (lw_at lw_m1 208 rfl) rfl
theorem q324 : (Jvm.Cond.fieldLink "NotAtOnce" (246 : Nat) "NotAtOnce$Book" "rays" "Ljava/util/ArrayList;") ∈ lw_all := lw_g (lw_at lw_m1 212 rfl) rfl
theorem q327 : (Jvm.Cond.fieldLink "NotAtOnce" (282 : Nat) "NotAtOnce$Book" "runs" "Ljava/util/ArrayList;") ∈ lw_all := lw_g (lw_at lw_m1 215 rfl) rfl
theorem q573 : (Jvm.Cond.fieldLinkNest "NotAtOnce" (68 : Nat) "NotAtOnce$Reade\x72" "fault" "I" "NotAtOnce") ∈ lw_tbl := lw_at lw_m2 221 rfl
theorem q575 : (Jvm.Cond.fieldLinkNest "NotAtOnce" (72 : Nat) "NotAtOnce$Reade\x72" "place" "I" "NotAtOnce") ∈ lw_tbl := lw_at lw_m2 223 rfl
theorem q591 : (Jvm.Cond.methodLink "NotAtOnce" (64 : Nat) ({ cls := "NotAtOnce$Reade\x72", name := "read", desc := "()LNotAtOnce$Book;" } : Jvm.MethodName)) ∈ lw_all := lw_g (lw_at lw_m2 239 rfl) rfl
theorem q762 : (Jvm.Cond.selects "NotAtOnce" ({ cls := "java/lang/Object", name := "getClass", desc := "()Ljava/lang/Class;" } : Jvm.MethodName) ({ cls := "java/lang/Object", name := "getClass", desc := "()Ljava/lang/Class;" } : Jvm.MethodName)) ∈ lw_all := lw_g (lw_at lw_m3 170 rfl) rfl
theorem q819 : (Jvm.Cond.static ({ cls := "NotAtOnce", name := "has", desc := "(II)Z" } : Jvm.MethodName)) ∈ lw_all := lw_g (lw_at lw_m3 227 rfl) rfl
theorem q820 : (Jvm.Cond.code ({ cls := "NotAtOnce", name := "has", desc := "(II)Z" } : Jvm.MethodName) prog_1_method_3_code (2 : Nat) (Option.some Jvm.ClassFile.FieldType.boolean)) ∈ lw_all := lw_g (lw_at lw_m3 228 rfl) rfl
theorem q840 : (Jvm.Cond.fieldLink "NotAtOnce" (332 : Nat) "NotAtOnce$Asked" "times" "[I") ∈ lw_all := lw_g (lw_at lw_m4 8 rfl) rfl
theorem q843 : (Jvm.Cond.fieldLink "NotAtOnce" (195 : Nat) "NotAtOnce$Asked" "coins" "[I") ∈ lw_all := lw_g (lw_at lw_m4 11 rfl) rfl
theorem q944 : (Jvm.Cond.methodLink "NotAtOnce" (85 : Nat) ({ cls := "NotAtOnce$Table", name := "copy", desc := "(Z)LNotAtOnce$Table;" } : Jvm.MethodName)) ∈ lw_all := lw_g (lw_at lw_m4 112 rfl) rfl
theorem q973 : (Jvm.Cond.methodLink "NotAtOnce" (92 : Nat) ({ cls := "java/util/ArrayList", name := "clea\x72", desc := "()V" } : Jvm.MethodName)) ∈ lw_all := lw_g (lw_at lw_m4 141 rfl) rfl
theorem q977 : (Jvm.Cond.methodLink "NotAtOnce" (44 : Nat) ({ cls := "NotAtOnce", name := "well", desc := "(I)I" } : Jvm.MethodName)) ∈ lw_all := lw_g (lw_at lw_m4 145 rfl) rfl
theorem q978 : (Jvm.Cond.privateMethod ({ cls := "NotAtOnce", name := "well", desc := "(I)I" } : Jvm.MethodName)) ∈ lw_tbl := lw_at lw_m4 146 rfl
theorem q979 : (Jvm.Cond.instanceMethod ({ cls := "NotAtOnce", name := "well", desc := "(I)I" } : Jvm.MethodName)) ∈ lw_all := lw_g (lw_at lw_m4 147 rfl) rfl
theorem q980 : (Jvm.Cond.code ({ cls := "NotAtOnce", name := "well", desc := "(I)I" } : Jvm.MethodName) prog_1_method_8_code (2 : Nat) (Option.some Jvm.ClassFile.FieldType.int)) ∈ lw_all := lw_g (lw_at lw_m4 148 rfl) rfl
theorem q982 : (Jvm.Cond.instanceMethod ({ cls := "NotAtOnce", name := "fault", desc := "()I" } : Jvm.MethodName)) ∈ lw_all := lw_g (lw_at lw_m4 150 rfl) rfl
theorem q983 : (Jvm.Cond.selects "NotAtOnce" ({ cls := "NotAtOnce", name := "fault", desc := "()I" } : Jvm.MethodName) ({ cls := "NotAtOnce", name := "fault", desc := "()I" } : Jvm.MethodName)) ∈ lw_all := lw_g (lw_at lw_m4 151 rfl) rfl
theorem q984 : (Jvm.Cond.code ({ cls := "NotAtOnce", name := "fault", desc := "()I" } : Jvm.MethodName) prog_1_method_12_code (1 : Nat) (Option.some Jvm.ClassFile.FieldType.int)) ∈ lw_all := lw_g (lw_at lw_m4 152 rfl) rfl
theorem q986 : (Jvm.Cond.instanceMethod ({ cls := "NotAtOnce", name := "where", desc := "()I" } : Jvm.MethodName)) ∈ lw_all := lw_g (lw_at lw_m4 154 rfl) rfl
theorem q987 : (Jvm.Cond.selects "NotAtOnce" ({ cls := "NotAtOnce", name := "where", desc := "()I" } : Jvm.MethodName) ({ cls := "NotAtOnce", name := "where", desc := "()I" } : Jvm.MethodName)) ∈ lw_all := lw_g (lw_at lw_m4 155 rfl) rfl
theorem q988 : (Jvm.Cond.code ({ cls := "NotAtOnce", name := "where", desc := "()I" } : Jvm.MethodName) prog_1_method_13_code (1 : Nat) (Option.some Jvm.ClassFile.FieldType.int)) ∈ lw_all := lw_g (lw_at lw_m4 156 rfl) rfl
theorem q990 : (Jvm.Cond.instanceMethod ({ cls := "NotAtOnce", name := "share", desc := "(Z)I" } : Jvm.MethodName)) ∈ lw_all := lw_g (lw_at lw_m4 158 rfl) rfl
theorem q991 : (Jvm.Cond.selects "NotAtOnce" ({ cls := "NotAtOnce", name := "share", desc := "(Z)I" } : Jvm.MethodName) ({ cls := "NotAtOnce", name := "share", desc := "(Z)I" } : Jvm.MethodName)) ∈ lw_all := lw_g (lw_at lw_m4 159 rfl) rfl
theorem q992 : (Jvm.Cond.code ({ cls := "NotAtOnce", name := "share", desc := "(Z)I" } : Jvm.MethodName) prog_1_method_20_code (4 : Nat) (Option.some Jvm.ClassFile.FieldType.int)) ∈ lw_all := lw_g (lw_at lw_m4 160 rfl) rfl
theorem q993 : (Jvm.Cond.methodLink "NotAtOnce" (124 : Nat) ({ cls := "NotAtOnce", name := "measures", desc := "()J" } : Jvm.MethodName)) ∈ lw_all := lw_g (lw_at lw_m4 161 rfl) rfl
theorem q994 : (Jvm.Cond.privateMethod ({ cls := "NotAtOnce", name := "measures", desc := "()J" } : Jvm.MethodName)) ∈ lw_tbl := lw_at lw_m4 162 rfl
theorem q995 : (Jvm.Cond.instanceMethod ({ cls := "NotAtOnce", name := "measures", desc := "()J" } : Jvm.MethodName)) ∈ lw_all := lw_g (lw_at lw_m4 163 rfl) rfl
theorem q996 : (Jvm.Cond.code ({ cls := "NotAtOnce", name := "measures", desc := "()J" } : Jvm.MethodName) prog_1_method_18_code (1 : Nat) (Option.some Jvm.ClassFile.FieldType.long)) ∈ lw_all := lw_g (lw_at lw_m4 164 rfl) rfl
theorem q997 : (Jvm.Cond.methodLink "NotAtOnce" (110 : Nat) ({ cls := "NotAtOnce$Book", name := "hiddens", desc := "()I" } : Jvm.MethodName)) ∈ lw_all := lw_g (lw_at lw_m4 165 rfl) rfl
theorem q1001 : (Jvm.Cond.methodLink "NotAtOnce" (116 : Nat) ({ cls := "NotAtOnce$Program", name := "lays", desc := "(LNotAtOnce$Table;II)V" } : Jvm.MethodName)) ∈ lw_all := lw_g (lw_at lw_m4 169 rfl) rfl
theorem q1025 : (Jvm.Cond.methodLink "NotAtOnce" (120 : Nat) ({ cls := "NotAtOnce$Program", name := "most", desc := "(Z)J" } : Jvm.MethodName)) ∈ lw_all := lw_g (lw_at lw_m4 193 rfl) rfl
theorem q1049 : (Jvm.Cond.methodLink "NotAtOnce" (132 : Nat) ({ cls := "NotAtOnce", name := "lowest", desc := "(JJZ)I" } : Jvm.MethodName)) ∈ lw_all := lw_g (lw_at lw_m4 217 rfl) rfl
theorem q1050 : (Jvm.Cond.static ({ cls := "NotAtOnce", name := "lowest", desc := "(JJZ)I" } : Jvm.MethodName)) ∈ lw_all := lw_g (lw_at lw_m4 218 rfl) rfl
theorem q1051 : (Jvm.Cond.code ({ cls := "NotAtOnce", name := "lowest", desc := "(JJZ)I" } : Jvm.MethodName) prog_1_method_17_code (7 : Nat) (Option.some Jvm.ClassFile.FieldType.int)) ∈ lw_all := lw_g (lw_at lw_m4 219 rfl) rfl
theorem q1052 : (Jvm.Cond.methodLink "NotAtOnce" (106 : Nat) ({ cls := "NotAtOnce", name := "diviso\x72", desc := "(JJ)J" } : Jvm.MethodName)) ∈ lw_all := lw_g (lw_at lw_m4 220 rfl) rfl
theorem q1053 : (Jvm.Cond.static ({ cls := "NotAtOnce", name := "diviso\x72", desc := "(JJ)J" } : Jvm.MethodName)) ∈ lw_all := lw_g (lw_at lw_m4 221 rfl) rfl
theorem q1054 : (Jvm.Cond.code ({ cls := "NotAtOnce", name := "diviso\x72", desc := "(JJ)J" } : Jvm.MethodName) prog_1_method_5_code (10 : Nat) (Option.some Jvm.ClassFile.FieldType.long)) ∈ lw_all := lw_g (lw_at lw_m4 222 rfl) rfl
theorem q1056 : (Jvm.Cond.instanceMethod ({ cls := "NotAtOnce", name := "togethe\x72", desc := "(IIIIZZ)I" } : Jvm.MethodName)) ∈ lw_all := lw_g (lw_at lw_m4 224 rfl) rfl
theorem q1057 : (Jvm.Cond.selects "NotAtOnce" ({ cls := "NotAtOnce", name := "togethe\x72", desc := "(IIIIZZ)I" } : Jvm.MethodName) ({ cls := "NotAtOnce", name := "togethe\x72", desc := "(IIIIZZ)I" } : Jvm.MethodName)) ∈ lw_all := lw_g (lw_at lw_m4 225 rfl) rfl
theorem q1058 : (Jvm.Cond.code ({ cls := "NotAtOnce", name := "togethe\x72", desc := "(IIIIZZ)I" } : Jvm.MethodName) prog_1_method_21_code (9 : Nat) (Option.some Jvm.ClassFile.FieldType.int)) ∈ lw_all := lw_g (lw_at lw_m4 226 rfl) rfl
theorem q1059 : (Jvm.Cond.methodLink "NotAtOnce" (136 : Nat) ({ cls := "NotAtOnce", name := "isLook", desc := "(I)Z" } : Jvm.MethodName)) ∈ lw_all := lw_g (lw_at lw_m4 227 rfl) rfl
theorem q1060 : (Jvm.Cond.privateMethod ({ cls := "NotAtOnce", name := "isLook", desc := "(I)Z" } : Jvm.MethodName)) ∈ lw_tbl := lw_at lw_m4 228 rfl
theorem q1061 : (Jvm.Cond.instanceMethod ({ cls := "NotAtOnce", name := "isLook", desc := "(I)Z" } : Jvm.MethodName)) ∈ lw_all := lw_g (lw_at lw_m4 229 rfl) rfl
theorem q1062 : (Jvm.Cond.code ({ cls := "NotAtOnce", name := "isLook", desc := "(I)Z" } : Jvm.MethodName) prog_1_method_14_code (2 : Nat) (Option.some Jvm.ClassFile.FieldType.boolean)) ∈ lw_all := lw_g (lw_at lw_m4 230 rfl) rfl
theorem q1063 : (Jvm.Cond.constantLong "NotAtOnce" (140 : Nat) (-1 : Int64)) ∈ lw_all := lw_g (lw_at lw_m4 231 rfl) rfl
theorem q1064 : (Jvm.Cond.methodLink "NotAtOnce" (142 : Nat) ({ cls := "NotAtOnce$Program", name := "wants", desc := "(IJ)V" } : Jvm.MethodName)) ∈ lw_all := lw_g (lw_at lw_m4 232 rfl) rfl
theorem q1069 : (Jvm.Cond.instanceMethod ({ cls := "NotAtOnce", name := "extend", desc := "(II)I" } : Jvm.MethodName)) ∈ lw_all := lw_g (lw_at lw_m4 237 rfl) rfl
theorem q1070 : (Jvm.Cond.selects "NotAtOnce" ({ cls := "NotAtOnce", name := "extend", desc := "(II)I" } : Jvm.MethodName) ({ cls := "NotAtOnce", name := "extend", desc := "(II)I" } : Jvm.MethodName)) ∈ lw_all := lw_g (lw_at lw_m4 238 rfl) rfl
theorem q1071 : (Jvm.Cond.code ({ cls := "NotAtOnce", name := "extend", desc := "(II)I" } : Jvm.MethodName) prog_1_method_23_code (3 : Nat) (Option.some Jvm.ClassFile.FieldType.int)) ∈ lw_all := lw_g (lw_at lw_m4 239 rfl) rfl
theorem q1072 : (Jvm.Cond.methodLink "NotAtOnce" (149 : Nat) ({ cls := "NotAtOnce", name := "isOutcome", desc := "(II)Z" } : Jvm.MethodName)) ∈ lw_all := lw_g (lw_at lw_m5 0 rfl) rfl
theorem q1073 : (Jvm.Cond.privateMethod ({ cls := "NotAtOnce", name := "isOutcome", desc := "(II)Z" } : Jvm.MethodName)) ∈ lw_tbl := lw_at lw_m5 1 rfl
theorem q1074 : (Jvm.Cond.instanceMethod ({ cls := "NotAtOnce", name := "isOutcome", desc := "(II)Z" } : Jvm.MethodName)) ∈ lw_all := lw_g (lw_at lw_m5 2 rfl) rfl
theorem q1075 : (Jvm.Cond.code ({ cls := "NotAtOnce", name := "isOutcome", desc := "(II)Z" } : Jvm.MethodName) prog_1_method_16_code (3 : Nat) (Option.some Jvm.ClassFile.FieldType.boolean)) ∈ lw_all := lw_g (lw_at lw_m5 3 rfl) rfl
theorem q1076 : (Jvm.Cond.methodLink "NotAtOnce" (102 : Nat) ({ cls := "NotAtOnce$Table", name := "isOutcome", desc := "(II)Z" } : Jvm.MethodName)) ∈ lw_all := lw_g (lw_at lw_m5 4 rfl) rfl
theorem q1084 : (Jvm.Cond.methodLink "NotAtOnce" (150 : Nat) ({ cls := "NotAtOnce", name := "extended", desc := "(II)Z" } : Jvm.MethodName)) ∈ lw_all := lw_g (lw_at lw_m5 12 rfl) rfl
theorem q1085 : (Jvm.Cond.privateMethod ({ cls := "NotAtOnce", name := "extended", desc := "(II)Z" } : Jvm.MethodName)) ∈ lw_tbl := lw_at lw_m5 13 rfl
theorem q1086 : (Jvm.Cond.instanceMethod ({ cls := "NotAtOnce", name := "extended", desc := "(II)Z" } : Jvm.MethodName)) ∈ lw_all := lw_g (lw_at lw_m5 14 rfl) rfl
theorem q1087 : (Jvm.Cond.code ({ cls := "NotAtOnce", name := "extended", desc := "(II)Z" } : Jvm.MethodName) prog_1_method_22_code (3 : Nat) (Option.some Jvm.ClassFile.FieldType.boolean)) ∈ lw_all := lw_g (lw_at lw_m5 15 rfl) rfl
theorem q1088 : (Jvm.Cond.methodLink "NotAtOnce" (146 : Nat) ({ cls := "NotAtOnce$Table", name := "extend", desc := "(III)Z" } : Jvm.MethodName)) ∈ lw_all := lw_g (lw_at lw_m5 16 rfl) rfl
theorem q1104 : (Jvm.Cond.instanceMethod ({ cls := "NotAtOnce", name := "level", desc := "()I" } : Jvm.MethodName)) ∈ lw_all := lw_g (lw_at lw_m5 32 rfl) rfl
theorem q1105 : (Jvm.Cond.selects "NotAtOnce" ({ cls := "NotAtOnce", name := "level", desc := "()I" } : Jvm.MethodName) ({ cls := "NotAtOnce", name := "level", desc := "()I" } : Jvm.MethodName)) ∈ lw_all := lw_g (lw_at lw_m5 33 rfl) rfl
theorem q1106 : (Jvm.Cond.code ({ cls := "NotAtOnce", name := "level", desc := "()I" } : Jvm.MethodName) prog_1_method_25_code (1 : Nat) (Option.some Jvm.ClassFile.FieldType.int)) ∈ lw_all := lw_g (lw_at lw_m5 34 rfl) rfl
theorem q1107 : (Jvm.Cond.methodLink "NotAtOnce" (165 : Nat) ({ cls := "NotAtOnce", name := "isMixed", desc := "()Z" } : Jvm.MethodName)) ∈ lw_all := lw_g (lw_at lw_m5 35 rfl) rfl
theorem q1108 : (Jvm.Cond.privateMethod ({ cls := "NotAtOnce", name := "isMixed", desc := "()Z" } : Jvm.MethodName)) ∈ lw_tbl := lw_at lw_m5 36 rfl
theorem q1109 : (Jvm.Cond.instanceMethod ({ cls := "NotAtOnce", name := "isMixed", desc := "()Z" } : Jvm.MethodName)) ∈ lw_all := lw_g (lw_at lw_m5 37 rfl) rfl
theorem q1110 : (Jvm.Cond.code ({ cls := "NotAtOnce", name := "isMixed", desc := "()Z" } : Jvm.MethodName) prog_1_method_19_code (1 : Nat) (Option.some Jvm.ClassFile.FieldType.boolean)) ∈ lw_all := lw_g (lw_at lw_m5 38 rfl) rfl
theorem q1111 : (Jvm.Cond.methodLink "NotAtOnce" (169 : Nat) ({ cls := "NotAtOnce", name := "possible", desc := "(Z)I" } : Jvm.MethodName)) ∈ lw_all := lw_g (lw_at lw_m5 39 rfl) rfl
theorem q1112 : (Jvm.Cond.privateMethod ({ cls := "NotAtOnce", name := "possible", desc := "(Z)I" } : Jvm.MethodName)) ∈ lw_tbl := lw_at lw_m5 40 rfl
theorem q1113 : (Jvm.Cond.instanceMethod ({ cls := "NotAtOnce", name := "possible", desc := "(Z)I" } : Jvm.MethodName)) ∈ lw_all := lw_g (lw_at lw_m5 41 rfl) rfl
theorem q1114 : (Jvm.Cond.code ({ cls := "NotAtOnce", name := "possible", desc := "(Z)I" } : Jvm.MethodName) prog_1_method_24_code (5 : Nat) (Option.some Jvm.ClassFile.FieldType.int)) ∈ lw_all := lw_g (lw_at lw_m5 42 rfl) rfl
theorem q1115 : (Jvm.Cond.methodLink "NotAtOnce" (98 : Nat) ({ cls := "NotAtOnce$Table", name := "size", desc := "()I" } : Jvm.MethodName)) ∈ lw_all := lw_g (lw_at lw_m5 43 rfl) rfl
theorem q1116 : (Jvm.Cond.methodLink "NotAtOnce" (153 : Nat) ({ cls := "NotAtOnce$Table", name := "set", desc := "(I)LNotAtOnce$Asked;" } : Jvm.MethodName)) ∈ lw_all := lw_g (lw_at lw_m5 44 rfl) rfl
theorem q1117 : (Jvm.Cond.methodLink "NotAtOnce" (157 : Nat) ({ cls := "NotAtOnce$Asked", name := "outcomes", desc := "()I" } : Jvm.MethodName)) ∈ lw_all := lw_g (lw_at lw_m5 45 rfl) rfl
theorem q1118 : (Jvm.Cond.methodLink "NotAtOnce" (162 : Nat) ({ cls := "NotAtOnce$Asked", name := "isPossible", desc := "(I)Z" } : Jvm.MethodName)) ∈ lw_all := lw_g (lw_at lw_m5 46 rfl) rfl
theorem q1120 : (Jvm.Cond.instanceMethod ({ cls := "NotAtOnce", name := "hidden", desc := "()I" } : Jvm.MethodName)) ∈ lw_all := lw_g (lw_at lw_m5 48 rfl) rfl
theorem q1121 : (Jvm.Cond.selects "NotAtOnce" ({ cls := "NotAtOnce", name := "hidden", desc := "()I" } : Jvm.MethodName) ({ cls := "NotAtOnce", name := "hidden", desc := "()I" } : Jvm.MethodName)) ∈ lw_all := lw_g (lw_at lw_m5 49 rfl) rfl
theorem q1122 : (Jvm.Cond.code ({ cls := "NotAtOnce", name := "hidden", desc := "()I" } : Jvm.MethodName) prog_1_method_26_code (3 : Nat) (Option.some Jvm.ClassFile.FieldType.int)) ∈ lw_all := lw_g (lw_at lw_m5 50 rfl) rfl
theorem q1123 : (Jvm.Cond.methodLink "NotAtOnce" (173 : Nat) ({ cls := "NotAtOnce$Table", name := "fits", desc := "(II)Z" } : Jvm.MethodName)) ∈ lw_all := lw_g (lw_at lw_m5 51 rfl) rfl
theorem q1125 : (Jvm.Cond.instanceMethod ({ cls := "NotAtOnce", name := "answe\x72", desc := "(I)I" } : Jvm.MethodName)) ∈ lw_all := lw_g (lw_at lw_m5 53 rfl) rfl
theorem q1126 : (Jvm.Cond.selects "NotAtOnce" ({ cls := "NotAtOnce", name := "answe\x72", desc := "(I)I" } : Jvm.MethodName) ({ cls := "NotAtOnce", name := "answe\x72", desc := "(I)I" } : Jvm.MethodName)) ∈ lw_all := lw_g (lw_at lw_m5 54 rfl) rfl
theorem q1127 : (Jvm.Cond.code ({ cls := "NotAtOnce", name := "answe\x72", desc := "(I)I" } : Jvm.MethodName) prog_1_method_27_code (4 : Nat) (Option.some Jvm.ClassFile.FieldType.int)) ∈ lw_all := lw_g (lw_at lw_m5 55 rfl) rfl
theorem q1129 : (Jvm.Cond.instanceMethod ({ cls := "NotAtOnce", name := "disturbed", desc := "()I" } : Jvm.MethodName)) ∈ lw_all := lw_g (lw_at lw_m5 57 rfl) rfl
theorem q1130 : (Jvm.Cond.selects "NotAtOnce" ({ cls := "NotAtOnce", name := "disturbed", desc := "()I" } : Jvm.MethodName) ({ cls := "NotAtOnce", name := "disturbed", desc := "()I" } : Jvm.MethodName)) ∈ lw_all := lw_g (lw_at lw_m5 58 rfl) rfl
theorem q1131 : (Jvm.Cond.code ({ cls := "NotAtOnce", name := "disturbed", desc := "()I" } : Jvm.MethodName) prog_1_method_28_code (1 : Nat) (Option.some Jvm.ClassFile.FieldType.int)) ∈ lw_all := lw_g (lw_at lw_m5 59 rfl) rfl
theorem q1132 : (Jvm.Cond.methodLink "NotAtOnce" (176 : Nat) ({ cls := "NotAtOnce$Table", name := "disturbed", desc := "(I)I" } : Jvm.MethodName)) ∈ lw_all := lw_g (lw_at lw_m5 60 rfl) rfl
theorem q1170 : (Jvm.Cond.instanceMethod ({ cls := "NotAtOnce", name := "same", desc := "(I)I" } : Jvm.MethodName)) ∈ lw_all := lw_g (lw_at lw_m5 98 rfl) rfl
theorem q1171 : (Jvm.Cond.selects "NotAtOnce" ({ cls := "NotAtOnce", name := "same", desc := "(I)I" } : Jvm.MethodName) ({ cls := "NotAtOnce", name := "same", desc := "(I)I" } : Jvm.MethodName)) ∈ lw_all := lw_g (lw_at lw_m5 99 rfl) rfl
theorem q1172 : (Jvm.Cond.code ({ cls := "NotAtOnce", name := "same", desc := "(I)I" } : Jvm.MethodName) prog_1_method_29_code (2 : Nat) (Option.some Jvm.ClassFile.FieldType.int)) ∈ lw_all := lw_g (lw_at lw_m5 100 rfl) rfl
theorem q1173 : (Jvm.Cond.methodLink "NotAtOnce" (179 : Nat) ({ cls := "NotAtOnce", name := "isSet", desc := "(I)Z" } : Jvm.MethodName)) ∈ lw_all := lw_g (lw_at lw_m5 101 rfl) rfl
theorem q1174 : (Jvm.Cond.privateMethod ({ cls := "NotAtOnce", name := "isSet", desc := "(I)Z" } : Jvm.MethodName)) ∈ lw_tbl := lw_at lw_m5 102 rfl
theorem q1175 : (Jvm.Cond.instanceMethod ({ cls := "NotAtOnce", name := "isSet", desc := "(I)Z" } : Jvm.MethodName)) ∈ lw_all := lw_g (lw_at lw_m5 103 rfl) rfl
theorem q1176 : (Jvm.Cond.code ({ cls := "NotAtOnce", name := "isSet", desc := "(I)Z" } : Jvm.MethodName) prog_1_method_15_code (2 : Nat) (Option.some Jvm.ClassFile.FieldType.boolean)) ∈ lw_all := lw_g (lw_at lw_m5 104 rfl) rfl
theorem q1177 : (Jvm.Cond.methodLink "NotAtOnce" (182 : Nat) ({ cls := "NotAtOnce$Asked", name := "same", desc := "()I" } : Jvm.MethodName)) ∈ lw_all := lw_g (lw_at lw_m5 105 rfl) rfl
theorem q1186 : (Jvm.Cond.instanceMethod ({ cls := "NotAtOnce", name := "cycles", desc := "()I" } : Jvm.MethodName)) ∈ lw_all := lw_g (lw_at lw_m5 114 rfl) rfl
theorem q1187 : (Jvm.Cond.selects "NotAtOnce" ({ cls := "NotAtOnce", name := "cycles", desc := "()I" } : Jvm.MethodName) ({ cls := "NotAtOnce", name := "cycles", desc := "()I" } : Jvm.MethodName)) ∈ lw_all := lw_g (lw_at lw_m5 115 rfl) rfl
theorem q1188 : (Jvm.Cond.code ({ cls := "NotAtOnce", name := "cycles", desc := "()I" } : Jvm.MethodName) prog_1_method_30_code (3 : Nat) (Option.some Jvm.ClassFile.FieldType.int)) ∈ lw_all := lw_g (lw_at lw_m5 116 rfl) rfl
theorem q1189 : (Jvm.Cond.methodLink "NotAtOnce" (185 : Nat) ({ cls := "NotAtOnce$Table", name := "isCycle", desc := "(I)Z" } : Jvm.MethodName)) ∈ lw_all := lw_g (lw_at lw_m5 117 rfl) rfl
theorem q1194 : (Jvm.Cond.static ({ cls := "NotAtOnce", name := "bits", desc := "(I)I" } : Jvm.MethodName)) ∈ lw_all := lw_g (lw_at lw_m5 122 rfl) rfl
theorem q1195 : (Jvm.Cond.code ({ cls := "NotAtOnce", name := "bits", desc := "(I)I" } : Jvm.MethodName) prog_1_method_4_code (3 : Nat) (Option.some Jvm.ClassFile.FieldType.int)) ∈ lw_all := lw_g (lw_at lw_m5 123 rfl) rfl
theorem q1210 : (Jvm.Cond.instanceMethod ({ cls := "NotAtOnce", name := "cycle", desc := "(I)I" } : Jvm.MethodName)) ∈ lw_all := lw_g (lw_at lw_m5 138 rfl) rfl
theorem q1211 : (Jvm.Cond.selects "NotAtOnce" ({ cls := "NotAtOnce", name := "cycle", desc := "(I)I" } : Jvm.MethodName) ({ cls := "NotAtOnce", name := "cycle", desc := "(I)I" } : Jvm.MethodName)) ∈ lw_all := lw_g (lw_at lw_m5 139 rfl) rfl
theorem q1212 : (Jvm.Cond.code ({ cls := "NotAtOnce", name := "cycle", desc := "(I)I" } : Jvm.MethodName) prog_1_method_31_code (4 : Nat) (Option.some Jvm.ClassFile.FieldType.int)) ∈ lw_all := lw_g (lw_at lw_m5 140 rfl) rfl
theorem q1214 : (Jvm.Cond.instanceMethod ({ cls := "NotAtOnce", name := "excess", desc := "(I)I" } : Jvm.MethodName)) ∈ lw_all := lw_g (lw_at lw_m5 142 rfl) rfl
theorem q1215 : (Jvm.Cond.selects "NotAtOnce" ({ cls := "NotAtOnce", name := "excess", desc := "(I)I" } : Jvm.MethodName) ({ cls := "NotAtOnce", name := "excess", desc := "(I)I" } : Jvm.MethodName)) ∈ lw_all := lw_g (lw_at lw_m5 143 rfl) rfl
theorem q1216 : (Jvm.Cond.code ({ cls := "NotAtOnce", name := "excess", desc := "(I)I" } : Jvm.MethodName) prog_1_method_32_code (3 : Nat) (Option.some Jvm.ClassFile.FieldType.int)) ∈ lw_all := lw_g (lw_at lw_m5 144 rfl) rfl
theorem q1217 : (Jvm.Cond.methodLink "NotAtOnce" (188 : Nat) ({ cls := "NotAtOnce$Table", name := "excess", desc := "(II)I" } : Jvm.MethodName)) ∈ lw_all := lw_g (lw_at lw_m5 145 rfl) rfl
theorem q1228 : (Jvm.Cond.instanceMethod ({ cls := "NotAtOnce", name := "widest", desc := "()I" } : Jvm.MethodName)) ∈ lw_all := lw_g (lw_at lw_m5 156 rfl) rfl
theorem q1229 : (Jvm.Cond.selects "NotAtOnce" ({ cls := "NotAtOnce", name := "widest", desc := "()I" } : Jvm.MethodName) ({ cls := "NotAtOnce", name := "widest", desc := "()I" } : Jvm.MethodName)) ∈ lw_all := lw_g (lw_at lw_m5 157 rfl) rfl
theorem q1230 : (Jvm.Cond.code ({ cls := "NotAtOnce", name := "widest", desc := "()I" } : Jvm.MethodName) prog_1_method_33_code (3 : Nat) (Option.some Jvm.ClassFile.FieldType.int)) ∈ lw_all := lw_g (lw_at lw_m5 158 rfl) rfl
theorem q1232 : (Jvm.Cond.instanceMethod ({ cls := "NotAtOnce", name := "stake", desc := "(III)Z" } : Jvm.MethodName)) ∈ lw_all := lw_g (lw_at lw_m5 160 rfl) rfl
theorem q1233 : (Jvm.Cond.selects "NotAtOnce" ({ cls := "NotAtOnce", name := "stake", desc := "(III)Z" } : Jvm.MethodName) ({ cls := "NotAtOnce", name := "stake", desc := "(III)Z" } : Jvm.MethodName)) ∈ lw_all := lw_g (lw_at lw_m5 161 rfl) rfl
theorem q1234 : (Jvm.Cond.code ({ cls := "NotAtOnce", name := "stake", desc := "(III)Z" } : Jvm.MethodName) prog_1_method_34_code (4 : Nat) (Option.some Jvm.ClassFile.FieldType.boolean)) ∈ lw_all := lw_g (lw_at lw_m5 162 rfl) rfl
theorem q1235 : (Jvm.Cond.methodLink "NotAtOnce" (192 : Nat) ({ cls := "NotAtOnce", name := "denied", desc := "(I)Z" } : Jvm.MethodName)) ∈ lw_all := lw_g (lw_at lw_m5 163 rfl) rfl
theorem q1236 : (Jvm.Cond.privateMethod ({ cls := "NotAtOnce", name := "denied", desc := "(I)Z" } : Jvm.MethodName)) ∈ lw_tbl := lw_at lw_m5 164 rfl
theorem q1237 : (Jvm.Cond.instanceMethod ({ cls := "NotAtOnce", name := "denied", desc := "(I)Z" } : Jvm.MethodName)) ∈ lw_all := lw_g (lw_at lw_m5 165 rfl) rfl
theorem q1238 : (Jvm.Cond.code ({ cls := "NotAtOnce", name := "denied", desc := "(I)Z" } : Jvm.MethodName) prog_1_method_7_code (2 : Nat) (Option.some Jvm.ClassFile.FieldType.boolean)) ∈ lw_all := lw_g (lw_at lw_m5 166 rfl) rfl
theorem q1239 : (Jvm.Cond.methodLink "NotAtOnce" (199 : Nat) ({ cls := "NotAtOnce", name := "granted", desc := "()Z" } : Jvm.MethodName)) ∈ lw_all := lw_g (lw_at lw_m5 167 rfl) rfl
theorem q1240 : (Jvm.Cond.privateMethod ({ cls := "NotAtOnce", name := "granted", desc := "()Z" } : Jvm.MethodName)) ∈ lw_tbl := lw_at lw_m5 168 rfl
theorem q1241 : (Jvm.Cond.instanceMethod ({ cls := "NotAtOnce", name := "granted", desc := "()Z" } : Jvm.MethodName)) ∈ lw_all := lw_g (lw_at lw_m5 169 rfl) rfl
theorem q1242 : (Jvm.Cond.code ({ cls := "NotAtOnce", name := "granted", desc := "()Z" } : Jvm.MethodName) prog_1_method_9_code (1 : Nat) (Option.some Jvm.ClassFile.FieldType.boolean)) ∈ lw_all := lw_g (lw_at lw_m5 170 rfl) rfl
theorem q1244 : (Jvm.Cond.instanceMethod ({ cls := "NotAtOnce", name := "wins", desc := "()I" } : Jvm.MethodName)) ∈ lw_all := lw_g (lw_at lw_m5 172 rfl) rfl
theorem q1245 : (Jvm.Cond.selects "NotAtOnce" ({ cls := "NotAtOnce", name := "wins", desc := "()I" } : Jvm.MethodName) ({ cls := "NotAtOnce", name := "wins", desc := "()I" } : Jvm.MethodName)) ∈ lw_all := lw_g (lw_at lw_m5 173 rfl) rfl
theorem q1246 : (Jvm.Cond.code ({ cls := "NotAtOnce", name := "wins", desc := "()I" } : Jvm.MethodName) prog_1_method_35_code (1 : Nat) (Option.some Jvm.ClassFile.FieldType.int)) ∈ lw_all := lw_g (lw_at lw_m5 174 rfl) rfl
theorem q1247 : (Jvm.Cond.methodLink "NotAtOnce" (202 : Nat) ({ cls := "NotAtOnce$Table", name := "wins", desc := "()I" } : Jvm.MethodName)) ∈ lw_all := lw_g (lw_at lw_m5 175 rfl) rfl
theorem q1252 : (Jvm.Cond.instanceMethod ({ cls := "NotAtOnce", name := "worst", desc := "()I" } : Jvm.MethodName)) ∈ lw_all := lw_g (lw_at lw_m5 180 rfl) rfl
theorem q1253 : (Jvm.Cond.selects "NotAtOnce" ({ cls := "NotAtOnce", name := "worst", desc := "()I" } : Jvm.MethodName) ({ cls := "NotAtOnce", name := "worst", desc := "()I" } : Jvm.MethodName)) ∈ lw_all := lw_g (lw_at lw_m5 181 rfl) rfl
theorem q1254 : (Jvm.Cond.code ({ cls := "NotAtOnce", name := "worst", desc := "()I" } : Jvm.MethodName) prog_1_method_37_code (1 : Nat) (Option.some Jvm.ClassFile.FieldType.int)) ∈ lw_all := lw_g (lw_at lw_m5 182 rfl) rfl
theorem q1255 : (Jvm.Cond.methodLink "NotAtOnce" (208 : Nat) ({ cls := "NotAtOnce", name := "leastPays", desc := "()I" } : Jvm.MethodName)) ∈ lw_all := lw_g (lw_at lw_m5 183 rfl) rfl
theorem q1256 : (Jvm.Cond.privateMethod ({ cls := "NotAtOnce", name := "leastPays", desc := "()I" } : Jvm.MethodName)) ∈ lw_tbl := lw_at lw_m5 184 rfl
theorem q1257 : (Jvm.Cond.instanceMethod ({ cls := "NotAtOnce", name := "leastPays", desc := "()I" } : Jvm.MethodName)) ∈ lw_all := lw_g (lw_at lw_m5 185 rfl) rfl
theorem q1258 : (Jvm.Cond.code ({ cls := "NotAtOnce", name := "leastPays", desc := "()I" } : Jvm.MethodName) prog_1_method_36_code (3 : Nat) (Option.some Jvm.ClassFile.FieldType.int)) ∈ lw_all := lw_g (lw_at lw_m5 186 rfl) rfl
theorem q1259 : (Jvm.Cond.methodLink "NotAtOnce" (205 : Nat) ({ cls := "NotAtOnce$Table", name := "pays", desc := "(I)I" } : Jvm.MethodName)) ∈ lw_all := lw_g (lw_at lw_m5 187 rfl) rfl
theorem q1264 : (Jvm.Cond.instanceMethod ({ cls := "NotAtOnce", name := "worstAt", desc := "()I" } : Jvm.MethodName)) ∈ lw_all := lw_g (lw_at lw_m5 192 rfl) rfl
theorem q1265 : (Jvm.Cond.selects "NotAtOnce" ({ cls := "NotAtOnce", name := "worstAt", desc := "()I" } : Jvm.MethodName) ({ cls := "NotAtOnce", name := "worstAt", desc := "()I" } : Jvm.MethodName)) ∈ lw_all := lw_g (lw_at lw_m5 193 rfl) rfl
theorem q1266 : (Jvm.Cond.code ({ cls := "NotAtOnce", name := "worstAt", desc := "()I" } : Jvm.MethodName) prog_1_method_38_code (1 : Nat) (Option.some Jvm.ClassFile.FieldType.int)) ∈ lw_all := lw_g (lw_at lw_m5 194 rfl) rfl
theorem q1268 : (Jvm.Cond.instanceMethod ({ cls := "NotAtOnce", name := "bars", desc := "()I" } : Jvm.MethodName)) ∈ lw_all := lw_g (lw_at lw_m5 196 rfl) rfl
theorem q1269 : (Jvm.Cond.selects "NotAtOnce" ({ cls := "NotAtOnce", name := "bars", desc := "()I" } : Jvm.MethodName) ({ cls := "NotAtOnce", name := "bars", desc := "()I" } : Jvm.MethodName)) ∈ lw_all := lw_g (lw_at lw_m5 197 rfl) rfl
theorem q1270 : (Jvm.Cond.code ({ cls := "NotAtOnce", name := "bars", desc := "()I" } : Jvm.MethodName) prog_1_method_39_code (1 : Nat) (Option.some Jvm.ClassFile.FieldType.int)) ∈ lw_all := lw_g (lw_at lw_m5 198 rfl) rfl
theorem q1272 : (Jvm.Cond.instanceMethod ({ cls := "NotAtOnce", name := "fai\x72", desc := "(Z)I" } : Jvm.MethodName)) ∈ lw_all := lw_g (lw_at lw_m5 200 rfl) rfl
theorem q1273 : (Jvm.Cond.selects "NotAtOnce" ({ cls := "NotAtOnce", name := "fai\x72", desc := "(Z)I" } : Jvm.MethodName) ({ cls := "NotAtOnce", name := "fai\x72", desc := "(Z)I" } : Jvm.MethodName)) ∈ lw_all := lw_g (lw_at lw_m5 201 rfl) rfl
theorem q1274 : (Jvm.Cond.code ({ cls := "NotAtOnce", name := "fai\x72", desc := "(Z)I" } : Jvm.MethodName) prog_1_method_40_code (3 : Nat) (Option.some Jvm.ClassFile.FieldType.int)) ∈ lw_all := lw_g (lw_at lw_m5 202 rfl) rfl
theorem q1276 : (Jvm.Cond.instanceMethod ({ cls := "NotAtOnce", name := "ways", desc := "()I" } : Jvm.MethodName)) ∈ lw_all := lw_g (lw_at lw_m5 204 rfl) rfl
theorem q1277 : (Jvm.Cond.selects "NotAtOnce" ({ cls := "NotAtOnce", name := "ways", desc := "()I" } : Jvm.MethodName) ({ cls := "NotAtOnce", name := "ways", desc := "()I" } : Jvm.MethodName)) ∈ lw_all := lw_g (lw_at lw_m5 205 rfl) rfl
theorem q1278 : (Jvm.Cond.code ({ cls := "NotAtOnce", name := "ways", desc := "()I" } : Jvm.MethodName) prog_1_method_42_code (3 : Nat) (Option.some Jvm.ClassFile.FieldType.int)) ∈ lw_all := lw_g (lw_at lw_m5 206 rfl) rfl
theorem q1279 : (Jvm.Cond.methodLink "NotAtOnce" (218 : Nat) ({ cls := "NotAtOnce", name := "allLines", desc := "()I" } : Jvm.MethodName)) ∈ lw_all := lw_g (lw_at lw_m5 207 rfl) rfl
theorem q1280 : (Jvm.Cond.privateMethod ({ cls := "NotAtOnce", name := "allLines", desc := "()I" } : Jvm.MethodName)) ∈ lw_tbl := lw_at lw_m5 208 rfl
theorem q1281 : (Jvm.Cond.instanceMethod ({ cls := "NotAtOnce", name := "allLines", desc := "()I" } : Jvm.MethodName)) ∈ lw_all := lw_g (lw_at lw_m5 209 rfl) rfl
theorem q1282 : (Jvm.Cond.code ({ cls := "NotAtOnce", name := "allLines", desc := "()I" } : Jvm.MethodName) prog_1_method_41_code (1 : Nat) (Option.some Jvm.ClassFile.FieldType.int)) ∈ lw_all := lw_g (lw_at lw_m5 210 rfl) rfl
theorem q1283 : (Jvm.Cond.methodLink "NotAtOnce" (214 : Nat) ({ cls := "java/util/ArrayList", name := "size", desc := "()I" } : Jvm.MethodName)) ∈ lw_all := lw_g (lw_at lw_m5 211 rfl) rfl
theorem q1284 : (Jvm.Cond.methodLink "NotAtOnce" (221 : Nat) ({ cls := "NotAtOnce$Book", name := "can", desc := "(II)Z" } : Jvm.MethodName)) ∈ lw_all := lw_g (lw_at lw_m5 212 rfl) rfl
theorem q1298 : (Jvm.Cond.instanceMethod ({ cls := "NotAtOnce", name := "forced", desc := "(I)I" } : Jvm.MethodName)) ∈ lw_all := lw_g (lw_at lw_m5 226 rfl) rfl
theorem q1299 : (Jvm.Cond.selects "NotAtOnce" ({ cls := "NotAtOnce", name := "forced", desc := "(I)I" } : Jvm.MethodName) ({ cls := "NotAtOnce", name := "forced", desc := "(I)I" } : Jvm.MethodName)) ∈ lw_all := lw_g (lw_at lw_m5 227 rfl) rfl
theorem q1300 : (Jvm.Cond.code ({ cls := "NotAtOnce", name := "forced", desc := "(I)I" } : Jvm.MethodName) prog_1_method_43_code (5 : Nat) (Option.some Jvm.ClassFile.FieldType.int)) ∈ lw_all := lw_g (lw_at lw_m5 228 rfl) rfl
theorem q1301 : (Jvm.Cond.methodLink "NotAtOnce" (224 : Nat) ({ cls := "NotAtOnce", name := "has", desc := "(II)Z" } : Jvm.MethodName)) ∈ lw_all := lw_g (lw_at lw_m5 229 rfl) rfl
theorem q1303 : (Jvm.Cond.instanceMethod ({ cls := "NotAtOnce", name := "core", desc := "()I" } : Jvm.MethodName)) ∈ lw_all := lw_g (lw_at lw_m5 231 rfl) rfl
theorem q1304 : (Jvm.Cond.selects "NotAtOnce" ({ cls := "NotAtOnce", name := "core", desc := "()I" } : Jvm.MethodName) ({ cls := "NotAtOnce", name := "core", desc := "()I" } : Jvm.MethodName)) ∈ lw_all := lw_g (lw_at lw_m5 232 rfl) rfl
theorem q1305 : (Jvm.Cond.code ({ cls := "NotAtOnce", name := "core", desc := "()I" } : Jvm.MethodName) prog_1_method_44_code (3 : Nat) (Option.some Jvm.ClassFile.FieldType.int)) ∈ lw_all := lw_g (lw_at lw_m5 233 rfl) rfl
theorem q1306 : (Jvm.Cond.methodLink "NotAtOnce" (227 : Nat) ({ cls := "NotAtOnce", name := "bits", desc := "(I)I" } : Jvm.MethodName)) ∈ lw_all := lw_g (lw_at lw_m5 234 rfl) rfl
theorem q1307 : (Jvm.Cond.methodLink "NotAtOnce" (230 : Nat) ({ cls := "NotAtOnce$Book", name := "can", desc := "(I)Z" } : Jvm.MethodName)) ∈ lw_all := lw_g (lw_at lw_m5 235 rfl) rfl
theorem q1313 : (Jvm.Cond.instanceMethod ({ cls := "NotAtOnce", name := "can", desc := "(I)I" } : Jvm.MethodName)) ∈ lw_all := lw_g (lw_at lw_m6 1 rfl) rfl
theorem q1314 : (Jvm.Cond.selects "NotAtOnce" ({ cls := "NotAtOnce", name := "can", desc := "(I)I" } : Jvm.MethodName) ({ cls := "NotAtOnce", name := "can", desc := "(I)I" } : Jvm.MethodName)) ∈ lw_all := lw_g (lw_at lw_m6 2 rfl) rfl
theorem q1315 : (Jvm.Cond.code ({ cls := "NotAtOnce", name := "can", desc := "(I)I" } : Jvm.MethodName) prog_1_method_45_code (2 : Nat) (Option.some Jvm.ClassFile.FieldType.int)) ∈ lw_all := lw_g (lw_at lw_m6 3 rfl) rfl
theorem q1317 : (Jvm.Cond.instanceMethod ({ cls := "NotAtOnce", name := "game", desc := "()I" } : Jvm.MethodName)) ∈ lw_all := lw_g (lw_at lw_m6 5 rfl) rfl
theorem q1318 : (Jvm.Cond.selects "NotAtOnce" ({ cls := "NotAtOnce", name := "game", desc := "()I" } : Jvm.MethodName) ({ cls := "NotAtOnce", name := "game", desc := "()I" } : Jvm.MethodName)) ∈ lw_all := lw_g (lw_at lw_m6 6 rfl) rfl
theorem q1319 : (Jvm.Cond.code ({ cls := "NotAtOnce", name := "game", desc := "()I" } : Jvm.MethodName) prog_1_method_46_code (5 : Nat) (Option.some Jvm.ClassFile.FieldType.int)) ∈ lw_all := lw_g (lw_at lw_m6 7 rfl) rfl
theorem q1320 : (Jvm.Cond.methodLink "NotAtOnce" (232 : Nat) ({ cls := "java/util/ArrayList", name := "get", desc := "(I)Ljava/lang/Object;" } : Jvm.MethodName)) ∈ lw_all := lw_g (lw_at lw_m6 8 rfl) rfl
theorem q1321 : (Jvm.Cond.classLink "NotAtOnce" (236 : Nat) "NotAtOnce$Line") ∈ lw_all := lw_g (lw_at lw_m6 9 rfl) rfl
theorem q1322 : (Jvm.Cond.methodLink "NotAtOnce" (238 : Nat) ({ cls := "NotAtOnce$Line", name := "isSo", desc := "(I)Z" } : Jvm.MethodName)) ∈ lw_all := lw_g (lw_at lw_m6 10 rfl) rfl
theorem q1323 : (Jvm.Cond.methodLink "NotAtOnce" (241 : Nat) ({ cls := "java/lang/Math", name := "max", desc := "(II)I" } : Jvm.MethodName)) ∈ lw_all := lw_g (lw_at lw_m6 11 rfl) rfl
theorem q1325 : (Jvm.Cond.instanceMethod ({ cls := "NotAtOnce", name := "square", desc := "(II)I" } : Jvm.MethodName)) ∈ lw_all := lw_g (lw_at lw_m6 13 rfl) rfl
theorem q1326 : (Jvm.Cond.selects "NotAtOnce" ({ cls := "NotAtOnce", name := "square", desc := "(II)I" } : Jvm.MethodName) ({ cls := "NotAtOnce", name := "square", desc := "(II)I" } : Jvm.MethodName)) ∈ lw_all := lw_g (lw_at lw_m6 14 rfl) rfl
theorem q1327 : (Jvm.Cond.code ({ cls := "NotAtOnce", name := "square", desc := "(II)I" } : Jvm.MethodName) prog_1_method_48_code (3 : Nat) (Option.some Jvm.ClassFile.FieldType.int)) ∈ lw_all := lw_g (lw_at lw_m6 15 rfl) rfl
theorem q1328 : (Jvm.Cond.methodLink "NotAtOnce" (249 : Nat) ({ cls := "NotAtOnce", name := "isRay", desc := "(I)Z" } : Jvm.MethodName)) ∈ lw_all := lw_g (lw_at lw_m6 16 rfl) rfl
theorem q1329 : (Jvm.Cond.privateMethod ({ cls := "NotAtOnce", name := "isRay", desc := "(I)Z" } : Jvm.MethodName)) ∈ lw_tbl := lw_at lw_m6 17 rfl
theorem q1330 : (Jvm.Cond.instanceMethod ({ cls := "NotAtOnce", name := "isRay", desc := "(I)Z" } : Jvm.MethodName)) ∈ lw_all := lw_g (lw_at lw_m6 18 rfl) rfl
theorem q1331 : (Jvm.Cond.code ({ cls := "NotAtOnce", name := "isRay", desc := "(I)Z" } : Jvm.MethodName) prog_1_method_47_code (2 : Nat) (Option.some Jvm.ClassFile.FieldType.boolean)) ∈ lw_all := lw_g (lw_at lw_m6 19 rfl) rfl
theorem q1332 : (Jvm.Cond.classLink "NotAtOnce" (252 : Nat) "NotAtOnce$Ray") ∈ lw_all := lw_g (lw_at lw_m6 20 rfl) rfl
theorem q1333 : (Jvm.Cond.methodLink "NotAtOnce" (254 : Nat) ({ cls := "NotAtOnce$Ray", name := "isSquare", desc := "(LNotAtOnce$Ray;)Z" } : Jvm.MethodName)) ∈ lw_all := lw_g (lw_at lw_m6 21 rfl) rfl
theorem q1338 : (Jvm.Cond.instanceMethod ({ cls := "NotAtOnce", name := "corners", desc := "()I" } : Jvm.MethodName)) ∈ lw_all := lw_g (lw_at lw_m6 26 rfl) rfl
theorem q1339 : (Jvm.Cond.selects "NotAtOnce" ({ cls := "NotAtOnce", name := "corners", desc := "()I" } : Jvm.MethodName) ({ cls := "NotAtOnce", name := "corners", desc := "()I" } : Jvm.MethodName)) ∈ lw_all := lw_g (lw_at lw_m6 27 rfl) rfl
theorem q1340 : (Jvm.Cond.code ({ cls := "NotAtOnce", name := "corners", desc := "()I" } : Jvm.MethodName) prog_1_method_50_code (1 : Nat) (Option.some Jvm.ClassFile.FieldType.int)) ∈ lw_all := lw_g (lw_at lw_m6 28 rfl) rfl
theorem q1341 : (Jvm.Cond.classLink "NotAtOnce" (258 : Nat) "NotAtOnce$Colouring") ∈ lw_all := lw_g (lw_at lw_m6 29 rfl) rfl
theorem q1343 : (Jvm.Cond.methodLink "NotAtOnce" (260 : Nat) ({ cls := "NotAtOnce$Colouring", name := "<init>", desc := "(LNotAtOnce$Book;I)V" } : Jvm.MethodName)) ∈ lw_all := lw_g (lw_at lw_m6 31 rfl) rfl
theorem q1384 : (Jvm.Cond.fieldLink "NotAtOnce" (274 : Nat) "NotAtOnce$Colouring" "colours" "I") ∈ lw_all := lw_g (lw_at lw_m6 72 rfl) rfl
theorem q1386 : (Jvm.Cond.fieldLink "NotAtOnce" (277 : Nat) "NotAtOnce$Colouring" "ones" "I") ∈ lw_all := lw_g (lw_at lw_m6 74 rfl) rfl
theorem q1400 : (Jvm.Cond.methodLink "NotAtOnce" (267 : Nat) ({ cls := "NotAtOnce$Colouring", name := "corners", desc := "()I" } : Jvm.MethodName)) ∈ lw_all := lw_g (lw_at lw_m6 88 rfl) rfl
theorem q1405 : (Jvm.Cond.instanceMethod ({ cls := "NotAtOnce", name := "colours", desc := "()I" } : Jvm.MethodName)) ∈ lw_all := lw_g (lw_at lw_m6 93 rfl) rfl
theorem q1406 : (Jvm.Cond.selects "NotAtOnce" ({ cls := "NotAtOnce", name := "colours", desc := "()I" } : Jvm.MethodName) ({ cls := "NotAtOnce", name := "colours", desc := "()I" } : Jvm.MethodName)) ∈ lw_all := lw_g (lw_at lw_m6 94 rfl) rfl
theorem q1407 : (Jvm.Cond.code ({ cls := "NotAtOnce", name := "colours", desc := "()I" } : Jvm.MethodName) prog_1_method_51_code (1 : Nat) (Option.some Jvm.ClassFile.FieldType.int)) ∈ lw_all := lw_g (lw_at lw_m6 95 rfl) rfl
theorem q1408 : (Jvm.Cond.methodLink "NotAtOnce" (270 : Nat) ({ cls := "NotAtOnce", name := "coloured", desc := "(IZ)LNotAtOnce$Colouring;" } : Jvm.MethodName)) ∈ lw_all := lw_g (lw_at lw_m6 96 rfl) rfl
theorem q1409 : (Jvm.Cond.privateMethod ({ cls := "NotAtOnce", name := "coloured", desc := "(IZ)LNotAtOnce$Colouring;" } : Jvm.MethodName)) ∈ lw_tbl := lw_at lw_m6 97 rfl
theorem q1410 : (Jvm.Cond.instanceMethod ({ cls := "NotAtOnce", name := "coloured", desc := "(IZ)LNotAtOnce$Colouring;" } : Jvm.MethodName)) ∈ lw_all := lw_g (lw_at lw_m6 98 rfl) rfl
theorem q1411 : (Jvm.Cond.code ({ cls := "NotAtOnce", name := "coloured", desc := "(IZ)LNotAtOnce$Colouring;" } : Jvm.MethodName) prog_1_method_49_code (4 : Nat) (Option.some (Jvm.ClassFile.FieldType.object "NotAtOnce$Colouring"))) ∈ lw_all := lw_g (lw_at lw_m6 99 rfl) rfl
theorem q1412 : (Jvm.Cond.methodLink "NotAtOnce" (263 : Nat) ({ cls := "NotAtOnce$Colouring", name := "counts", desc := "(IIZ)V" } : Jvm.MethodName)) ∈ lw_all := lw_g (lw_at lw_m6 100 rfl) rfl
theorem q1429 : (Jvm.Cond.instanceMethod ({ cls := "NotAtOnce", name := "ones", desc := "()I" } : Jvm.MethodName)) ∈ lw_all := lw_g (lw_at lw_m6 117 rfl) rfl
theorem q1430 : (Jvm.Cond.selects "NotAtOnce" ({ cls := "NotAtOnce", name := "ones", desc := "()I" } : Jvm.MethodName) ({ cls := "NotAtOnce", name := "ones", desc := "()I" } : Jvm.MethodName)) ∈ lw_all := lw_g (lw_at lw_m6 118 rfl) rfl
theorem q1431 : (Jvm.Cond.code ({ cls := "NotAtOnce", name := "ones", desc := "()I" } : Jvm.MethodName) prog_1_method_52_code (2 : Nat) (Option.some Jvm.ClassFile.FieldType.int)) ∈ lw_all := lw_g (lw_at lw_m6 119 rfl) rfl
theorem q1433 : (Jvm.Cond.instanceMethod ({ cls := "NotAtOnce", name := "spare", desc := "()I" } : Jvm.MethodName)) ∈ lw_all := lw_g (lw_at lw_m6 121 rfl) rfl
theorem q1434 : (Jvm.Cond.selects "NotAtOnce" ({ cls := "NotAtOnce", name := "spare", desc := "()I" } : Jvm.MethodName) ({ cls := "NotAtOnce", name := "spare", desc := "()I" } : Jvm.MethodName)) ∈ lw_all := lw_g (lw_at lw_m6 122 rfl) rfl
theorem q1435 : (Jvm.Cond.code ({ cls := "NotAtOnce", name := "spare", desc := "()I" } : Jvm.MethodName) prog_1_method_53_code (3 : Nat) (Option.some Jvm.ClassFile.FieldType.int)) ∈ lw_all := lw_g (lw_at lw_m6 123 rfl) rfl
theorem q1437 : (Jvm.Cond.instanceMethod ({ cls := "NotAtOnce", name := "critical", desc := "()I" } : Jvm.MethodName)) ∈ lw_all := lw_g (lw_at lw_m6 125 rfl) rfl
theorem q1438 : (Jvm.Cond.selects "NotAtOnce" ({ cls := "NotAtOnce", name := "critical", desc := "()I" } : Jvm.MethodName) ({ cls := "NotAtOnce", name := "critical", desc := "()I" } : Jvm.MethodName)) ∈ lw_all := lw_g (lw_at lw_m6 126 rfl) rfl
theorem q1439 : (Jvm.Cond.code ({ cls := "NotAtOnce", name := "critical", desc := "()I" } : Jvm.MethodName) prog_1_method_54_code (3 : Nat) (Option.some Jvm.ClassFile.FieldType.int)) ∈ lw_all := lw_g (lw_at lw_m6 127 rfl) rfl
theorem q1441 : (Jvm.Cond.instanceMethod ({ cls := "NotAtOnce", name := "memory", desc := "()I" } : Jvm.MethodName)) ∈ lw_all := lw_g (lw_at lw_m6 129 rfl) rfl
theorem q1442 : (Jvm.Cond.selects "NotAtOnce" ({ cls := "NotAtOnce", name := "memory", desc := "()I" } : Jvm.MethodName) ({ cls := "NotAtOnce", name := "memory", desc := "()I" } : Jvm.MethodName)) ∈ lw_all := lw_g (lw_at lw_m6 130 rfl) rfl
theorem q1443 : (Jvm.Cond.code ({ cls := "NotAtOnce", name := "memory", desc := "()I" } : Jvm.MethodName) prog_1_method_56_code (2 : Nat) (Option.some Jvm.ClassFile.FieldType.int)) ∈ lw_all := lw_g (lw_at lw_m6 131 rfl) rfl
theorem q1444 : (Jvm.Cond.methodLink "NotAtOnce" (291 : Nat) ({ cls := "NotAtOnce", name := "leastMachine", desc := "()LNotAtOnce$Machine;" } : Jvm.MethodName)) ∈ lw_all := lw_g (lw_at lw_m6 132 rfl) rfl
theorem q1445 : (Jvm.Cond.privateMethod ({ cls := "NotAtOnce", name := "leastMachine", desc := "()LNotAtOnce$Machine;" } : Jvm.MethodName)) ∈ lw_tbl := lw_at lw_m6 133 rfl
theorem q1446 : (Jvm.Cond.instanceMethod ({ cls := "NotAtOnce", name := "leastMachine", desc := "()LNotAtOnce$Machine;" } : Jvm.MethodName)) ∈ lw_all := lw_g (lw_at lw_m6 134 rfl) rfl
theorem q1447 : (Jvm.Cond.code ({ cls := "NotAtOnce", name := "leastMachine", desc := "()LNotAtOnce$Machine;" } : Jvm.MethodName) prog_1_method_55_code (3 : Nat) (Option.some (Jvm.ClassFile.FieldType.object "NotAtOnce$Machine"))) ∈ lw_all := lw_g (lw_at lw_m6 135 rfl) rfl
theorem q1448 : (Jvm.Cond.classLink "NotAtOnce" (280 : Nat) "NotAtOnce$Machine") ∈ lw_all := lw_g (lw_at lw_m6 136 rfl) rfl
theorem q1450 : (Jvm.Cond.methodLink "NotAtOnce" (285 : Nat) ({ cls := "NotAtOnce$Machine", name := "<init>", desc := "(Ljava/util/ArrayList;I)V" } : Jvm.MethodName)) ∈ lw_all := lw_g (lw_at lw_m6 138 rfl) rfl
theorem q1456 : (Jvm.Cond.fieldLinkNest "NotAtOnce" (295 : Nat) "NotAtOnce$Machine" "states" "I" "NotAtOnce") ∈ lw_tbl := lw_at lw_m6 144 rfl
theorem q1458 : (Jvm.Cond.fieldLinkNest "NotAtOnce" (298 : Nat) "NotAtOnce$Machine" "tells" "[I" "NotAtOnce") ∈ lw_tbl := lw_at lw_m6 146 rfl
theorem q1460 : (Jvm.Cond.fieldLinkNest "NotAtOnce" (301 : Nat) "NotAtOnce$Machine" "next" "[I" "NotAtOnce") ∈ lw_tbl := lw_at lw_m6 148 rfl
theorem q1470 : (Jvm.Cond.methodLink "NotAtOnce" (288 : Nat) ({ cls := "NotAtOnce$Machine", name := "goes", desc := "(III)Z" } : Jvm.MethodName)) ∈ lw_all := lw_g (lw_at lw_m6 158 rfl) rfl
theorem q1483 : (Jvm.Cond.instanceMethod ({ cls := "NotAtOnce", name := "machine", desc := "(IIZ)I" } : Jvm.MethodName)) ∈ lw_all := lw_g (lw_at lw_m6 171 rfl) rfl
theorem q1484 : (Jvm.Cond.selects "NotAtOnce" ({ cls := "NotAtOnce", name := "machine", desc := "(IIZ)I" } : Jvm.MethodName) ({ cls := "NotAtOnce", name := "machine", desc := "(IIZ)I" } : Jvm.MethodName)) ∈ lw_all := lw_g (lw_at lw_m6 172 rfl) rfl
theorem q1485 : (Jvm.Cond.code ({ cls := "NotAtOnce", name := "machine", desc := "(IIZ)I" } : Jvm.MethodName) prog_1_method_57_code (6 : Nat) (Option.some Jvm.ClassFile.FieldType.int)) ∈ lw_all := lw_g (lw_at lw_m6 173 rfl) rfl
theorem q1487 : (Jvm.Cond.instanceMethod ({ cls := "NotAtOnce", name := "flip", desc := "(I)Z" } : Jvm.MethodName)) ∈ lw_all := lw_g (lw_at lw_m6 175 rfl) rfl
theorem q1488 : (Jvm.Cond.selects "NotAtOnce" ({ cls := "NotAtOnce", name := "flip", desc := "(I)Z" } : Jvm.MethodName) ({ cls := "NotAtOnce", name := "flip", desc := "(I)Z" } : Jvm.MethodName)) ∈ lw_all := lw_g (lw_at lw_m6 176 rfl) rfl
theorem q1489 : (Jvm.Cond.code ({ cls := "NotAtOnce", name := "flip", desc := "(I)Z" } : Jvm.MethodName) prog_1_method_59_code (2 : Nat) (Option.some Jvm.ClassFile.FieldType.boolean)) ∈ lw_all := lw_g (lw_at lw_m6 177 rfl) rfl
theorem q1490 : (Jvm.Cond.methodLink "NotAtOnce" (315 : Nat) ({ cls := "NotAtOnce", name := "keeps", desc := "(II)LNotAtOnce$Step;" } : Jvm.MethodName)) ∈ lw_all := lw_g (lw_at lw_m6 178 rfl) rfl
theorem q1491 : (Jvm.Cond.privateMethod ({ cls := "NotAtOnce", name := "keeps", desc := "(II)LNotAtOnce$Step;" } : Jvm.MethodName)) ∈ lw_tbl := lw_at lw_m6 179 rfl
theorem q1492 : (Jvm.Cond.instanceMethod ({ cls := "NotAtOnce", name := "keeps", desc := "(II)LNotAtOnce$Step;" } : Jvm.MethodName)) ∈ lw_all := lw_g (lw_at lw_m6 180 rfl) rfl
theorem q1493 : (Jvm.Cond.code ({ cls := "NotAtOnce", name := "keeps", desc := "(II)LNotAtOnce$Step;" } : Jvm.MethodName) prog_1_method_58_code (4 : Nat) (Option.some (Jvm.ClassFile.FieldType.object "NotAtOnce$Step"))) ∈ lw_all := lw_g (lw_at lw_m6 181 rfl) rfl
theorem q1494 : (Jvm.Cond.methodLink "NotAtOnce" (304 : Nat) ({ cls := "java/util/ArrayList", name := "remove", desc := "(I)Ljava/lang/Object;" } : Jvm.MethodName)) ∈ lw_all := lw_g (lw_at lw_m6 182 rfl) rfl
theorem q1503 : (Jvm.Cond.classLink "NotAtOnce" (307 : Nat) "NotAtOnce$Step") ∈ lw_all := lw_g (lw_at lw_m6 191 rfl) rfl
theorem q1505 : (Jvm.Cond.methodLink "NotAtOnce" (309 : Nat) ({ cls := "NotAtOnce$Step", name := "<init>", desc := "(LNotAtOnce$Table;II)V" } : Jvm.MethodName)) ∈ lw_all := lw_g (lw_at lw_m6 193 rfl) rfl
theorem q1510 : (Jvm.Cond.fieldLink "NotAtOnce" (335 : Nat) "NotAtOnce$Step" "told" "[I") ∈ lw_all := lw_g (lw_at lw_m6 198 rfl) rfl
theorem q1512 : (Jvm.Cond.fieldLink "NotAtOnce" (344 : Nat) "NotAtOnce$Step" "table" "LNotAtOnce$Table;") ∈ lw_all := lw_g (lw_at lw_m6 200 rfl) rfl
theorem q1518 : (Jvm.Cond.methodLink "NotAtOnce" (311 : Nat) ({ cls := "java/util/ArrayList", name := "add", desc := "(Ljava/lang/Object;)Z" } : Jvm.MethodName)) ∈ lw_all := lw_g (lw_at lw_m6 206 rfl) rfl
theorem q1519 : (Jvm.Cond.methodLink "NotAtOnce" (319 : Nat) ({ cls := "NotAtOnce$Table", name := "flips", desc := "(I)V" } : Jvm.MethodName)) ∈ lw_all := lw_g (lw_at lw_m6 207 rfl) rfl
theorem q1541 : (Jvm.Cond.instanceMethod ({ cls := "NotAtOnce", name := "drop", desc := "(I)Z" } : Jvm.MethodName)) ∈ lw_all := lw_g (lw_at lw_m6 229 rfl) rfl
theorem q1542 : (Jvm.Cond.selects "NotAtOnce" ({ cls := "NotAtOnce", name := "drop", desc := "(I)Z" } : Jvm.MethodName) ({ cls := "NotAtOnce", name := "drop", desc := "(I)Z" } : Jvm.MethodName)) ∈ lw_all := lw_g (lw_at lw_m6 230 rfl) rfl
theorem q1543 : (Jvm.Cond.code ({ cls := "NotAtOnce", name := "drop", desc := "(I)Z" } : Jvm.MethodName) prog_1_method_60_code (2 : Nat) (Option.some Jvm.ClassFile.FieldType.boolean)) ∈ lw_all := lw_g (lw_at lw_m6 231 rfl) rfl
theorem q1545 : (Jvm.Cond.instanceMethod ({ cls := "NotAtOnce", name := "forget", desc := "(I)Z" } : Jvm.MethodName)) ∈ lw_all := lw_g (lw_at lw_m6 233 rfl) rfl
theorem q1546 : (Jvm.Cond.selects "NotAtOnce" ({ cls := "NotAtOnce", name := "forget", desc := "(I)Z" } : Jvm.MethodName) ({ cls := "NotAtOnce", name := "forget", desc := "(I)Z" } : Jvm.MethodName)) ∈ lw_all := lw_g (lw_at lw_m6 234 rfl) rfl
theorem q1547 : (Jvm.Cond.code ({ cls := "NotAtOnce", name := "forget", desc := "(I)Z" } : Jvm.MethodName) prog_1_method_61_code (2 : Nat) (Option.some Jvm.ClassFile.FieldType.boolean)) ∈ lw_all := lw_g (lw_at lw_m6 235 rfl) rfl
theorem q1548 : (Jvm.Cond.methodLink "NotAtOnce" (326 : Nat) ({ cls := "NotAtOnce$Table", name := "isOf", desc := "(I)Z" } : Jvm.MethodName)) ∈ lw_all := lw_g (lw_at lw_m6 236 rfl) rfl
theorem q1552 : (Jvm.Cond.methodLink "NotAtOnce" (329 : Nat) ({ cls := "NotAtOnce$Table", name := "forgets", desc := "(I)V" } : Jvm.MethodName)) ∈ lw_all := lw_g (lw_at lw_m7 0 rfl) rfl
theorem q1573 : (Jvm.Cond.instanceMethod ({ cls := "NotAtOnce", name := "shift", desc := "(IIII)Z" } : Jvm.MethodName)) ∈ lw_all := lw_g (lw_at lw_m7 21 rfl) rfl
theorem q1574 : (Jvm.Cond.selects "NotAtOnce" ({ cls := "NotAtOnce", name := "shift", desc := "(IIII)Z" } : Jvm.MethodName) ({ cls := "NotAtOnce", name := "shift", desc := "(IIII)Z" } : Jvm.MethodName)) ∈ lw_all := lw_g (lw_at lw_m7 22 rfl) rfl
theorem q1575 : (Jvm.Cond.code ({ cls := "NotAtOnce", name := "shift", desc := "(IIII)Z" } : Jvm.MethodName) prog_1_method_62_code (6 : Nat) (Option.some Jvm.ClassFile.FieldType.boolean)) ∈ lw_all := lw_g (lw_at lw_m7 23 rfl) rfl
theorem q1577 : (Jvm.Cond.instanceMethod ({ cls := "NotAtOnce", name := "undo", desc := "()Z" } : Jvm.MethodName)) ∈ lw_all := lw_g (lw_at lw_m7 25 rfl) rfl
theorem q1578 : (Jvm.Cond.selects "NotAtOnce" ({ cls := "NotAtOnce", name := "undo", desc := "()Z" } : Jvm.MethodName) ({ cls := "NotAtOnce", name := "undo", desc := "()Z" } : Jvm.MethodName)) ∈ lw_all := lw_g (lw_at lw_m7 26 rfl) rfl
theorem q1579 : (Jvm.Cond.code ({ cls := "NotAtOnce", name := "undo", desc := "()Z" } : Jvm.MethodName) prog_1_method_64_code (1 : Nat) (Option.some Jvm.ClassFile.FieldType.boolean)) ∈ lw_all := lw_g (lw_at lw_m7 27 rfl) rfl
theorem q1580 : (Jvm.Cond.methodLink "NotAtOnce" (345 : Nat) ({ cls := "NotAtOnce", name := "steps", desc := "(Ljava/util/ArrayList;Ljava/util/ArrayList;)Z" } : Jvm.MethodName)) ∈ lw_all := lw_g (lw_at lw_m7 28 rfl) rfl
theorem q1581 : (Jvm.Cond.privateMethod ({ cls := "NotAtOnce", name := "steps", desc := "(Ljava/util/ArrayList;Ljava/util/ArrayList;)Z" } : Jvm.MethodName)) ∈ lw_tbl := lw_at lw_m7 29 rfl
theorem q1582 : (Jvm.Cond.instanceMethod ({ cls := "NotAtOnce", name := "steps", desc := "(Ljava/util/ArrayList;Ljava/util/ArrayList;)Z" } : Jvm.MethodName)) ∈ lw_all := lw_g (lw_at lw_m7 30 rfl) rfl
theorem q1583 : (Jvm.Cond.code ({ cls := "NotAtOnce", name := "steps", desc := "(Ljava/util/ArrayList;Ljava/util/ArrayList;)Z" } : Jvm.MethodName) prog_1_method_63_code (4 : Nat) (Option.some Jvm.ClassFile.FieldType.boolean)) ∈ lw_all := lw_g (lw_at lw_m7 31 rfl) rfl
theorem q1584 : (Jvm.Cond.methodLink "NotAtOnce" (338 : Nat) ({ cls := "java/util/ArrayList", name := "isEmpty", desc := "()Z" } : Jvm.MethodName)) ∈ lw_all := lw_g (lw_at lw_m7 32 rfl) rfl
theorem q1585 : (Jvm.Cond.methodLink "NotAtOnce" (341 : Nat) ({ cls := "NotAtOnce$Step", name := "<init>", desc := "(LNotAtOnce$Table;LNotAtOnce$Step;)V" } : Jvm.MethodName)) ∈ lw_all := lw_g (lw_at lw_m7 33 rfl) rfl
theorem q1590 : (Jvm.Cond.instanceMethod ({ cls := "NotAtOnce", name := "redo", desc := "()Z" } : Jvm.MethodName)) ∈ lw_all := lw_g (lw_at lw_m7 38 rfl) rfl
theorem q1591 : (Jvm.Cond.selects "NotAtOnce" ({ cls := "NotAtOnce", name := "redo", desc := "()Z" } : Jvm.MethodName) ({ cls := "NotAtOnce", name := "redo", desc := "()Z" } : Jvm.MethodName)) ∈ lw_all := lw_g (lw_at lw_m7 39 rfl) rfl
theorem q1592 : (Jvm.Cond.code ({ cls := "NotAtOnce", name := "redo", desc := "()Z" } : Jvm.MethodName) prog_1_method_65_code (1 : Nat) (Option.some Jvm.ClassFile.FieldType.boolean)) ∈ lw_all := lw_g (lw_at lw_m7 40 rfl) rfl
theorem q1594 : (Jvm.Cond.instanceMethod ({ cls := "NotAtOnce", name := "mark", desc := "()I" } : Jvm.MethodName)) ∈ lw_all := lw_g (lw_at lw_m7 42 rfl) rfl
theorem q1595 : (Jvm.Cond.selects "NotAtOnce" ({ cls := "NotAtOnce", name := "mark", desc := "()I" } : Jvm.MethodName) ({ cls := "NotAtOnce", name := "mark", desc := "()I" } : Jvm.MethodName)) ∈ lw_all := lw_g (lw_at lw_m7 43 rfl) rfl
theorem q1596 : (Jvm.Cond.code ({ cls := "NotAtOnce", name := "mark", desc := "()I" } : Jvm.MethodName) prog_1_method_66_code (1 : Nat) (Option.some Jvm.ClassFile.FieldType.int)) ∈ lw_all := lw_g (lw_at lw_m7 44 rfl) rfl
theorem q1598 : (Jvm.Cond.instanceMethod ({ cls := "NotAtOnce", name := "back", desc := "(I)Z" } : Jvm.MethodName)) ∈ lw_all := lw_g (lw_at lw_m7 46 rfl) rfl
theorem q1599 : (Jvm.Cond.selects "NotAtOnce" ({ cls := "NotAtOnce", name := "back", desc := "(I)Z" } : Jvm.MethodName) ({ cls := "NotAtOnce", name := "back", desc := "(I)Z" } : Jvm.MethodName)) ∈ lw_all := lw_g (lw_at lw_m7 47 rfl) rfl
theorem q1600 : (Jvm.Cond.code ({ cls := "NotAtOnce", name := "back", desc := "(I)Z" } : Jvm.MethodName) prog_1_method_67_code (2 : Nat) (Option.some Jvm.ClassFile.FieldType.boolean)) ∈ lw_all := lw_g (lw_at lw_m7 48 rfl) rfl
theorem q1601 : (Jvm.Cond.classLink "NotAtOnce" (86 : Nat) "NotAtOnce$Table") ∈ lw_all := lw_g (lw_at lw_m7 49 rfl) rfl
theorem q1603 : (Jvm.Cond.instanceMethod ({ cls := "NotAtOnce", name := "act", desc := "(II)I" } : Jvm.MethodName)) ∈ lw_all := lw_g (lw_at lw_m7 51 rfl) rfl
theorem q1604 : (Jvm.Cond.selects "NotAtOnce" ({ cls := "NotAtOnce", name := "act", desc := "(II)I" } : Jvm.MethodName) ({ cls := "NotAtOnce", name := "act", desc := "(II)I" } : Jvm.MethodName)) ∈ lw_all := lw_g (lw_at lw_m7 52 rfl) rfl
theorem q1605 : (Jvm.Cond.code ({ cls := "NotAtOnce", name := "act", desc := "(II)I" } : Jvm.MethodName) prog_1_method_68_code (3 : Nat) (Option.some Jvm.ClassFile.FieldType.int)) ∈ lw_all := lw_g (lw_at lw_m7 53 rfl) rfl
theorem q1607 : (Jvm.Cond.instanceMethod ({ cls := "NotAtOnce", name := "times", desc := "(II)I" } : Jvm.MethodName)) ∈ lw_all := lw_g (lw_at lw_m7 55 rfl) rfl
theorem q1608 : (Jvm.Cond.selects "NotAtOnce" ({ cls := "NotAtOnce", name := "times", desc := "(II)I" } : Jvm.MethodName) ({ cls := "NotAtOnce", name := "times", desc := "(II)I" } : Jvm.MethodName)) ∈ lw_all := lw_g (lw_at lw_m7 56 rfl) rfl
theorem q1609 : (Jvm.Cond.code ({ cls := "NotAtOnce", name := "times", desc := "(II)I" } : Jvm.MethodName) prog_1_method_69_code (3 : Nat) (Option.some Jvm.ClassFile.FieldType.int)) ∈ lw_all := lw_g (lw_at lw_m7 57 rfl) rfl
theorem q1611 : (Jvm.Cond.instanceMethod ({ cls := "NotAtOnce", name := "look", desc := "(IZ)I" } : Jvm.MethodName)) ∈ lw_all := lw_g (lw_at lw_m7 59 rfl) rfl
theorem q1612 : (Jvm.Cond.selects "NotAtOnce" ({ cls := "NotAtOnce", name := "look", desc := "(IZ)I" } : Jvm.MethodName) ({ cls := "NotAtOnce", name := "look", desc := "(IZ)I" } : Jvm.MethodName)) ∈ lw_all := lw_g (lw_at lw_m7 60 rfl) rfl
theorem q1613 : (Jvm.Cond.code ({ cls := "NotAtOnce", name := "look", desc := "(IZ)I" } : Jvm.MethodName) prog_1_method_70_code (3 : Nat) (Option.some Jvm.ClassFile.FieldType.int)) ∈ lw_all := lw_g (lw_at lw_m7 61 rfl) rfl
theorem q1614 : (Jvm.Cond.methodLink "NotAtOnce" (349 : Nat) ({ cls := "NotAtOnce$Asked", name := "second", desc := "()I" } : Jvm.MethodName)) ∈ lw_all := lw_g (lw_at lw_m7 62 rfl) rfl
theorem q1615 : (Jvm.Cond.methodLink "NotAtOnce" (352 : Nat) ({ cls := "NotAtOnce$Asked", name := "first", desc := "()I" } : Jvm.MethodName)) ∈ lw_all := lw_g (lw_at lw_m7 63 rfl) rfl
theorem q1617 : (Jvm.Cond.instanceMethod ({ cls := "NotAtOnce", name := "coins", desc := "(II)I" } : Jvm.MethodName)) ∈ lw_all := lw_g (lw_at lw_m7 65 rfl) rfl
theorem q1618 : (Jvm.Cond.selects "NotAtOnce" ({ cls := "NotAtOnce", name := "coins", desc := "(II)I" } : Jvm.MethodName) ({ cls := "NotAtOnce", name := "coins", desc := "(II)I" } : Jvm.MethodName)) ∈ lw_all := lw_g (lw_at lw_m7 66 rfl) rfl
theorem q1619 : (Jvm.Cond.code ({ cls := "NotAtOnce", name := "coins", desc := "(II)I" } : Jvm.MethodName) prog_1_method_71_code (3 : Nat) (Option.some Jvm.ClassFile.FieldType.int)) ∈ lw_all := lw_g (lw_at lw_m7 67 rfl) rfl
theorem q1621 : (Jvm.Cond.instanceMethod ({ cls := "NotAtOnce", name := "size", desc := "(I)I" } : Jvm.MethodName)) ∈ lw_all := lw_g (lw_at lw_m7 69 rfl) rfl
theorem q1622 : (Jvm.Cond.selects "NotAtOnce" ({ cls := "NotAtOnce", name := "size", desc := "(I)I" } : Jvm.MethodName) ({ cls := "NotAtOnce", name := "size", desc := "(I)I" } : Jvm.MethodName)) ∈ lw_all := lw_g (lw_at lw_m7 70 rfl) rfl
theorem q1623 : (Jvm.Cond.code ({ cls := "NotAtOnce", name := "size", desc := "(I)I" } : Jvm.MethodName) prog_1_method_73_code (2 : Nat) (Option.some Jvm.ClassFile.FieldType.int)) ∈ lw_all := lw_g (lw_at lw_m7 71 rfl) rfl
theorem q1625 : (Jvm.Cond.instanceMethod ({ cls := "NotAtOnce", name := "trouble", desc := "()I" } : Jvm.MethodName)) ∈ lw_all := lw_g (lw_at lw_m7 73 rfl) rfl
theorem q1626 : (Jvm.Cond.selects "NotAtOnce" ({ cls := "NotAtOnce", name := "trouble", desc := "()I" } : Jvm.MethodName) ({ cls := "NotAtOnce", name := "trouble", desc := "()I" } : Jvm.MethodName)) ∈ lw_all := lw_g (lw_at lw_m7 74 rfl) rfl
theorem q1627 : (Jvm.Cond.code ({ cls := "NotAtOnce", name := "trouble", desc := "()I" } : Jvm.MethodName) prog_1_method_74_code (1 : Nat) (Option.some Jvm.ClassFile.FieldType.int)) ∈ lw_all := lw_g (lw_at lw_m7 75 rfl) rfl
theorem q1633 : (Jvm.Cond.instanceMethod ({ cls := "NotAtOnce", name := "led", desc := "(I)I" } : Jvm.MethodName)) ∈ lw_all := lw_g (lw_at lw_m7 81 rfl) rfl
theorem q1634 : (Jvm.Cond.selects "NotAtOnce" ({ cls := "NotAtOnce", name := "led", desc := "(I)I" } : Jvm.MethodName) ({ cls := "NotAtOnce", name := "led", desc := "(I)I" } : Jvm.MethodName)) ∈ lw_all := lw_g (lw_at lw_m7 82 rfl) rfl
theorem q1635 : (Jvm.Cond.code ({ cls := "NotAtOnce", name := "led", desc := "(I)I" } : Jvm.MethodName) prog_1_method_72_code (5 : Nat) (Option.some Jvm.ClassFile.FieldType.int)) ∈ lw_all := lw_g (lw_at lw_m7 83 rfl) rfl
theorem q1636 : (Jvm.Cond.classLink "NotAtOnce" (355 : Nat) "java/util/NoSuchElementException") ∈ lw_all := lw_g (lw_at lw_m7 84 rfl) rfl
theorem q1675 : (Jvm.Cond.methodLink "NotAtOnce" (357 : Nat) ({ cls := "java/util/NoSuchElementException", name := "<init>", desc := "()V" } : Jvm.MethodName)) ∈ lw_all := lw_g (lw_at lw_m7 123 rfl) rfl
theorem q2350 : (Jvm.Cond.castable "NotAtOnce" "java/lang/Object") ∈ lw_tbl := lw_at lw_m10 78 rfl
theorem in_X1 : ∀ w ∈ wsX10, w ∈ lw_all := lw_in wsX10 [225, 227, 229, 231, 233, 235, 237, 239, 241, 243, 245] (by decide +kernel) (by decide +kernel)
