/-! FinalLinksModel -/
set_option maxRecDepth 100000
def RX6 : String := "FinalLinksModel"
def TX6 : u_T := fun k => match k with
  | 0 => ("FinalLinksModel", "thrown", "I", false)
  | 1 => ("FinalLinksModel", "tape", "[B", true)
  | 2 => ("FinalLinksModel", "length", "I", false)
  | 3 => ("FinalLinksModel", "size", "I", false)
  | 4 => ("FinalLinksModel", "p", "I", false)
  | 5 => ("FinalLinksModel", "limit", "I", false)
  | 6 => ("FinalLinksModel", "s", "[I", true)
  | 7 => ("FinalLinksModel", "h", "[I", true)
  | 8 => ("FinalLinksModel", "read", "[I", true)
  | 9 => ("FinalLinksModel", "line", "[I", true)
  | 10 => ("FinalLinksModel", "names", "[J", true)
  | 11 => ("FinalLinksModel", "reserved", "[J", true)
  | 12 => ("FinalLinksModel", "token", "I", false)
  | 13 => ("FinalLinksModel", "at", "I", false)
  | 14 => ("FinalLinksModel", "span", "I", false)
  | 15 => ("FinalLinksModel", "number", "I", false)
  | 16 => ("FinalLinksModel", "fault", "I", false)
  | 17 => ("FinalLinksModel", "faultAt", "I", false)
  | 18 => ("FinalLinksModel", "word", "J", false)
  | 19 => ("FinalLinksModel", "got", "I", false)
  | 20 => ("FinalLinksModel", "lines", "I", false)
  | 21 => ("FinalLinksModel", "high", "[I", true)
  | 22 => ("FinalLinksModel", "aheads", "[I", true)
  | 23 => ("FinalLinksModel", "masks", "[I", true)
  | 24 => ("FinalLinksModel", "hefts", "[I", true)
  | 25 => ("FinalLinksModel", "way", "[I", true)
  | 26 => ("FinalLinksModel", "just", "I", false)
  | 27 => ("FinalLinksModel", "finals", "I", false)
  | 28 => ("FinalLinksModel", "offenders", "I", false)
  | 29 => ("FinalLinksModel", "base", "I", false)
  | 30 => ("FinalLinksModel", "wayMany", "I", false)
  | 31 => ("FinalLinksModel", "linkMany", "I", false)
  | 32 => ("FinalLinksModel", "countMany", "I", false)
  | 33 => ("FinalLinksModel", "pairMany", "I", false)
  | 34 => ("FinalLinksModel", "isFresh", "Z", false)
  | 35 => ("FinalLinksModel", "undone", "[I", true)
  | 36 => ("FinalLinksModel", "before", "[I", true)
  | 37 => ("FinalLinksModel", "first", "[I", true)
  | 38 => ("FinalLinksModel", "undoMany", "I", false)
  | 39 => ("FinalLinksModel", "needSet", "I", false)
  | 40 => ("FinalLinksModel", "needed", "I", false)
  | 41 => ("FinalLinksModel", "wayFrom", "I", false)
  | 42 => ("FinalLinksModel", "text", "[B", true)
  | 43 => ("FinalLinksModel", "textMany", "I", false)
  | 44 => ("FinalLinksModel", "seed", "I", false)
  | 45 => ("FinalLinksModel", "bookMany", "I", false)
  | 46 => ("FinalLinksModel", "toldAt", "[I", true)
  | 47 => ("FinalLinksModel", "hasTold", "Z", false)
  | 48 => ("FinalLinksModel", "stack", "[I", true)
  | 49 => ("FinalLinksModel", "codes", "I", false)
  | 50 => ("FinalLinksModel", "ones", "I", false)
  | 51 => ("FinalLinksModel", "top", "I", false)
  | 52 => ("FinalLinksModel", "deep", "I", false)
  | 53 => ("FinalLinksModel", "isWhole", "Z", false)
  | 54 => ("FinalLinksModel", "truths", "[Z", true)
  | 55 => ("FinalLinksModel", "imaged", "[I", true)
  | 56 => ("FinalLinksModel", "namesKept", "[J", true)
  | _ => ("FinalLinksModel", "areKept", "[Z", true)
def tyX6 : Nat → FieldType := fun k => match k with
  | 0 => .int
  | 1 => .array .byte
  | 2 => .int
  | 3 => .int
  | 4 => .int
  | 5 => .int
  | 6 => .array .int
  | 7 => .array .int
  | 8 => .array .int
  | 9 => .array .int
  | 10 => .array .long
  | 11 => .array .long
  | 12 => .int
  | 13 => .int
  | 14 => .int
  | 15 => .int
  | 16 => .int
  | 17 => .int
  | 18 => .long
  | 19 => .int
  | 20 => .int
  | 21 => .array .int
  | 22 => .array .int
  | 23 => .array .int
  | 24 => .array .int
  | 25 => .array .int
  | 26 => .int
  | 27 => .int
  | 28 => .int
  | 29 => .int
  | 30 => .int
  | 31 => .int
  | 32 => .int
  | 33 => .int
  | 34 => .boolean
  | 35 => .array .int
  | 36 => .array .int
  | 37 => .array .int
  | 38 => .int
  | 39 => .int
  | 40 => .int
  | 41 => .int
  | 42 => .array .byte
  | 43 => .int
  | 44 => .int
  | 45 => .int
  | 46 => .array .int
  | 47 => .boolean
  | 48 => .array .int
  | 49 => .int
  | 50 => .int
  | 51 => .int
  | 52 => .int
  | 53 => .boolean
  | 54 => .array .boolean
  | 55 => .array .int
  | 56 => .array .long
  | _ => .array .boolean
abbrev wsX60 : List Cond := u_ws RX6 TX6 58
set_option maxRecDepth 100000 in
theorem nmX6 : ∀ a, a < 58 → ∀ b, b < 58 → a ≠ b → (TX6 a).2.1 ≠ (TX6 b).2.1 := by decide +kernel
set_option maxRecDepth 100000 in
theorem tyX6_ok : ∀ k, k < 58 → parseFieldDescriptor (TX6 k).2.2.1 = some (tyX6 k) := by decide +kernel
abbrev cX6_thrown : ByteArray := prog_25_method_1_code
def yX6_thrown : MethodName := ⟨RX6, "thrown", "()I"⟩
theorem dX6_thrown_0 : decode cX6_thrown 0 = .ok (.aload_n 0, 1) := by decide +kernel
theorem dX6_thrown_1 : decode cX6_thrown 1 = .ok (.getfield 1, 3) := by decide +kernel
theorem dX6_thrown_4 : decode cX6_thrown 4 = .ok (.ireturn, 1) := by decide +kernel
abbrev cX6_feed : ByteArray := prog_25_method_3_code
def yX6_feed : MethodName := ⟨RX6, "feed", "(IIIII)I"⟩
def dkwX6_feed_2 : List UInt8 := [182, 0, 10, 42, 180, 0, 7, 172]
abbrev dktX6_feed_2 : List UInt8 := dkwX6_feed_2 ++ []
def dkwX6_feed_1 : List UInt8 := [182, 0, 10, 42, 28, 182, 0, 10, 42, 29, 182, 0, 10, 42, 21, 4, 182, 0, 10, 42, 21, 5]
abbrev dktX6_feed_1 : List UInt8 := dkwX6_feed_1 ++ dktX6_feed_2
def dkwX6_feed_0 : List UInt8 := [42, 3, 181, 0, 1, 42, 180, 0, 7, 16, 20, 96, 17, 3, 172, 164, 0, 5, 2, 172, 42, 27]
abbrev dktX6_feed_0 : List UInt8 := dkwX6_feed_0 ++ dktX6_feed_1
theorem dksX6_feed_0 : cX6_feed.data.toList.drop 0 = dktX6_feed_0 := by decide +kernel
theorem dksX6_feed_1 : cX6_feed.data.toList.drop 22 = dktX6_feed_1 := dk_seg dksX6_feed_0 22 rfl rfl
theorem dksX6_feed_2 : cX6_feed.data.toList.drop 44 = dktX6_feed_2 := dk_seg dksX6_feed_1 22 rfl rfl
theorem dX6_feed_0 : decode cX6_feed 0 = .ok (.aload_n 0, 1) := dk_42 (dk_at dksX6_feed_0 0 rfl rfl)
theorem dX6_feed_1 : decode cX6_feed 1 = .ok (.iconst 0, 1) := dk_3 (dk_at dksX6_feed_0 1 rfl rfl)
theorem dX6_feed_2 : decode cX6_feed 2 = .ok (.putfield 1, 3) := dk_181 0 1 (dk_at dksX6_feed_0 2 rfl rfl)
theorem dX6_feed_5 : decode cX6_feed 5 = .ok (.aload_n 0, 1) := dk_42 (dk_at dksX6_feed_0 5 rfl rfl)
theorem dX6_feed_6 : decode cX6_feed 6 = .ok (.getfield 7, 3) := dk_180 0 7 (dk_at dksX6_feed_0 6 rfl rfl)
theorem dX6_feed_9 : decode cX6_feed 9 = .ok (.bipush 20, 2) := dk_16 20 (dk_at dksX6_feed_0 9 rfl rfl)
theorem dX6_feed_11 : decode cX6_feed 11 = .ok (.iadd, 1) := dk_96 (dk_at dksX6_feed_0 11 rfl rfl)
theorem dX6_feed_12 : decode cX6_feed 12 = .ok (.sipush 940, 3) := dk_17 3 172 (dk_at dksX6_feed_0 12 rfl rfl)
theorem dX6_feed_15 : decode cX6_feed 15 = .ok (.if_icmp .le 5, 3) := dk_164 0 5 (dk_at dksX6_feed_0 15 rfl rfl)
theorem dX6_feed_18 : decode cX6_feed 18 = .ok (.iconst (-1), 1) := dk_2 (dk_at dksX6_feed_0 18 rfl rfl)
theorem dX6_feed_19 : decode cX6_feed 19 = .ok (.ireturn, 1) := dk_172 (dk_at dksX6_feed_0 19 rfl rfl)
theorem dX6_feed_20 : decode cX6_feed 20 = .ok (.aload_n 0, 1) := dk_42 (dk_at dksX6_feed_0 20 rfl rfl)
theorem dX6_feed_21 : decode cX6_feed 21 = .ok (.iload_n 1, 1) := dk_27 (dk_at dksX6_feed_0 21 rfl rfl)
theorem dX6_feed_22 : decode cX6_feed 22 = .ok (.invokevirtual 10, 3) := dk_182 0 10 (dk_at dksX6_feed_1 0 rfl rfl)
theorem dX6_feed_25 : decode cX6_feed 25 = .ok (.aload_n 0, 1) := dk_42 (dk_at dksX6_feed_1 3 rfl rfl)
theorem dX6_feed_26 : decode cX6_feed 26 = .ok (.iload_n 2, 1) := dk_28 (dk_at dksX6_feed_1 4 rfl rfl)
theorem dX6_feed_27 : decode cX6_feed 27 = .ok (.invokevirtual 10, 3) := dk_182 0 10 (dk_at dksX6_feed_1 5 rfl rfl)
theorem dX6_feed_30 : decode cX6_feed 30 = .ok (.aload_n 0, 1) := dk_42 (dk_at dksX6_feed_1 8 rfl rfl)
theorem dX6_feed_31 : decode cX6_feed 31 = .ok (.iload_n 3, 1) := dk_29 (dk_at dksX6_feed_1 9 rfl rfl)
theorem dX6_feed_32 : decode cX6_feed 32 = .ok (.invokevirtual 10, 3) := dk_182 0 10 (dk_at dksX6_feed_1 10 rfl rfl)
theorem dX6_feed_35 : decode cX6_feed 35 = .ok (.aload_n 0, 1) := dk_42 (dk_at dksX6_feed_1 13 rfl rfl)
theorem dX6_feed_36 : decode cX6_feed 36 = .ok (.iload 4, 2) := dk_21 4 (dk_at dksX6_feed_1 14 rfl rfl)
theorem dX6_feed_38 : decode cX6_feed 38 = .ok (.invokevirtual 10, 3) := dk_182 0 10 (dk_at dksX6_feed_1 16 rfl rfl)
theorem dX6_feed_41 : decode cX6_feed 41 = .ok (.aload_n 0, 1) := dk_42 (dk_at dksX6_feed_1 19 rfl rfl)
theorem dX6_feed_42 : decode cX6_feed 42 = .ok (.iload 5, 2) := dk_21 5 (dk_at dksX6_feed_1 20 rfl rfl)
theorem dX6_feed_44 : decode cX6_feed 44 = .ok (.invokevirtual 10, 3) := dk_182 0 10 (dk_at dksX6_feed_2 0 rfl rfl)
theorem dX6_feed_47 : decode cX6_feed 47 = .ok (.aload_n 0, 1) := dk_42 (dk_at dksX6_feed_2 3 rfl rfl)
theorem dX6_feed_48 : decode cX6_feed 48 = .ok (.getfield 7, 3) := dk_180 0 7 (dk_at dksX6_feed_2 4 rfl rfl)
theorem dX6_feed_51 : decode cX6_feed 51 = .ok (.ireturn, 1) := dk_172 (dk_at dksX6_feed_2 7 rfl rfl)
abbrev cX6_four : ByteArray := prog_25_method_4_code
def yX6_four : MethodName := ⟨RX6, "four", "(I)V"⟩
def dkwX6_four_1 : List UInt8 := [180, 0, 7, 4, 96, 181, 0, 7, 132, 2, 248, 167, 255, 226, 177]
abbrev dktX6_four_1 : List UInt8 := dkwX6_four_1 ++ []
def dkwX6_four_0 : List UInt8 := [16, 24, 61, 28, 155, 0, 32, 42, 180, 0, 14, 42, 180, 0, 7, 27, 28, 122, 145, 84, 42, 89]
abbrev dktX6_four_0 : List UInt8 := dkwX6_four_0 ++ dktX6_four_1
theorem dksX6_four_0 : cX6_four.data.toList.drop 0 = dktX6_four_0 := by decide +kernel
theorem dksX6_four_1 : cX6_four.data.toList.drop 22 = dktX6_four_1 := dk_seg dksX6_four_0 22 rfl rfl
theorem dX6_four_0 : decode cX6_four 0 = .ok (.bipush 24, 2) := dk_16 24 (dk_at dksX6_four_0 0 rfl rfl)
theorem dX6_four_2 : decode cX6_four 2 = .ok (.istore_n 2, 1) := dk_61 (dk_at dksX6_four_0 2 rfl rfl)
theorem dX6_four_3 : decode cX6_four 3 = .ok (.iload_n 2, 1) := dk_28 (dk_at dksX6_four_0 3 rfl rfl)
theorem dX6_four_4 : decode cX6_four 4 = .ok (.ifCond .lt 32, 3) := dk_155 0 32 (dk_at dksX6_four_0 4 rfl rfl)
theorem dX6_four_7 : decode cX6_four 7 = .ok (.aload_n 0, 1) := dk_42 (dk_at dksX6_four_0 7 rfl rfl)
theorem dX6_four_8 : decode cX6_four 8 = .ok (.getfield 14, 3) := dk_180 0 14 (dk_at dksX6_four_0 8 rfl rfl)
theorem dX6_four_11 : decode cX6_four 11 = .ok (.aload_n 0, 1) := dk_42 (dk_at dksX6_four_0 11 rfl rfl)
theorem dX6_four_12 : decode cX6_four 12 = .ok (.getfield 7, 3) := dk_180 0 7 (dk_at dksX6_four_0 12 rfl rfl)
theorem dX6_four_15 : decode cX6_four 15 = .ok (.iload_n 1, 1) := dk_27 (dk_at dksX6_four_0 15 rfl rfl)
theorem dX6_four_16 : decode cX6_four 16 = .ok (.iload_n 2, 1) := dk_28 (dk_at dksX6_four_0 16 rfl rfl)
theorem dX6_four_17 : decode cX6_four 17 = .ok (.ishr, 1) := dk_122 (dk_at dksX6_four_0 17 rfl rfl)
theorem dX6_four_18 : decode cX6_four 18 = .ok (.i2b, 1) := dk_145 (dk_at dksX6_four_0 18 rfl rfl)
theorem dX6_four_19 : decode cX6_four 19 = .ok (.bastore, 1) := dk_84 (dk_at dksX6_four_0 19 rfl rfl)
theorem dX6_four_20 : decode cX6_four 20 = .ok (.aload_n 0, 1) := dk_42 (dk_at dksX6_four_0 20 rfl rfl)
theorem dX6_four_21 : decode cX6_four 21 = .ok (.dup, 1) := dk_89 (dk_at dksX6_four_0 21 rfl rfl)
theorem dX6_four_22 : decode cX6_four 22 = .ok (.getfield 7, 3) := dk_180 0 7 (dk_at dksX6_four_1 0 rfl rfl)
theorem dX6_four_25 : decode cX6_four 25 = .ok (.iconst 1, 1) := dk_4 (dk_at dksX6_four_1 3 rfl rfl)
theorem dX6_four_26 : decode cX6_four 26 = .ok (.iadd, 1) := dk_96 (dk_at dksX6_four_1 4 rfl rfl)
theorem dX6_four_27 : decode cX6_four 27 = .ok (.putfield 7, 3) := dk_181 0 7 (dk_at dksX6_four_1 5 rfl rfl)
theorem dX6_four_30 : decode cX6_four 30 = .ok (.iinc 2 (-8), 3) := dk_132 2 248 (dk_at dksX6_four_1 8 rfl rfl)
theorem dX6_four_33 : decode cX6_four 33 = .ok (.goto (-30), 3) := dk_167 255 226 (dk_at dksX6_four_1 11 rfl rfl)
theorem dX6_four_36 : decode cX6_four 36 = .ok (.return_, 1) := dk_177 (dk_at dksX6_four_1 14 rfl rfl)
abbrev cX6_end : ByteArray := prog_25_method_5_code
def yX6_end : MethodName := ⟨RX6, "end", "(I)Z"⟩
def dkwX6_end_1 : List UInt8 := [4, 172]
abbrev dktX6_end_1 : List UInt8 := dkwX6_end_1 ++ []
def dkwX6_end_0 : List UInt8 := [42, 3, 181, 0, 1, 27, 155, 0, 11, 27, 42, 180, 0, 7, 164, 0, 5, 3, 172, 42, 27, 181, 0, 7]
abbrev dktX6_end_0 : List UInt8 := dkwX6_end_0 ++ dktX6_end_1
theorem dksX6_end_0 : cX6_end.data.toList.drop 0 = dktX6_end_0 := by decide +kernel
theorem dksX6_end_1 : cX6_end.data.toList.drop 24 = dktX6_end_1 := dk_seg dksX6_end_0 24 rfl rfl
theorem dX6_end_0 : decode cX6_end 0 = .ok (.aload_n 0, 1) := dk_42 (dk_at dksX6_end_0 0 rfl rfl)
theorem dX6_end_1 : decode cX6_end 1 = .ok (.iconst 0, 1) := dk_3 (dk_at dksX6_end_0 1 rfl rfl)
theorem dX6_end_2 : decode cX6_end 2 = .ok (.putfield 1, 3) := dk_181 0 1 (dk_at dksX6_end_0 2 rfl rfl)
theorem dX6_end_5 : decode cX6_end 5 = .ok (.iload_n 1, 1) := dk_27 (dk_at dksX6_end_0 5 rfl rfl)
theorem dX6_end_6 : decode cX6_end 6 = .ok (.ifCond .lt 11, 3) := dk_155 0 11 (dk_at dksX6_end_0 6 rfl rfl)
theorem dX6_end_9 : decode cX6_end 9 = .ok (.iload_n 1, 1) := dk_27 (dk_at dksX6_end_0 9 rfl rfl)
theorem dX6_end_10 : decode cX6_end 10 = .ok (.aload_n 0, 1) := dk_42 (dk_at dksX6_end_0 10 rfl rfl)
theorem dX6_end_11 : decode cX6_end 11 = .ok (.getfield 7, 3) := dk_180 0 7 (dk_at dksX6_end_0 11 rfl rfl)
theorem dX6_end_14 : decode cX6_end 14 = .ok (.if_icmp .le 5, 3) := dk_164 0 5 (dk_at dksX6_end_0 14 rfl rfl)
theorem dX6_end_17 : decode cX6_end 17 = .ok (.iconst 0, 1) := dk_3 (dk_at dksX6_end_0 17 rfl rfl)
theorem dX6_end_18 : decode cX6_end 18 = .ok (.ireturn, 1) := dk_172 (dk_at dksX6_end_0 18 rfl rfl)
theorem dX6_end_19 : decode cX6_end 19 = .ok (.aload_n 0, 1) := dk_42 (dk_at dksX6_end_0 19 rfl rfl)
theorem dX6_end_20 : decode cX6_end 20 = .ok (.iload_n 1, 1) := dk_27 (dk_at dksX6_end_0 20 rfl rfl)
theorem dX6_end_21 : decode cX6_end 21 = .ok (.putfield 7, 3) := dk_181 0 7 (dk_at dksX6_end_0 21 rfl rfl)
theorem dX6_end_24 : decode cX6_end 24 = .ok (.iconst 1, 1) := dk_4 (dk_at dksX6_end_1 0 rfl rfl)
theorem dX6_end_25 : decode cX6_end 25 = .ok (.ireturn, 1) := dk_172 (dk_at dksX6_end_1 1 rfl rfl)
abbrev cX6_init : ByteArray := prog_25_method_9_code
def yX6_init : MethodName := ⟨RX6, "<init>", "()V"⟩
def dkwX6_init_17 : List UInt8 := [42, 180, 0, 50, 16, 20, 20, 0, 145, 80, 42, 180, 0, 33, 3, 4, 79, 177]
abbrev dktX6_init_17 : List UInt8 := dkwX6_init_17 ++ []
def dkwX6_init_16 : List UInt8 := [20, 0, 139, 80, 42, 180, 0, 50, 16, 18, 20, 0, 141, 80, 42, 180, 0, 50, 16, 19, 20, 0, 143, 80]
abbrev dktX6_init_16 : List UInt8 := dkwX6_init_16 ++ dktX6_init_17
def dkwX6_init_15 : List UInt8 := [16, 15, 20, 0, 135, 80, 42, 180, 0, 50, 16, 16, 20, 0, 137, 80, 42, 180, 0, 50, 16, 17]
abbrev dktX6_init_15 : List UInt8 := dkwX6_init_15 ++ dktX6_init_16
def dkwX6_init_14 : List UInt8 := [42, 180, 0, 50, 16, 13, 20, 0, 131, 80, 42, 180, 0, 50, 16, 14, 20, 0, 133, 80, 42, 180, 0, 50]
abbrev dktX6_init_14 : List UInt8 := dkwX6_init_14 ++ dktX6_init_15
def dkwX6_init_13 : List UInt8 := [20, 0, 125, 80, 42, 180, 0, 50, 16, 11, 20, 0, 127, 80, 42, 180, 0, 50, 16, 12, 20, 0, 129, 80]
abbrev dktX6_init_13 : List UInt8 := dkwX6_init_13 ++ dktX6_init_14
def dkwX6_init_12 : List UInt8 := [16, 8, 20, 0, 121, 80, 42, 180, 0, 50, 16, 9, 20, 0, 123, 80, 42, 180, 0, 50, 16, 10]
abbrev dktX6_init_12 : List UInt8 := dkwX6_init_12 ++ dktX6_init_13
def dkwX6_init_11 : List UInt8 := [180, 0, 50, 16, 6, 20, 0, 117, 80, 42, 180, 0, 50, 16, 7, 20, 0, 119, 80, 42, 180, 0, 50]
abbrev dktX6_init_11 : List UInt8 := dkwX6_init_11 ++ dktX6_init_12
def dkwX6_init_10 : List UInt8 := [20, 0, 111, 80, 42, 180, 0, 50, 7, 20, 0, 113, 80, 42, 180, 0, 50, 8, 20, 0, 115, 80, 42]
abbrev dktX6_init_10 : List UInt8 := dkwX6_init_10 ++ dktX6_init_11
def dkwX6_init_9 : List UInt8 := [180, 0, 50, 4, 20, 0, 107, 80, 42, 180, 0, 50, 5, 20, 0, 109, 80, 42, 180, 0, 50, 6]
abbrev dktX6_init_9 : List UInt8 := dkwX6_init_9 ++ dktX6_init_10
def dkwX6_init_8 : List UInt8 := [188, 11, 181, 0, 99, 42, 5, 188, 4, 181, 0, 102, 42, 180, 0, 50, 3, 20, 0, 105, 80, 42]
abbrev dktX6_init_8 : List UInt8 := dkwX6_init_8 ++ dktX6_init_9
def dkwX6_init_7 : List UInt8 := [181, 0, 89, 42, 16, 45, 188, 4, 181, 0, 92, 42, 17, 2, 208, 188, 10, 181, 0, 96, 42, 16, 56]
abbrev dktX6_init_7 : List UInt8 := dkwX6_init_7 ++ dktX6_init_8
def dkwX6_init_6 : List UInt8 := [181, 0, 80, 42, 16, 30, 188, 8, 181, 0, 83, 42, 7, 188, 10, 181, 0, 86, 42, 16, 45, 188, 10]
abbrev dktX6_init_6 : List UInt8 := dkwX6_init_6 ++ dktX6_init_7
def dkwX6_init_5 : List UInt8 := [17, 0, 222, 188, 10, 181, 0, 71, 42, 17, 0, 222, 188, 10, 181, 0, 74, 42, 2, 181, 0, 77, 42, 2]
abbrev dktX6_init_5 : List UInt8 := dkwX6_init_5 ++ dktX6_init_6
def dkwX6_init_4 : List UInt8 := [188, 10, 181, 0, 62, 42, 16, 20, 188, 10, 181, 0, 65, 42, 17, 6, 240, 188, 10, 181, 0, 68, 42]
abbrev dktX6_init_4 : List UInt8 := dkwX6_init_4 ++ dktX6_init_5
def dkwX6_init_3 : List UInt8 := [181, 0, 53, 42, 16, 20, 188, 10, 181, 0, 56, 42, 17, 1, 144, 188, 10, 181, 0, 59, 42, 16, 20]
abbrev dktX6_init_3 : List UInt8 := dkwX6_init_3 ++ dktX6_init_4
def dkwX6_init_2 : List UInt8 := [181, 0, 43, 42, 16, 56, 188, 11, 181, 0, 46, 42, 16, 21, 188, 11, 181, 0, 50, 42, 16, 20, 188, 10]
abbrev dktX6_init_2 : List UInt8 := dkwX6_init_2 ++ dktX6_init_3
def dkwX6_init_1 : List UInt8 := [16, 72, 188, 10, 181, 0, 37, 42, 17, 0, 135, 188, 10, 181, 0, 40, 42, 17, 0, 164, 188, 10]
abbrev dktX6_init_1 : List UInt8 := dkwX6_init_1 ++ dktX6_init_2
def dkwX6_init_0 : List UInt8 := [42, 183, 0, 27, 42, 17, 3, 172, 188, 8, 181, 0, 14, 42, 17, 1, 104, 188, 10, 181, 0, 33, 42]
abbrev dktX6_init_0 : List UInt8 := dkwX6_init_0 ++ dktX6_init_1
theorem dksX6_init_0 : cX6_init.data.toList.drop 0 = dktX6_init_0 := by decide +kernel
theorem dksX6_init_1 : cX6_init.data.toList.drop 23 = dktX6_init_1 := dk_seg dksX6_init_0 23 rfl rfl
theorem dksX6_init_2 : cX6_init.data.toList.drop 45 = dktX6_init_2 := dk_seg dksX6_init_1 22 rfl rfl
theorem dksX6_init_3 : cX6_init.data.toList.drop 69 = dktX6_init_3 := dk_seg dksX6_init_2 24 rfl rfl
theorem dksX6_init_4 : cX6_init.data.toList.drop 92 = dktX6_init_4 := dk_seg dksX6_init_3 23 rfl rfl
theorem dksX6_init_5 : cX6_init.data.toList.drop 115 = dktX6_init_5 := dk_seg dksX6_init_4 23 rfl rfl
theorem dksX6_init_6 : cX6_init.data.toList.drop 139 = dktX6_init_6 := dk_seg dksX6_init_5 24 rfl rfl
theorem dksX6_init_7 : cX6_init.data.toList.drop 162 = dktX6_init_7 := dk_seg dksX6_init_6 23 rfl rfl
theorem dksX6_init_8 : cX6_init.data.toList.drop 185 = dktX6_init_8 := dk_seg dksX6_init_7 23 rfl rfl
theorem dksX6_init_9 : cX6_init.data.toList.drop 207 = dktX6_init_9 := dk_seg dksX6_init_8 22 rfl rfl
theorem dksX6_init_10 : cX6_init.data.toList.drop 229 = dktX6_init_10 := dk_seg dksX6_init_9 22 rfl rfl
theorem dksX6_init_11 : cX6_init.data.toList.drop 252 = dktX6_init_11 := dk_seg dksX6_init_10 23 rfl rfl
theorem dksX6_init_12 : cX6_init.data.toList.drop 275 = dktX6_init_12 := dk_seg dksX6_init_11 23 rfl rfl
theorem dksX6_init_13 : cX6_init.data.toList.drop 297 = dktX6_init_13 := dk_seg dksX6_init_12 22 rfl rfl
theorem dksX6_init_14 : cX6_init.data.toList.drop 321 = dktX6_init_14 := dk_seg dksX6_init_13 24 rfl rfl
theorem dksX6_init_15 : cX6_init.data.toList.drop 345 = dktX6_init_15 := dk_seg dksX6_init_14 24 rfl rfl
theorem dksX6_init_16 : cX6_init.data.toList.drop 367 = dktX6_init_16 := dk_seg dksX6_init_15 22 rfl rfl
theorem dksX6_init_17 : cX6_init.data.toList.drop 391 = dktX6_init_17 := dk_seg dksX6_init_16 24 rfl rfl
theorem dX6_init_0 : decode cX6_init 0 = .ok (.aload_n 0, 1) := dk_42 (dk_at dksX6_init_0 0 rfl rfl)
theorem dX6_init_1 : decode cX6_init 1 = .ok (.invokespecial 27, 3) := dk_183 0 27 (dk_at dksX6_init_0 1 rfl rfl)
theorem dX6_init_4 : decode cX6_init 4 = .ok (.aload_n 0, 1) := dk_42 (dk_at dksX6_init_0 4 rfl rfl)
theorem dX6_init_5 : decode cX6_init 5 = .ok (.sipush 940, 3) := dk_17 3 172 (dk_at dksX6_init_0 5 rfl rfl)
theorem dX6_init_8 : decode cX6_init 8 = .ok (.newarray .byte, 2) := dk_188_8 (dk_at dksX6_init_0 8 rfl rfl)
theorem dX6_init_10 : decode cX6_init 10 = .ok (.putfield 14, 3) := dk_181 0 14 (dk_at dksX6_init_0 10 rfl rfl)
theorem dX6_init_13 : decode cX6_init 13 = .ok (.aload_n 0, 1) := dk_42 (dk_at dksX6_init_0 13 rfl rfl)
theorem dX6_init_14 : decode cX6_init 14 = .ok (.sipush 360, 3) := dk_17 1 104 (dk_at dksX6_init_0 14 rfl rfl)
theorem dX6_init_17 : decode cX6_init 17 = .ok (.newarray .int, 2) := dk_188_10 (dk_at dksX6_init_0 17 rfl rfl)
theorem dX6_init_19 : decode cX6_init 19 = .ok (.putfield 33, 3) := dk_181 0 33 (dk_at dksX6_init_0 19 rfl rfl)
theorem dX6_init_22 : decode cX6_init 22 = .ok (.aload_n 0, 1) := dk_42 (dk_at dksX6_init_0 22 rfl rfl)
theorem dX6_init_23 : decode cX6_init 23 = .ok (.bipush 72, 2) := dk_16 72 (dk_at dksX6_init_1 0 rfl rfl)
theorem dX6_init_25 : decode cX6_init 25 = .ok (.newarray .int, 2) := dk_188_10 (dk_at dksX6_init_1 2 rfl rfl)
theorem dX6_init_27 : decode cX6_init 27 = .ok (.putfield 37, 3) := dk_181 0 37 (dk_at dksX6_init_1 4 rfl rfl)
theorem dX6_init_30 : decode cX6_init 30 = .ok (.aload_n 0, 1) := dk_42 (dk_at dksX6_init_1 7 rfl rfl)
theorem dX6_init_31 : decode cX6_init 31 = .ok (.sipush 135, 3) := dk_17 0 135 (dk_at dksX6_init_1 8 rfl rfl)
theorem dX6_init_34 : decode cX6_init 34 = .ok (.newarray .int, 2) := dk_188_10 (dk_at dksX6_init_1 11 rfl rfl)
theorem dX6_init_36 : decode cX6_init 36 = .ok (.putfield 40, 3) := dk_181 0 40 (dk_at dksX6_init_1 13 rfl rfl)
theorem dX6_init_39 : decode cX6_init 39 = .ok (.aload_n 0, 1) := dk_42 (dk_at dksX6_init_1 16 rfl rfl)
theorem dX6_init_40 : decode cX6_init 40 = .ok (.sipush 164, 3) := dk_17 0 164 (dk_at dksX6_init_1 17 rfl rfl)
theorem dX6_init_43 : decode cX6_init 43 = .ok (.newarray .int, 2) := dk_188_10 (dk_at dksX6_init_1 20 rfl rfl)
theorem dX6_init_45 : decode cX6_init 45 = .ok (.putfield 43, 3) := dk_181 0 43 (dk_at dksX6_init_2 0 rfl rfl)
theorem dX6_init_48 : decode cX6_init 48 = .ok (.aload_n 0, 1) := dk_42 (dk_at dksX6_init_2 3 rfl rfl)
theorem dX6_init_49 : decode cX6_init 49 = .ok (.bipush 56, 2) := dk_16 56 (dk_at dksX6_init_2 4 rfl rfl)
theorem dX6_init_51 : decode cX6_init 51 = .ok (.newarray .long, 2) := dk_188_11 (dk_at dksX6_init_2 6 rfl rfl)
theorem dX6_init_53 : decode cX6_init 53 = .ok (.putfield 46, 3) := dk_181 0 46 (dk_at dksX6_init_2 8 rfl rfl)
theorem dX6_init_56 : decode cX6_init 56 = .ok (.aload_n 0, 1) := dk_42 (dk_at dksX6_init_2 11 rfl rfl)
theorem dX6_init_57 : decode cX6_init 57 = .ok (.bipush 21, 2) := dk_16 21 (dk_at dksX6_init_2 12 rfl rfl)
theorem dX6_init_59 : decode cX6_init 59 = .ok (.newarray .long, 2) := dk_188_11 (dk_at dksX6_init_2 14 rfl rfl)
theorem dX6_init_61 : decode cX6_init 61 = .ok (.putfield 50, 3) := dk_181 0 50 (dk_at dksX6_init_2 16 rfl rfl)
theorem dX6_init_64 : decode cX6_init 64 = .ok (.aload_n 0, 1) := dk_42 (dk_at dksX6_init_2 19 rfl rfl)
theorem dX6_init_65 : decode cX6_init 65 = .ok (.bipush 20, 2) := dk_16 20 (dk_at dksX6_init_2 20 rfl rfl)
theorem dX6_init_67 : decode cX6_init 67 = .ok (.newarray .int, 2) := dk_188_10 (dk_at dksX6_init_2 22 rfl rfl)
theorem dX6_init_69 : decode cX6_init 69 = .ok (.putfield 53, 3) := dk_181 0 53 (dk_at dksX6_init_3 0 rfl rfl)
theorem dX6_init_72 : decode cX6_init 72 = .ok (.aload_n 0, 1) := dk_42 (dk_at dksX6_init_3 3 rfl rfl)
theorem dX6_init_73 : decode cX6_init 73 = .ok (.bipush 20, 2) := dk_16 20 (dk_at dksX6_init_3 4 rfl rfl)
theorem dX6_init_75 : decode cX6_init 75 = .ok (.newarray .int, 2) := dk_188_10 (dk_at dksX6_init_3 6 rfl rfl)
theorem dX6_init_77 : decode cX6_init 77 = .ok (.putfield 56, 3) := dk_181 0 56 (dk_at dksX6_init_3 8 rfl rfl)
theorem dX6_init_80 : decode cX6_init 80 = .ok (.aload_n 0, 1) := dk_42 (dk_at dksX6_init_3 11 rfl rfl)
theorem dX6_init_81 : decode cX6_init 81 = .ok (.sipush 400, 3) := dk_17 1 144 (dk_at dksX6_init_3 12 rfl rfl)
theorem dX6_init_84 : decode cX6_init 84 = .ok (.newarray .int, 2) := dk_188_10 (dk_at dksX6_init_3 15 rfl rfl)
theorem dX6_init_86 : decode cX6_init 86 = .ok (.putfield 59, 3) := dk_181 0 59 (dk_at dksX6_init_3 17 rfl rfl)
theorem dX6_init_89 : decode cX6_init 89 = .ok (.aload_n 0, 1) := dk_42 (dk_at dksX6_init_3 20 rfl rfl)
theorem dX6_init_90 : decode cX6_init 90 = .ok (.bipush 20, 2) := dk_16 20 (dk_at dksX6_init_3 21 rfl rfl)
theorem dX6_init_92 : decode cX6_init 92 = .ok (.newarray .int, 2) := dk_188_10 (dk_at dksX6_init_4 0 rfl rfl)
theorem dX6_init_94 : decode cX6_init 94 = .ok (.putfield 62, 3) := dk_181 0 62 (dk_at dksX6_init_4 2 rfl rfl)
theorem dX6_init_97 : decode cX6_init 97 = .ok (.aload_n 0, 1) := dk_42 (dk_at dksX6_init_4 5 rfl rfl)
theorem dX6_init_98 : decode cX6_init 98 = .ok (.bipush 20, 2) := dk_16 20 (dk_at dksX6_init_4 6 rfl rfl)
theorem dX6_init_100 : decode cX6_init 100 = .ok (.newarray .int, 2) := dk_188_10 (dk_at dksX6_init_4 8 rfl rfl)
theorem dX6_init_102 : decode cX6_init 102 = .ok (.putfield 65, 3) := dk_181 0 65 (dk_at dksX6_init_4 10 rfl rfl)
theorem dX6_init_105 : decode cX6_init 105 = .ok (.aload_n 0, 1) := dk_42 (dk_at dksX6_init_4 13 rfl rfl)
theorem dX6_init_106 : decode cX6_init 106 = .ok (.sipush 1776, 3) := dk_17 6 240 (dk_at dksX6_init_4 14 rfl rfl)
theorem dX6_init_109 : decode cX6_init 109 = .ok (.newarray .int, 2) := dk_188_10 (dk_at dksX6_init_4 17 rfl rfl)
theorem dX6_init_111 : decode cX6_init 111 = .ok (.putfield 68, 3) := dk_181 0 68 (dk_at dksX6_init_4 19 rfl rfl)
theorem dX6_init_114 : decode cX6_init 114 = .ok (.aload_n 0, 1) := dk_42 (dk_at dksX6_init_4 22 rfl rfl)
theorem dX6_init_115 : decode cX6_init 115 = .ok (.sipush 222, 3) := dk_17 0 222 (dk_at dksX6_init_5 0 rfl rfl)
theorem dX6_init_118 : decode cX6_init 118 = .ok (.newarray .int, 2) := dk_188_10 (dk_at dksX6_init_5 3 rfl rfl)
theorem dX6_init_120 : decode cX6_init 120 = .ok (.putfield 71, 3) := dk_181 0 71 (dk_at dksX6_init_5 5 rfl rfl)
theorem dX6_init_123 : decode cX6_init 123 = .ok (.aload_n 0, 1) := dk_42 (dk_at dksX6_init_5 8 rfl rfl)
theorem dX6_init_124 : decode cX6_init 124 = .ok (.sipush 222, 3) := dk_17 0 222 (dk_at dksX6_init_5 9 rfl rfl)
theorem dX6_init_127 : decode cX6_init 127 = .ok (.newarray .int, 2) := dk_188_10 (dk_at dksX6_init_5 12 rfl rfl)
theorem dX6_init_129 : decode cX6_init 129 = .ok (.putfield 74, 3) := dk_181 0 74 (dk_at dksX6_init_5 14 rfl rfl)
theorem dX6_init_132 : decode cX6_init 132 = .ok (.aload_n 0, 1) := dk_42 (dk_at dksX6_init_5 17 rfl rfl)
theorem dX6_init_133 : decode cX6_init 133 = .ok (.iconst (-1), 1) := dk_2 (dk_at dksX6_init_5 18 rfl rfl)
theorem dX6_init_134 : decode cX6_init 134 = .ok (.putfield 77, 3) := dk_181 0 77 (dk_at dksX6_init_5 19 rfl rfl)
theorem dX6_init_137 : decode cX6_init 137 = .ok (.aload_n 0, 1) := dk_42 (dk_at dksX6_init_5 22 rfl rfl)
theorem dX6_init_138 : decode cX6_init 138 = .ok (.iconst (-1), 1) := dk_2 (dk_at dksX6_init_5 23 rfl rfl)
theorem dX6_init_139 : decode cX6_init 139 = .ok (.putfield 80, 3) := dk_181 0 80 (dk_at dksX6_init_6 0 rfl rfl)
theorem dX6_init_142 : decode cX6_init 142 = .ok (.aload_n 0, 1) := dk_42 (dk_at dksX6_init_6 3 rfl rfl)
theorem dX6_init_143 : decode cX6_init 143 = .ok (.bipush 30, 2) := dk_16 30 (dk_at dksX6_init_6 4 rfl rfl)
theorem dX6_init_145 : decode cX6_init 145 = .ok (.newarray .byte, 2) := dk_188_8 (dk_at dksX6_init_6 6 rfl rfl)
theorem dX6_init_147 : decode cX6_init 147 = .ok (.putfield 83, 3) := dk_181 0 83 (dk_at dksX6_init_6 8 rfl rfl)
theorem dX6_init_150 : decode cX6_init 150 = .ok (.aload_n 0, 1) := dk_42 (dk_at dksX6_init_6 11 rfl rfl)
theorem dX6_init_151 : decode cX6_init 151 = .ok (.iconst 4, 1) := dk_7 (dk_at dksX6_init_6 12 rfl rfl)
theorem dX6_init_152 : decode cX6_init 152 = .ok (.newarray .int, 2) := dk_188_10 (dk_at dksX6_init_6 13 rfl rfl)
theorem dX6_init_154 : decode cX6_init 154 = .ok (.putfield 86, 3) := dk_181 0 86 (dk_at dksX6_init_6 15 rfl rfl)
theorem dX6_init_157 : decode cX6_init 157 = .ok (.aload_n 0, 1) := dk_42 (dk_at dksX6_init_6 18 rfl rfl)
theorem dX6_init_158 : decode cX6_init 158 = .ok (.bipush 45, 2) := dk_16 45 (dk_at dksX6_init_6 19 rfl rfl)
theorem dX6_init_160 : decode cX6_init 160 = .ok (.newarray .int, 2) := dk_188_10 (dk_at dksX6_init_6 21 rfl rfl)
theorem dX6_init_162 : decode cX6_init 162 = .ok (.putfield 89, 3) := dk_181 0 89 (dk_at dksX6_init_7 0 rfl rfl)
theorem dX6_init_165 : decode cX6_init 165 = .ok (.aload_n 0, 1) := dk_42 (dk_at dksX6_init_7 3 rfl rfl)
theorem dX6_init_166 : decode cX6_init 166 = .ok (.bipush 45, 2) := dk_16 45 (dk_at dksX6_init_7 4 rfl rfl)
theorem dX6_init_168 : decode cX6_init 168 = .ok (.newarray .boolean, 2) := dk_188_4 (dk_at dksX6_init_7 6 rfl rfl)
theorem dX6_init_170 : decode cX6_init 170 = .ok (.putfield 92, 3) := dk_181 0 92 (dk_at dksX6_init_7 8 rfl rfl)
theorem dX6_init_173 : decode cX6_init 173 = .ok (.aload_n 0, 1) := dk_42 (dk_at dksX6_init_7 11 rfl rfl)
theorem dX6_init_174 : decode cX6_init 174 = .ok (.sipush 720, 3) := dk_17 2 208 (dk_at dksX6_init_7 12 rfl rfl)
theorem dX6_init_177 : decode cX6_init 177 = .ok (.newarray .int, 2) := dk_188_10 (dk_at dksX6_init_7 15 rfl rfl)
theorem dX6_init_179 : decode cX6_init 179 = .ok (.putfield 96, 3) := dk_181 0 96 (dk_at dksX6_init_7 17 rfl rfl)
theorem dX6_init_182 : decode cX6_init 182 = .ok (.aload_n 0, 1) := dk_42 (dk_at dksX6_init_7 20 rfl rfl)
theorem dX6_init_183 : decode cX6_init 183 = .ok (.bipush 56, 2) := dk_16 56 (dk_at dksX6_init_7 21 rfl rfl)
theorem dX6_init_185 : decode cX6_init 185 = .ok (.newarray .long, 2) := dk_188_11 (dk_at dksX6_init_8 0 rfl rfl)
theorem dX6_init_187 : decode cX6_init 187 = .ok (.putfield 99, 3) := dk_181 0 99 (dk_at dksX6_init_8 2 rfl rfl)
theorem dX6_init_190 : decode cX6_init 190 = .ok (.aload_n 0, 1) := dk_42 (dk_at dksX6_init_8 5 rfl rfl)
theorem dX6_init_191 : decode cX6_init 191 = .ok (.iconst 2, 1) := dk_5 (dk_at dksX6_init_8 6 rfl rfl)
theorem dX6_init_192 : decode cX6_init 192 = .ok (.newarray .boolean, 2) := dk_188_4 (dk_at dksX6_init_8 7 rfl rfl)
theorem dX6_init_194 : decode cX6_init 194 = .ok (.putfield 102, 3) := dk_181 0 102 (dk_at dksX6_init_8 9 rfl rfl)
theorem dX6_init_197 : decode cX6_init 197 = .ok (.aload_n 0, 1) := dk_42 (dk_at dksX6_init_8 12 rfl rfl)
theorem dX6_init_198 : decode cX6_init 198 = .ok (.getfield 50, 3) := dk_180 0 50 (dk_at dksX6_init_8 13 rfl rfl)
theorem dX6_init_201 : decode cX6_init 201 = .ok (.iconst 0, 1) := dk_3 (dk_at dksX6_init_8 16 rfl rfl)
theorem dX6_init_202 : decode cX6_init 202 = .ok (.ldc2_w 105, 3) := dk_20 0 105 (dk_at dksX6_init_8 17 rfl rfl)
theorem dX6_init_205 : decode cX6_init 205 = .ok (.lastore, 1) := dk_80 (dk_at dksX6_init_8 20 rfl rfl)
theorem dX6_init_206 : decode cX6_init 206 = .ok (.aload_n 0, 1) := dk_42 (dk_at dksX6_init_8 21 rfl rfl)
theorem dX6_init_207 : decode cX6_init 207 = .ok (.getfield 50, 3) := dk_180 0 50 (dk_at dksX6_init_9 0 rfl rfl)
theorem dX6_init_210 : decode cX6_init 210 = .ok (.iconst 1, 1) := dk_4 (dk_at dksX6_init_9 3 rfl rfl)
theorem dX6_init_211 : decode cX6_init 211 = .ok (.ldc2_w 107, 3) := dk_20 0 107 (dk_at dksX6_init_9 4 rfl rfl)
theorem dX6_init_214 : decode cX6_init 214 = .ok (.lastore, 1) := dk_80 (dk_at dksX6_init_9 7 rfl rfl)
theorem dX6_init_215 : decode cX6_init 215 = .ok (.aload_n 0, 1) := dk_42 (dk_at dksX6_init_9 8 rfl rfl)
theorem dX6_init_216 : decode cX6_init 216 = .ok (.getfield 50, 3) := dk_180 0 50 (dk_at dksX6_init_9 9 rfl rfl)
theorem dX6_init_219 : decode cX6_init 219 = .ok (.iconst 2, 1) := dk_5 (dk_at dksX6_init_9 12 rfl rfl)
theorem dX6_init_220 : decode cX6_init 220 = .ok (.ldc2_w 109, 3) := dk_20 0 109 (dk_at dksX6_init_9 13 rfl rfl)
theorem dX6_init_223 : decode cX6_init 223 = .ok (.lastore, 1) := dk_80 (dk_at dksX6_init_9 16 rfl rfl)
theorem dX6_init_224 : decode cX6_init 224 = .ok (.aload_n 0, 1) := dk_42 (dk_at dksX6_init_9 17 rfl rfl)
theorem dX6_init_225 : decode cX6_init 225 = .ok (.getfield 50, 3) := dk_180 0 50 (dk_at dksX6_init_9 18 rfl rfl)
theorem dX6_init_228 : decode cX6_init 228 = .ok (.iconst 3, 1) := dk_6 (dk_at dksX6_init_9 21 rfl rfl)
theorem dX6_init_229 : decode cX6_init 229 = .ok (.ldc2_w 111, 3) := dk_20 0 111 (dk_at dksX6_init_10 0 rfl rfl)
theorem dX6_init_232 : decode cX6_init 232 = .ok (.lastore, 1) := dk_80 (dk_at dksX6_init_10 3 rfl rfl)
theorem dX6_init_233 : decode cX6_init 233 = .ok (.aload_n 0, 1) := dk_42 (dk_at dksX6_init_10 4 rfl rfl)
theorem dX6_init_234 : decode cX6_init 234 = .ok (.getfield 50, 3) := dk_180 0 50 (dk_at dksX6_init_10 5 rfl rfl)
theorem dX6_init_237 : decode cX6_init 237 = .ok (.iconst 4, 1) := dk_7 (dk_at dksX6_init_10 8 rfl rfl)
theorem dX6_init_238 : decode cX6_init 238 = .ok (.ldc2_w 113, 3) := dk_20 0 113 (dk_at dksX6_init_10 9 rfl rfl)
theorem dX6_init_241 : decode cX6_init 241 = .ok (.lastore, 1) := dk_80 (dk_at dksX6_init_10 12 rfl rfl)
theorem dX6_init_242 : decode cX6_init 242 = .ok (.aload_n 0, 1) := dk_42 (dk_at dksX6_init_10 13 rfl rfl)
theorem dX6_init_243 : decode cX6_init 243 = .ok (.getfield 50, 3) := dk_180 0 50 (dk_at dksX6_init_10 14 rfl rfl)
theorem dX6_init_246 : decode cX6_init 246 = .ok (.iconst 5, 1) := dk_8 (dk_at dksX6_init_10 17 rfl rfl)
theorem dX6_init_247 : decode cX6_init 247 = .ok (.ldc2_w 115, 3) := dk_20 0 115 (dk_at dksX6_init_10 18 rfl rfl)
theorem dX6_init_250 : decode cX6_init 250 = .ok (.lastore, 1) := dk_80 (dk_at dksX6_init_10 21 rfl rfl)
theorem dX6_init_251 : decode cX6_init 251 = .ok (.aload_n 0, 1) := dk_42 (dk_at dksX6_init_10 22 rfl rfl)
theorem dX6_init_252 : decode cX6_init 252 = .ok (.getfield 50, 3) := dk_180 0 50 (dk_at dksX6_init_11 0 rfl rfl)
theorem dX6_init_255 : decode cX6_init 255 = .ok (.bipush 6, 2) := dk_16 6 (dk_at dksX6_init_11 3 rfl rfl)
theorem dX6_init_257 : decode cX6_init 257 = .ok (.ldc2_w 117, 3) := dk_20 0 117 (dk_at dksX6_init_11 5 rfl rfl)
theorem dX6_init_260 : decode cX6_init 260 = .ok (.lastore, 1) := dk_80 (dk_at dksX6_init_11 8 rfl rfl)
theorem dX6_init_261 : decode cX6_init 261 = .ok (.aload_n 0, 1) := dk_42 (dk_at dksX6_init_11 9 rfl rfl)
theorem dX6_init_262 : decode cX6_init 262 = .ok (.getfield 50, 3) := dk_180 0 50 (dk_at dksX6_init_11 10 rfl rfl)
theorem dX6_init_265 : decode cX6_init 265 = .ok (.bipush 7, 2) := dk_16 7 (dk_at dksX6_init_11 13 rfl rfl)
theorem dX6_init_267 : decode cX6_init 267 = .ok (.ldc2_w 119, 3) := dk_20 0 119 (dk_at dksX6_init_11 15 rfl rfl)
theorem dX6_init_270 : decode cX6_init 270 = .ok (.lastore, 1) := dk_80 (dk_at dksX6_init_11 18 rfl rfl)
theorem dX6_init_271 : decode cX6_init 271 = .ok (.aload_n 0, 1) := dk_42 (dk_at dksX6_init_11 19 rfl rfl)
theorem dX6_init_272 : decode cX6_init 272 = .ok (.getfield 50, 3) := dk_180 0 50 (dk_at dksX6_init_11 20 rfl rfl)
theorem dX6_init_275 : decode cX6_init 275 = .ok (.bipush 8, 2) := dk_16 8 (dk_at dksX6_init_12 0 rfl rfl)
theorem dX6_init_277 : decode cX6_init 277 = .ok (.ldc2_w 121, 3) := dk_20 0 121 (dk_at dksX6_init_12 2 rfl rfl)
theorem dX6_init_280 : decode cX6_init 280 = .ok (.lastore, 1) := dk_80 (dk_at dksX6_init_12 5 rfl rfl)
theorem dX6_init_281 : decode cX6_init 281 = .ok (.aload_n 0, 1) := dk_42 (dk_at dksX6_init_12 6 rfl rfl)
theorem dX6_init_282 : decode cX6_init 282 = .ok (.getfield 50, 3) := dk_180 0 50 (dk_at dksX6_init_12 7 rfl rfl)
theorem dX6_init_285 : decode cX6_init 285 = .ok (.bipush 9, 2) := dk_16 9 (dk_at dksX6_init_12 10 rfl rfl)
theorem dX6_init_287 : decode cX6_init 287 = .ok (.ldc2_w 123, 3) := dk_20 0 123 (dk_at dksX6_init_12 12 rfl rfl)
theorem dX6_init_290 : decode cX6_init 290 = .ok (.lastore, 1) := dk_80 (dk_at dksX6_init_12 15 rfl rfl)
theorem dX6_init_291 : decode cX6_init 291 = .ok (.aload_n 0, 1) := dk_42 (dk_at dksX6_init_12 16 rfl rfl)
theorem dX6_init_292 : decode cX6_init 292 = .ok (.getfield 50, 3) := dk_180 0 50 (dk_at dksX6_init_12 17 rfl rfl)
theorem dX6_init_295 : decode cX6_init 295 = .ok (.bipush 10, 2) := dk_16 10 (dk_at dksX6_init_12 20 rfl rfl)
theorem dX6_init_297 : decode cX6_init 297 = .ok (.ldc2_w 125, 3) := dk_20 0 125 (dk_at dksX6_init_13 0 rfl rfl)
theorem dX6_init_300 : decode cX6_init 300 = .ok (.lastore, 1) := dk_80 (dk_at dksX6_init_13 3 rfl rfl)
theorem dX6_init_301 : decode cX6_init 301 = .ok (.aload_n 0, 1) := dk_42 (dk_at dksX6_init_13 4 rfl rfl)
theorem dX6_init_302 : decode cX6_init 302 = .ok (.getfield 50, 3) := dk_180 0 50 (dk_at dksX6_init_13 5 rfl rfl)
theorem dX6_init_305 : decode cX6_init 305 = .ok (.bipush 11, 2) := dk_16 11 (dk_at dksX6_init_13 8 rfl rfl)
theorem dX6_init_307 : decode cX6_init 307 = .ok (.ldc2_w 127, 3) := dk_20 0 127 (dk_at dksX6_init_13 10 rfl rfl)
theorem dX6_init_310 : decode cX6_init 310 = .ok (.lastore, 1) := dk_80 (dk_at dksX6_init_13 13 rfl rfl)
theorem dX6_init_311 : decode cX6_init 311 = .ok (.aload_n 0, 1) := dk_42 (dk_at dksX6_init_13 14 rfl rfl)
theorem dX6_init_312 : decode cX6_init 312 = .ok (.getfield 50, 3) := dk_180 0 50 (dk_at dksX6_init_13 15 rfl rfl)
theorem dX6_init_315 : decode cX6_init 315 = .ok (.bipush 12, 2) := dk_16 12 (dk_at dksX6_init_13 18 rfl rfl)
theorem dX6_init_317 : decode cX6_init 317 = .ok (.ldc2_w 129, 3) := dk_20 0 129 (dk_at dksX6_init_13 20 rfl rfl)
theorem dX6_init_320 : decode cX6_init 320 = .ok (.lastore, 1) := dk_80 (dk_at dksX6_init_13 23 rfl rfl)
theorem dX6_init_321 : decode cX6_init 321 = .ok (.aload_n 0, 1) := dk_42 (dk_at dksX6_init_14 0 rfl rfl)
theorem dX6_init_322 : decode cX6_init 322 = .ok (.getfield 50, 3) := dk_180 0 50 (dk_at dksX6_init_14 1 rfl rfl)
theorem dX6_init_325 : decode cX6_init 325 = .ok (.bipush 13, 2) := dk_16 13 (dk_at dksX6_init_14 4 rfl rfl)
theorem dX6_init_327 : decode cX6_init 327 = .ok (.ldc2_w 131, 3) := dk_20 0 131 (dk_at dksX6_init_14 6 rfl rfl)
theorem dX6_init_330 : decode cX6_init 330 = .ok (.lastore, 1) := dk_80 (dk_at dksX6_init_14 9 rfl rfl)
theorem dX6_init_331 : decode cX6_init 331 = .ok (.aload_n 0, 1) := dk_42 (dk_at dksX6_init_14 10 rfl rfl)
theorem dX6_init_332 : decode cX6_init 332 = .ok (.getfield 50, 3) := dk_180 0 50 (dk_at dksX6_init_14 11 rfl rfl)
theorem dX6_init_335 : decode cX6_init 335 = .ok (.bipush 14, 2) := dk_16 14 (dk_at dksX6_init_14 14 rfl rfl)
theorem dX6_init_337 : decode cX6_init 337 = .ok (.ldc2_w 133, 3) := dk_20 0 133 (dk_at dksX6_init_14 16 rfl rfl)
theorem dX6_init_340 : decode cX6_init 340 = .ok (.lastore, 1) := dk_80 (dk_at dksX6_init_14 19 rfl rfl)
theorem dX6_init_341 : decode cX6_init 341 = .ok (.aload_n 0, 1) := dk_42 (dk_at dksX6_init_14 20 rfl rfl)
theorem dX6_init_342 : decode cX6_init 342 = .ok (.getfield 50, 3) := dk_180 0 50 (dk_at dksX6_init_14 21 rfl rfl)
theorem dX6_init_345 : decode cX6_init 345 = .ok (.bipush 15, 2) := dk_16 15 (dk_at dksX6_init_15 0 rfl rfl)
theorem dX6_init_347 : decode cX6_init 347 = .ok (.ldc2_w 135, 3) := dk_20 0 135 (dk_at dksX6_init_15 2 rfl rfl)
theorem dX6_init_350 : decode cX6_init 350 = .ok (.lastore, 1) := dk_80 (dk_at dksX6_init_15 5 rfl rfl)
theorem dX6_init_351 : decode cX6_init 351 = .ok (.aload_n 0, 1) := dk_42 (dk_at dksX6_init_15 6 rfl rfl)
theorem dX6_init_352 : decode cX6_init 352 = .ok (.getfield 50, 3) := dk_180 0 50 (dk_at dksX6_init_15 7 rfl rfl)
theorem dX6_init_355 : decode cX6_init 355 = .ok (.bipush 16, 2) := dk_16 16 (dk_at dksX6_init_15 10 rfl rfl)
theorem dX6_init_357 : decode cX6_init 357 = .ok (.ldc2_w 137, 3) := dk_20 0 137 (dk_at dksX6_init_15 12 rfl rfl)
theorem dX6_init_360 : decode cX6_init 360 = .ok (.lastore, 1) := dk_80 (dk_at dksX6_init_15 15 rfl rfl)
theorem dX6_init_361 : decode cX6_init 361 = .ok (.aload_n 0, 1) := dk_42 (dk_at dksX6_init_15 16 rfl rfl)
theorem dX6_init_362 : decode cX6_init 362 = .ok (.getfield 50, 3) := dk_180 0 50 (dk_at dksX6_init_15 17 rfl rfl)
theorem dX6_init_365 : decode cX6_init 365 = .ok (.bipush 17, 2) := dk_16 17 (dk_at dksX6_init_15 20 rfl rfl)
theorem dX6_init_367 : decode cX6_init 367 = .ok (.ldc2_w 139, 3) := dk_20 0 139 (dk_at dksX6_init_16 0 rfl rfl)
theorem dX6_init_370 : decode cX6_init 370 = .ok (.lastore, 1) := dk_80 (dk_at dksX6_init_16 3 rfl rfl)
theorem dX6_init_371 : decode cX6_init 371 = .ok (.aload_n 0, 1) := dk_42 (dk_at dksX6_init_16 4 rfl rfl)
theorem dX6_init_372 : decode cX6_init 372 = .ok (.getfield 50, 3) := dk_180 0 50 (dk_at dksX6_init_16 5 rfl rfl)
theorem dX6_init_375 : decode cX6_init 375 = .ok (.bipush 18, 2) := dk_16 18 (dk_at dksX6_init_16 8 rfl rfl)
theorem dX6_init_377 : decode cX6_init 377 = .ok (.ldc2_w 141, 3) := dk_20 0 141 (dk_at dksX6_init_16 10 rfl rfl)
theorem dX6_init_380 : decode cX6_init 380 = .ok (.lastore, 1) := dk_80 (dk_at dksX6_init_16 13 rfl rfl)
theorem dX6_init_381 : decode cX6_init 381 = .ok (.aload_n 0, 1) := dk_42 (dk_at dksX6_init_16 14 rfl rfl)
theorem dX6_init_382 : decode cX6_init 382 = .ok (.getfield 50, 3) := dk_180 0 50 (dk_at dksX6_init_16 15 rfl rfl)
theorem dX6_init_385 : decode cX6_init 385 = .ok (.bipush 19, 2) := dk_16 19 (dk_at dksX6_init_16 18 rfl rfl)
theorem dX6_init_387 : decode cX6_init 387 = .ok (.ldc2_w 143, 3) := dk_20 0 143 (dk_at dksX6_init_16 20 rfl rfl)
theorem dX6_init_390 : decode cX6_init 390 = .ok (.lastore, 1) := dk_80 (dk_at dksX6_init_16 23 rfl rfl)
theorem dX6_init_391 : decode cX6_init 391 = .ok (.aload_n 0, 1) := dk_42 (dk_at dksX6_init_17 0 rfl rfl)
theorem dX6_init_392 : decode cX6_init 392 = .ok (.getfield 50, 3) := dk_180 0 50 (dk_at dksX6_init_17 1 rfl rfl)
theorem dX6_init_395 : decode cX6_init 395 = .ok (.bipush 20, 2) := dk_16 20 (dk_at dksX6_init_17 4 rfl rfl)
theorem dX6_init_397 : decode cX6_init 397 = .ok (.ldc2_w 145, 3) := dk_20 0 145 (dk_at dksX6_init_17 6 rfl rfl)
theorem dX6_init_400 : decode cX6_init 400 = .ok (.lastore, 1) := dk_80 (dk_at dksX6_init_17 9 rfl rfl)
theorem dX6_init_401 : decode cX6_init 401 = .ok (.aload_n 0, 1) := dk_42 (dk_at dksX6_init_17 10 rfl rfl)
theorem dX6_init_402 : decode cX6_init 402 = .ok (.getfield 33, 3) := dk_180 0 33 (dk_at dksX6_init_17 11 rfl rfl)
theorem dX6_init_405 : decode cX6_init 405 = .ok (.iconst 0, 1) := dk_3 (dk_at dksX6_init_17 14 rfl rfl)
theorem dX6_init_406 : decode cX6_init 406 = .ok (.iconst 1, 1) := dk_4 (dk_at dksX6_init_17 15 rfl rfl)
theorem dX6_init_407 : decode cX6_init 407 = .ok (.iastore, 1) := dk_79 (dk_at dksX6_init_17 16 rfl rfl)
theorem dX6_init_408 : decode cX6_init 408 = .ok (.return_, 1) := dk_177 (dk_at dksX6_init_17 17 rfl rfl)
abbrev cX6_chain : ByteArray := prog_25_method_27_code
def yX6_chain : MethodName := ⟨RX6, "chain", "()I"⟩
def dkwX6_chain_10 : List UInt8 := [3, 181, 0, 239, 42, 3, 181, 0, 242, 42, 180, 0, 204, 172]
abbrev dktX6_chain_10 : List UInt8 := dkwX6_chain_10 ++ []
def dkwX6_chain_9 : List UInt8 := [162, 0, 15, 42, 180, 0, 46, 16, 36, 27, 96, 47, 167, 0, 4, 9, 80, 132, 1, 1, 167, 255, 215, 42]
abbrev dktX6_chain_9 : List UInt8 := dkwX6_chain_9 ++ dktX6_chain_10
def dkwX6_chain_8 : List UInt8 := [60, 27, 16, 20, 162, 0, 41, 42, 180, 0, 46, 16, 8, 27, 96, 27, 42, 180, 0, 33, 5, 46]
abbrev dktX6_chain_8 : List UInt8 := dkwX6_chain_8 ++ dktX6_chain_9
def dkwX6_chain_7 : List UInt8 := [162, 0, 15, 42, 180, 0, 46, 16, 28, 27, 96, 47, 167, 0, 4, 9, 80, 132, 1, 1, 167, 255, 207, 3]
abbrev dktX6_chain_7 : List UInt8 := dkwX6_chain_7 ++ dktX6_chain_8
def dkwX6_chain_6 : List UInt8 := [42, 180, 0, 33, 17, 0, 216, 27, 96, 2, 79, 42, 180, 0, 46, 27, 27, 42, 180, 0, 33, 4, 46]
abbrev dktX6_chain_6 : List UInt8 := dkwX6_chain_6 ++ dktX6_chain_7
def dkwX6_chain_5 : List UInt8 := [180, 0, 37, 27, 46, 167, 0, 4, 3, 79, 132, 1, 1, 167, 255, 224, 3, 60, 27, 16, 8, 162, 0, 49]
abbrev dktX6_chain_5 : List UInt8 := dkwX6_chain_5 ++ dktX6_chain_6
def dkwX6_chain_4 : List UInt8 := [167, 255, 216, 3, 60, 27, 17, 1, 104, 162, 0, 31, 42, 180, 0, 33, 27, 27, 16, 72, 162, 0, 12, 42]
abbrev dktX6_chain_4 : List UInt8 := dkwX6_chain_4 ++ dktX6_chain_5
def dkwX6_chain_3 : List UInt8 := [182, 0, 236, 154, 0, 10, 2, 42, 180, 0, 177, 100, 172, 42, 89, 180, 0, 204, 4, 96, 181, 0, 204]
abbrev dktX6_chain_3 : List UInt8 := dkwX6_chain_3 ++ dktX6_chain_4
def dkwX6_chain_2 : List UInt8 := [4, 79, 42, 182, 0, 186, 42, 180, 0, 157, 153, 0, 39, 42, 182, 0, 233, 153, 0, 12, 42, 16, 59]
abbrev dktX6_chain_2 : List UInt8 := dkwX6_chain_2 ++ dktX6_chain_3
def dkwX6_chain_1 : List UInt8 := [27, 16, 72, 162, 0, 16, 42, 180, 0, 37, 27, 3, 79, 132, 1, 1, 167, 255, 240, 42, 180, 0, 37, 3]
abbrev dktX6_chain_1 : List UInt8 := dkwX6_chain_1 ++ dktX6_chain_2
def dkwX6_chain_0 : List UInt8 := [42, 3, 181, 0, 1, 42, 17, 3, 132, 182, 0, 230, 42, 3, 181, 0, 174, 42, 3, 181, 0, 204, 3, 60]
abbrev dktX6_chain_0 : List UInt8 := dkwX6_chain_0 ++ dktX6_chain_1
theorem dksX6_chain_0 : cX6_chain.data.toList.drop 0 = dktX6_chain_0 := by decide +kernel
theorem dksX6_chain_1 : cX6_chain.data.toList.drop 24 = dktX6_chain_1 := dk_seg dksX6_chain_0 24 rfl rfl
theorem dksX6_chain_2 : cX6_chain.data.toList.drop 48 = dktX6_chain_2 := dk_seg dksX6_chain_1 24 rfl rfl
theorem dksX6_chain_3 : cX6_chain.data.toList.drop 71 = dktX6_chain_3 := dk_seg dksX6_chain_2 23 rfl rfl
theorem dksX6_chain_4 : cX6_chain.data.toList.drop 94 = dktX6_chain_4 := dk_seg dksX6_chain_3 23 rfl rfl
theorem dksX6_chain_5 : cX6_chain.data.toList.drop 118 = dktX6_chain_5 := dk_seg dksX6_chain_4 24 rfl rfl
theorem dksX6_chain_6 : cX6_chain.data.toList.drop 142 = dktX6_chain_6 := dk_seg dksX6_chain_5 24 rfl rfl
theorem dksX6_chain_7 : cX6_chain.data.toList.drop 165 = dktX6_chain_7 := dk_seg dksX6_chain_6 23 rfl rfl
theorem dksX6_chain_8 : cX6_chain.data.toList.drop 189 = dktX6_chain_8 := dk_seg dksX6_chain_7 24 rfl rfl
theorem dksX6_chain_9 : cX6_chain.data.toList.drop 211 = dktX6_chain_9 := dk_seg dksX6_chain_8 22 rfl rfl
theorem dksX6_chain_10 : cX6_chain.data.toList.drop 235 = dktX6_chain_10 := dk_seg dksX6_chain_9 24 rfl rfl
theorem dX6_chain_0 : decode cX6_chain 0 = .ok (.aload_n 0, 1) := dk_42 (dk_at dksX6_chain_0 0 rfl rfl)
theorem dX6_chain_1 : decode cX6_chain 1 = .ok (.iconst 0, 1) := dk_3 (dk_at dksX6_chain_0 1 rfl rfl)
theorem dX6_chain_2 : decode cX6_chain 2 = .ok (.putfield 1, 3) := dk_181 0 1 (dk_at dksX6_chain_0 2 rfl rfl)
theorem dX6_chain_5 : decode cX6_chain 5 = .ok (.aload_n 0, 1) := dk_42 (dk_at dksX6_chain_0 5 rfl rfl)
theorem dX6_chain_6 : decode cX6_chain 6 = .ok (.sipush 900, 3) := dk_17 3 132 (dk_at dksX6_chain_0 6 rfl rfl)
theorem dX6_chain_9 : decode cX6_chain 9 = .ok (.invokevirtual 230, 3) := dk_182 0 230 (dk_at dksX6_chain_0 9 rfl rfl)
theorem dX6_chain_12 : decode cX6_chain 12 = .ok (.aload_n 0, 1) := dk_42 (dk_at dksX6_chain_0 12 rfl rfl)
theorem dX6_chain_13 : decode cX6_chain 13 = .ok (.iconst 0, 1) := dk_3 (dk_at dksX6_chain_0 13 rfl rfl)
theorem dX6_chain_14 : decode cX6_chain 14 = .ok (.putfield 174, 3) := dk_181 0 174 (dk_at dksX6_chain_0 14 rfl rfl)
theorem dX6_chain_17 : decode cX6_chain 17 = .ok (.aload_n 0, 1) := dk_42 (dk_at dksX6_chain_0 17 rfl rfl)
theorem dX6_chain_18 : decode cX6_chain 18 = .ok (.iconst 0, 1) := dk_3 (dk_at dksX6_chain_0 18 rfl rfl)
theorem dX6_chain_19 : decode cX6_chain 19 = .ok (.putfield 204, 3) := dk_181 0 204 (dk_at dksX6_chain_0 19 rfl rfl)
theorem dX6_chain_22 : decode cX6_chain 22 = .ok (.iconst 0, 1) := dk_3 (dk_at dksX6_chain_0 22 rfl rfl)
theorem dX6_chain_23 : decode cX6_chain 23 = .ok (.istore_n 1, 1) := dk_60 (dk_at dksX6_chain_0 23 rfl rfl)
theorem dX6_chain_24 : decode cX6_chain 24 = .ok (.iload_n 1, 1) := dk_27 (dk_at dksX6_chain_1 0 rfl rfl)
theorem dX6_chain_25 : decode cX6_chain 25 = .ok (.bipush 72, 2) := dk_16 72 (dk_at dksX6_chain_1 1 rfl rfl)
theorem dX6_chain_27 : decode cX6_chain 27 = .ok (.if_icmp .ge 16, 3) := dk_162 0 16 (dk_at dksX6_chain_1 3 rfl rfl)
theorem dX6_chain_30 : decode cX6_chain 30 = .ok (.aload_n 0, 1) := dk_42 (dk_at dksX6_chain_1 6 rfl rfl)
theorem dX6_chain_31 : decode cX6_chain 31 = .ok (.getfield 37, 3) := dk_180 0 37 (dk_at dksX6_chain_1 7 rfl rfl)
theorem dX6_chain_34 : decode cX6_chain 34 = .ok (.iload_n 1, 1) := dk_27 (dk_at dksX6_chain_1 10 rfl rfl)
theorem dX6_chain_35 : decode cX6_chain 35 = .ok (.iconst 0, 1) := dk_3 (dk_at dksX6_chain_1 11 rfl rfl)
theorem dX6_chain_36 : decode cX6_chain 36 = .ok (.iastore, 1) := dk_79 (dk_at dksX6_chain_1 12 rfl rfl)
theorem dX6_chain_37 : decode cX6_chain 37 = .ok (.iinc 1 1, 3) := dk_132 1 1 (dk_at dksX6_chain_1 13 rfl rfl)
theorem dX6_chain_40 : decode cX6_chain 40 = .ok (.goto (-16), 3) := dk_167 255 240 (dk_at dksX6_chain_1 16 rfl rfl)
theorem dX6_chain_43 : decode cX6_chain 43 = .ok (.aload_n 0, 1) := dk_42 (dk_at dksX6_chain_1 19 rfl rfl)
theorem dX6_chain_44 : decode cX6_chain 44 = .ok (.getfield 37, 3) := dk_180 0 37 (dk_at dksX6_chain_1 20 rfl rfl)
theorem dX6_chain_47 : decode cX6_chain 47 = .ok (.iconst 0, 1) := dk_3 (dk_at dksX6_chain_1 23 rfl rfl)
theorem dX6_chain_48 : decode cX6_chain 48 = .ok (.iconst 1, 1) := dk_4 (dk_at dksX6_chain_2 0 rfl rfl)
theorem dX6_chain_49 : decode cX6_chain 49 = .ok (.iastore, 1) := dk_79 (dk_at dksX6_chain_2 1 rfl rfl)
theorem dX6_chain_50 : decode cX6_chain 50 = .ok (.aload_n 0, 1) := dk_42 (dk_at dksX6_chain_2 2 rfl rfl)
theorem dX6_chain_51 : decode cX6_chain 51 = .ok (.invokevirtual 186, 3) := dk_182 0 186 (dk_at dksX6_chain_2 3 rfl rfl)
theorem dX6_chain_54 : decode cX6_chain 54 = .ok (.aload_n 0, 1) := dk_42 (dk_at dksX6_chain_2 6 rfl rfl)
theorem dX6_chain_55 : decode cX6_chain 55 = .ok (.getfield 157, 3) := dk_180 0 157 (dk_at dksX6_chain_2 7 rfl rfl)
theorem dX6_chain_58 : decode cX6_chain 58 = .ok (.ifCond .eq 39, 3) := dk_153 0 39 (dk_at dksX6_chain_2 10 rfl rfl)
theorem dX6_chain_61 : decode cX6_chain 61 = .ok (.aload_n 0, 1) := dk_42 (dk_at dksX6_chain_2 13 rfl rfl)
theorem dX6_chain_62 : decode cX6_chain 62 = .ok (.invokevirtual 233, 3) := dk_182 0 233 (dk_at dksX6_chain_2 14 rfl rfl)
theorem dX6_chain_65 : decode cX6_chain 65 = .ok (.ifCond .eq 12, 3) := dk_153 0 12 (dk_at dksX6_chain_2 17 rfl rfl)
theorem dX6_chain_68 : decode cX6_chain 68 = .ok (.aload_n 0, 1) := dk_42 (dk_at dksX6_chain_2 20 rfl rfl)
theorem dX6_chain_69 : decode cX6_chain 69 = .ok (.bipush 59, 2) := dk_16 59 (dk_at dksX6_chain_2 21 rfl rfl)
theorem dX6_chain_71 : decode cX6_chain 71 = .ok (.invokevirtual 236, 3) := dk_182 0 236 (dk_at dksX6_chain_3 0 rfl rfl)
theorem dX6_chain_74 : decode cX6_chain 74 = .ok (.ifCond .ne 10, 3) := dk_154 0 10 (dk_at dksX6_chain_3 3 rfl rfl)
theorem dX6_chain_77 : decode cX6_chain 77 = .ok (.iconst (-1), 1) := dk_2 (dk_at dksX6_chain_3 6 rfl rfl)
theorem dX6_chain_78 : decode cX6_chain 78 = .ok (.aload_n 0, 1) := dk_42 (dk_at dksX6_chain_3 7 rfl rfl)
theorem dX6_chain_79 : decode cX6_chain 79 = .ok (.getfield 177, 3) := dk_180 0 177 (dk_at dksX6_chain_3 8 rfl rfl)
theorem dX6_chain_82 : decode cX6_chain 82 = .ok (.isub, 1) := dk_100 (dk_at dksX6_chain_3 11 rfl rfl)
theorem dX6_chain_83 : decode cX6_chain 83 = .ok (.ireturn, 1) := dk_172 (dk_at dksX6_chain_3 12 rfl rfl)
theorem dX6_chain_84 : decode cX6_chain 84 = .ok (.aload_n 0, 1) := dk_42 (dk_at dksX6_chain_3 13 rfl rfl)
theorem dX6_chain_85 : decode cX6_chain 85 = .ok (.dup, 1) := dk_89 (dk_at dksX6_chain_3 14 rfl rfl)
theorem dX6_chain_86 : decode cX6_chain 86 = .ok (.getfield 204, 3) := dk_180 0 204 (dk_at dksX6_chain_3 15 rfl rfl)
theorem dX6_chain_89 : decode cX6_chain 89 = .ok (.iconst 1, 1) := dk_4 (dk_at dksX6_chain_3 18 rfl rfl)
theorem dX6_chain_90 : decode cX6_chain 90 = .ok (.iadd, 1) := dk_96 (dk_at dksX6_chain_3 19 rfl rfl)
theorem dX6_chain_91 : decode cX6_chain 91 = .ok (.putfield 204, 3) := dk_181 0 204 (dk_at dksX6_chain_3 20 rfl rfl)
theorem dX6_chain_94 : decode cX6_chain 94 = .ok (.goto (-40), 3) := dk_167 255 216 (dk_at dksX6_chain_4 0 rfl rfl)
theorem dX6_chain_97 : decode cX6_chain 97 = .ok (.iconst 0, 1) := dk_3 (dk_at dksX6_chain_4 3 rfl rfl)
theorem dX6_chain_98 : decode cX6_chain 98 = .ok (.istore_n 1, 1) := dk_60 (dk_at dksX6_chain_4 4 rfl rfl)
theorem dX6_chain_99 : decode cX6_chain 99 = .ok (.iload_n 1, 1) := dk_27 (dk_at dksX6_chain_4 5 rfl rfl)
theorem dX6_chain_100 : decode cX6_chain 100 = .ok (.sipush 360, 3) := dk_17 1 104 (dk_at dksX6_chain_4 6 rfl rfl)
theorem dX6_chain_103 : decode cX6_chain 103 = .ok (.if_icmp .ge 31, 3) := dk_162 0 31 (dk_at dksX6_chain_4 9 rfl rfl)
theorem dX6_chain_106 : decode cX6_chain 106 = .ok (.aload_n 0, 1) := dk_42 (dk_at dksX6_chain_4 12 rfl rfl)
theorem dX6_chain_107 : decode cX6_chain 107 = .ok (.getfield 33, 3) := dk_180 0 33 (dk_at dksX6_chain_4 13 rfl rfl)
theorem dX6_chain_110 : decode cX6_chain 110 = .ok (.iload_n 1, 1) := dk_27 (dk_at dksX6_chain_4 16 rfl rfl)
theorem dX6_chain_111 : decode cX6_chain 111 = .ok (.iload_n 1, 1) := dk_27 (dk_at dksX6_chain_4 17 rfl rfl)
theorem dX6_chain_112 : decode cX6_chain 112 = .ok (.bipush 72, 2) := dk_16 72 (dk_at dksX6_chain_4 18 rfl rfl)
theorem dX6_chain_114 : decode cX6_chain 114 = .ok (.if_icmp .ge 12, 3) := dk_162 0 12 (dk_at dksX6_chain_4 20 rfl rfl)
theorem dX6_chain_117 : decode cX6_chain 117 = .ok (.aload_n 0, 1) := dk_42 (dk_at dksX6_chain_4 23 rfl rfl)
theorem dX6_chain_118 : decode cX6_chain 118 = .ok (.getfield 37, 3) := dk_180 0 37 (dk_at dksX6_chain_5 0 rfl rfl)
theorem dX6_chain_121 : decode cX6_chain 121 = .ok (.iload_n 1, 1) := dk_27 (dk_at dksX6_chain_5 3 rfl rfl)
theorem dX6_chain_122 : decode cX6_chain 122 = .ok (.iaload, 1) := dk_46 (dk_at dksX6_chain_5 4 rfl rfl)
theorem dX6_chain_123 : decode cX6_chain 123 = .ok (.goto 4, 3) := dk_167 0 4 (dk_at dksX6_chain_5 5 rfl rfl)
theorem dX6_chain_126 : decode cX6_chain 126 = .ok (.iconst 0, 1) := dk_3 (dk_at dksX6_chain_5 8 rfl rfl)
theorem dX6_chain_127 : decode cX6_chain 127 = .ok (.iastore, 1) := dk_79 (dk_at dksX6_chain_5 9 rfl rfl)
theorem dX6_chain_128 : decode cX6_chain 128 = .ok (.iinc 1 1, 3) := dk_132 1 1 (dk_at dksX6_chain_5 10 rfl rfl)
theorem dX6_chain_131 : decode cX6_chain 131 = .ok (.goto (-32), 3) := dk_167 255 224 (dk_at dksX6_chain_5 13 rfl rfl)
theorem dX6_chain_134 : decode cX6_chain 134 = .ok (.iconst 0, 1) := dk_3 (dk_at dksX6_chain_5 16 rfl rfl)
theorem dX6_chain_135 : decode cX6_chain 135 = .ok (.istore_n 1, 1) := dk_60 (dk_at dksX6_chain_5 17 rfl rfl)
theorem dX6_chain_136 : decode cX6_chain 136 = .ok (.iload_n 1, 1) := dk_27 (dk_at dksX6_chain_5 18 rfl rfl)
theorem dX6_chain_137 : decode cX6_chain 137 = .ok (.bipush 8, 2) := dk_16 8 (dk_at dksX6_chain_5 19 rfl rfl)
theorem dX6_chain_139 : decode cX6_chain 139 = .ok (.if_icmp .ge 49, 3) := dk_162 0 49 (dk_at dksX6_chain_5 21 rfl rfl)
theorem dX6_chain_142 : decode cX6_chain 142 = .ok (.aload_n 0, 1) := dk_42 (dk_at dksX6_chain_6 0 rfl rfl)
theorem dX6_chain_143 : decode cX6_chain 143 = .ok (.getfield 33, 3) := dk_180 0 33 (dk_at dksX6_chain_6 1 rfl rfl)
theorem dX6_chain_146 : decode cX6_chain 146 = .ok (.sipush 216, 3) := dk_17 0 216 (dk_at dksX6_chain_6 4 rfl rfl)
theorem dX6_chain_149 : decode cX6_chain 149 = .ok (.iload_n 1, 1) := dk_27 (dk_at dksX6_chain_6 7 rfl rfl)
theorem dX6_chain_150 : decode cX6_chain 150 = .ok (.iadd, 1) := dk_96 (dk_at dksX6_chain_6 8 rfl rfl)
theorem dX6_chain_151 : decode cX6_chain 151 = .ok (.iconst (-1), 1) := dk_2 (dk_at dksX6_chain_6 9 rfl rfl)
theorem dX6_chain_152 : decode cX6_chain 152 = .ok (.iastore, 1) := dk_79 (dk_at dksX6_chain_6 10 rfl rfl)
theorem dX6_chain_153 : decode cX6_chain 153 = .ok (.aload_n 0, 1) := dk_42 (dk_at dksX6_chain_6 11 rfl rfl)
theorem dX6_chain_154 : decode cX6_chain 154 = .ok (.getfield 46, 3) := dk_180 0 46 (dk_at dksX6_chain_6 12 rfl rfl)
theorem dX6_chain_157 : decode cX6_chain 157 = .ok (.iload_n 1, 1) := dk_27 (dk_at dksX6_chain_6 15 rfl rfl)
theorem dX6_chain_158 : decode cX6_chain 158 = .ok (.iload_n 1, 1) := dk_27 (dk_at dksX6_chain_6 16 rfl rfl)
theorem dX6_chain_159 : decode cX6_chain 159 = .ok (.aload_n 0, 1) := dk_42 (dk_at dksX6_chain_6 17 rfl rfl)
theorem dX6_chain_160 : decode cX6_chain 160 = .ok (.getfield 33, 3) := dk_180 0 33 (dk_at dksX6_chain_6 18 rfl rfl)
theorem dX6_chain_163 : decode cX6_chain 163 = .ok (.iconst 1, 1) := dk_4 (dk_at dksX6_chain_6 21 rfl rfl)
theorem dX6_chain_164 : decode cX6_chain 164 = .ok (.iaload, 1) := dk_46 (dk_at dksX6_chain_6 22 rfl rfl)
theorem dX6_chain_165 : decode cX6_chain 165 = .ok (.if_icmp .ge 15, 3) := dk_162 0 15 (dk_at dksX6_chain_7 0 rfl rfl)
theorem dX6_chain_168 : decode cX6_chain 168 = .ok (.aload_n 0, 1) := dk_42 (dk_at dksX6_chain_7 3 rfl rfl)
theorem dX6_chain_169 : decode cX6_chain 169 = .ok (.getfield 46, 3) := dk_180 0 46 (dk_at dksX6_chain_7 4 rfl rfl)
theorem dX6_chain_172 : decode cX6_chain 172 = .ok (.bipush 28, 2) := dk_16 28 (dk_at dksX6_chain_7 7 rfl rfl)
theorem dX6_chain_174 : decode cX6_chain 174 = .ok (.iload_n 1, 1) := dk_27 (dk_at dksX6_chain_7 9 rfl rfl)
theorem dX6_chain_175 : decode cX6_chain 175 = .ok (.iadd, 1) := dk_96 (dk_at dksX6_chain_7 10 rfl rfl)
theorem dX6_chain_176 : decode cX6_chain 176 = .ok (.laload, 1) := dk_47 (dk_at dksX6_chain_7 11 rfl rfl)
theorem dX6_chain_177 : decode cX6_chain 177 = .ok (.goto 4, 3) := dk_167 0 4 (dk_at dksX6_chain_7 12 rfl rfl)
theorem dX6_chain_180 : decode cX6_chain 180 = .ok (.lconst 0, 1) := dk_9 (dk_at dksX6_chain_7 15 rfl rfl)
theorem dX6_chain_181 : decode cX6_chain 181 = .ok (.lastore, 1) := dk_80 (dk_at dksX6_chain_7 16 rfl rfl)
theorem dX6_chain_182 : decode cX6_chain 182 = .ok (.iinc 1 1, 3) := dk_132 1 1 (dk_at dksX6_chain_7 17 rfl rfl)
theorem dX6_chain_185 : decode cX6_chain 185 = .ok (.goto (-49), 3) := dk_167 255 207 (dk_at dksX6_chain_7 20 rfl rfl)
theorem dX6_chain_188 : decode cX6_chain 188 = .ok (.iconst 0, 1) := dk_3 (dk_at dksX6_chain_7 23 rfl rfl)
theorem dX6_chain_189 : decode cX6_chain 189 = .ok (.istore_n 1, 1) := dk_60 (dk_at dksX6_chain_8 0 rfl rfl)
theorem dX6_chain_190 : decode cX6_chain 190 = .ok (.iload_n 1, 1) := dk_27 (dk_at dksX6_chain_8 1 rfl rfl)
theorem dX6_chain_191 : decode cX6_chain 191 = .ok (.bipush 20, 2) := dk_16 20 (dk_at dksX6_chain_8 2 rfl rfl)
theorem dX6_chain_193 : decode cX6_chain 193 = .ok (.if_icmp .ge 41, 3) := dk_162 0 41 (dk_at dksX6_chain_8 4 rfl rfl)
theorem dX6_chain_196 : decode cX6_chain 196 = .ok (.aload_n 0, 1) := dk_42 (dk_at dksX6_chain_8 7 rfl rfl)
theorem dX6_chain_197 : decode cX6_chain 197 = .ok (.getfield 46, 3) := dk_180 0 46 (dk_at dksX6_chain_8 8 rfl rfl)
theorem dX6_chain_200 : decode cX6_chain 200 = .ok (.bipush 8, 2) := dk_16 8 (dk_at dksX6_chain_8 11 rfl rfl)
theorem dX6_chain_202 : decode cX6_chain 202 = .ok (.iload_n 1, 1) := dk_27 (dk_at dksX6_chain_8 13 rfl rfl)
theorem dX6_chain_203 : decode cX6_chain 203 = .ok (.iadd, 1) := dk_96 (dk_at dksX6_chain_8 14 rfl rfl)
theorem dX6_chain_204 : decode cX6_chain 204 = .ok (.iload_n 1, 1) := dk_27 (dk_at dksX6_chain_8 15 rfl rfl)
theorem dX6_chain_205 : decode cX6_chain 205 = .ok (.aload_n 0, 1) := dk_42 (dk_at dksX6_chain_8 16 rfl rfl)
theorem dX6_chain_206 : decode cX6_chain 206 = .ok (.getfield 33, 3) := dk_180 0 33 (dk_at dksX6_chain_8 17 rfl rfl)
theorem dX6_chain_209 : decode cX6_chain 209 = .ok (.iconst 2, 1) := dk_5 (dk_at dksX6_chain_8 20 rfl rfl)
theorem dX6_chain_210 : decode cX6_chain 210 = .ok (.iaload, 1) := dk_46 (dk_at dksX6_chain_8 21 rfl rfl)
theorem dX6_chain_211 : decode cX6_chain 211 = .ok (.if_icmp .ge 15, 3) := dk_162 0 15 (dk_at dksX6_chain_9 0 rfl rfl)
theorem dX6_chain_214 : decode cX6_chain 214 = .ok (.aload_n 0, 1) := dk_42 (dk_at dksX6_chain_9 3 rfl rfl)
theorem dX6_chain_215 : decode cX6_chain 215 = .ok (.getfield 46, 3) := dk_180 0 46 (dk_at dksX6_chain_9 4 rfl rfl)
theorem dX6_chain_218 : decode cX6_chain 218 = .ok (.bipush 36, 2) := dk_16 36 (dk_at dksX6_chain_9 7 rfl rfl)
theorem dX6_chain_220 : decode cX6_chain 220 = .ok (.iload_n 1, 1) := dk_27 (dk_at dksX6_chain_9 9 rfl rfl)
theorem dX6_chain_221 : decode cX6_chain 221 = .ok (.iadd, 1) := dk_96 (dk_at dksX6_chain_9 10 rfl rfl)
theorem dX6_chain_222 : decode cX6_chain 222 = .ok (.laload, 1) := dk_47 (dk_at dksX6_chain_9 11 rfl rfl)
theorem dX6_chain_223 : decode cX6_chain 223 = .ok (.goto 4, 3) := dk_167 0 4 (dk_at dksX6_chain_9 12 rfl rfl)
theorem dX6_chain_226 : decode cX6_chain 226 = .ok (.lconst 0, 1) := dk_9 (dk_at dksX6_chain_9 15 rfl rfl)
theorem dX6_chain_227 : decode cX6_chain 227 = .ok (.lastore, 1) := dk_80 (dk_at dksX6_chain_9 16 rfl rfl)
theorem dX6_chain_228 : decode cX6_chain 228 = .ok (.iinc 1 1, 3) := dk_132 1 1 (dk_at dksX6_chain_9 17 rfl rfl)
theorem dX6_chain_231 : decode cX6_chain 231 = .ok (.goto (-41), 3) := dk_167 255 215 (dk_at dksX6_chain_9 20 rfl rfl)
theorem dX6_chain_234 : decode cX6_chain 234 = .ok (.aload_n 0, 1) := dk_42 (dk_at dksX6_chain_9 23 rfl rfl)
theorem dX6_chain_235 : decode cX6_chain 235 = .ok (.iconst 0, 1) := dk_3 (dk_at dksX6_chain_10 0 rfl rfl)
theorem dX6_chain_236 : decode cX6_chain 236 = .ok (.putfield 239, 3) := dk_181 0 239 (dk_at dksX6_chain_10 1 rfl rfl)
theorem dX6_chain_239 : decode cX6_chain 239 = .ok (.aload_n 0, 1) := dk_42 (dk_at dksX6_chain_10 4 rfl rfl)
theorem dX6_chain_240 : decode cX6_chain 240 = .ok (.iconst 0, 1) := dk_3 (dk_at dksX6_chain_10 5 rfl rfl)
theorem dX6_chain_241 : decode cX6_chain 241 = .ok (.putfield 242, 3) := dk_181 0 242 (dk_at dksX6_chain_10 6 rfl rfl)
theorem dX6_chain_244 : decode cX6_chain 244 = .ok (.aload_n 0, 1) := dk_42 (dk_at dksX6_chain_10 9 rfl rfl)
theorem dX6_chain_245 : decode cX6_chain 245 = .ok (.getfield 204, 3) := dk_180 0 204 (dk_at dksX6_chain_10 10 rfl rfl)
theorem dX6_chain_248 : decode cX6_chain 248 = .ok (.ireturn, 1) := dk_172 (dk_at dksX6_chain_10 13 rfl rfl)
abbrev cX6_taken : ByteArray := prog_25_method_6_code
def yX6_taken : MethodName := ⟨RX6, "taken", "(I)V"⟩
def dkwX6_taken_0 : List UInt8 := [42, 42, 180, 0, 7, 181, 0, 18, 42, 3, 181, 0, 7, 42, 3, 181, 0, 21, 42, 27, 181, 0, 24, 177]
abbrev dktX6_taken_0 : List UInt8 := dkwX6_taken_0 ++ []
theorem dksX6_taken_0 : cX6_taken.data.toList.drop 0 = dktX6_taken_0 := by decide +kernel
theorem dX6_taken_0 : decode cX6_taken 0 = .ok (.aload_n 0, 1) := dk_42 (dk_at dksX6_taken_0 0 rfl rfl)
theorem dX6_taken_1 : decode cX6_taken 1 = .ok (.aload_n 0, 1) := dk_42 (dk_at dksX6_taken_0 1 rfl rfl)
theorem dX6_taken_2 : decode cX6_taken 2 = .ok (.getfield 7, 3) := dk_180 0 7 (dk_at dksX6_taken_0 2 rfl rfl)
theorem dX6_taken_5 : decode cX6_taken 5 = .ok (.putfield 18, 3) := dk_181 0 18 (dk_at dksX6_taken_0 5 rfl rfl)
theorem dX6_taken_8 : decode cX6_taken 8 = .ok (.aload_n 0, 1) := dk_42 (dk_at dksX6_taken_0 8 rfl rfl)
theorem dX6_taken_9 : decode cX6_taken 9 = .ok (.iconst 0, 1) := dk_3 (dk_at dksX6_taken_0 9 rfl rfl)
theorem dX6_taken_10 : decode cX6_taken 10 = .ok (.putfield 7, 3) := dk_181 0 7 (dk_at dksX6_taken_0 10 rfl rfl)
theorem dX6_taken_13 : decode cX6_taken 13 = .ok (.aload_n 0, 1) := dk_42 (dk_at dksX6_taken_0 13 rfl rfl)
theorem dX6_taken_14 : decode cX6_taken 14 = .ok (.iconst 0, 1) := dk_3 (dk_at dksX6_taken_0 14 rfl rfl)
theorem dX6_taken_15 : decode cX6_taken 15 = .ok (.putfield 21, 3) := dk_181 0 21 (dk_at dksX6_taken_0 15 rfl rfl)
theorem dX6_taken_18 : decode cX6_taken 18 = .ok (.aload_n 0, 1) := dk_42 (dk_at dksX6_taken_0 18 rfl rfl)
theorem dX6_taken_19 : decode cX6_taken 19 = .ok (.iload_n 1, 1) := dk_27 (dk_at dksX6_taken_0 19 rfl rfl)
theorem dX6_taken_20 : decode cX6_taken 20 = .ok (.putfield 24, 3) := dk_181 0 24 (dk_at dksX6_taken_0 20 rfl rfl)
theorem dX6_taken_23 : decode cX6_taken 23 = .ok (.return_, 1) := dk_177 (dk_at dksX6_taken_0 23 rfl rfl)
abbrev cX6_next : ByteArray := prog_25_method_13_code
def yX6_next : MethodName := ⟨RX6, "next", "()V"⟩
def dkwX6_next_14 : List UInt8 := [4, 167, 0, 4, 5, 181, 0, 157, 177]
abbrev dktX6_next_14 : List UInt8 := dkwX6_next_14 ++ []
def dkwX6_next_13 : List UInt8 := [180, 0, 154, 28, 153, 0, 8, 16, 7, 167, 0, 4, 6, 164, 0, 7, 7, 167, 0, 12, 28, 153, 0, 7]
abbrev dktX6_next_13 : List UInt8 := dkwX6_next_13 ++ dktX6_next_14
def dkwX6_next_12 : List UInt8 := [181, 0, 154, 42, 89, 180, 0, 21, 4, 96, 181, 0, 21, 167, 255, 142, 42, 29, 153, 0, 20, 42]
abbrev dktX6_next_12 : List UInt8 := dkwX6_next_12 ++ dktX6_next_13
def dkwX6_next_11 : List UInt8 := [180, 0, 167, 104, 42, 182, 0, 147, 96, 16, 48, 100, 181, 0, 167, 42, 89, 180, 0, 154, 4, 96]
abbrev dktX6_next_11 : List UInt8 := dkwX6_next_11 ++ dktX6_next_12
def dkwX6_next_10 : List UInt8 := [16, 8, 121, 42, 182, 0, 147, 133, 129, 181, 0, 170, 42, 180, 0, 154, 6, 162, 0, 22, 42, 16, 10, 42]
abbrev dktX6_next_10 : List UInt8 := dkwX6_next_10 ++ dktX6_next_11
def dkwX6_next_9 : List UInt8 := [28, 160, 0, 7, 4, 167, 0, 4, 3, 62, 42, 180, 0, 154, 16, 7, 162, 0, 20, 42, 42, 180, 0, 170]
abbrev dktX6_next_9 : List UInt8 := dkwX6_next_9 ++ dktX6_next_10
def dkwX6_next_8 : List UInt8 := [154, 0, 13, 42, 182, 0, 147, 184, 0, 164, 153, 0, 100, 29, 153, 0, 18, 42, 182, 0, 147, 184, 0, 160]
abbrev dktX6_next_8 : List UInt8 := dkwX6_next_8 ++ dktX6_next_9
def dkwX6_next_7 : List UInt8 := [184, 0, 160, 61, 4, 62, 42, 9, 181, 0, 170, 42, 3, 181, 0, 167, 42, 182, 0, 147, 184, 0, 160]
abbrev dktX6_next_7 : List UInt8 := dkwX6_next_7 ++ dktX6_next_8
def dkwX6_next_6 : List UInt8 := [167, 0, 4, 7, 181, 0, 157, 42, 27, 181, 0, 167, 42, 89, 180, 0, 21, 4, 96, 181, 0, 21, 177, 27]
abbrev dktX6_next_6 : List UInt8 := dkwX6_next_6 ++ dktX6_next_7
def dkwX6_next_5 : List UInt8 := [159, 0, 21, 27, 16, 41, 159, 0, 15, 27, 16, 60, 161, 0, 13, 27, 16, 62, 163, 0, 7, 6]
abbrev dktX6_next_5 : List UInt8 := dkwX6_next_5 ++ dktX6_next_6
def dkwX6_next_4 : List UInt8 := [27, 184, 0, 160, 154, 0, 65, 27, 184, 0, 164, 154, 0, 58, 42, 27, 16, 59, 159, 0, 27, 27, 16, 40]
abbrev dktX6_next_4 : List UInt8 := dkwX6_next_4 ++ dktX6_next_5
def dkwX6_next_3 : List UInt8 := [181, 0, 151, 42, 7, 181, 0, 157, 177, 42, 182, 0, 147, 60, 27, 156, 0, 9, 42, 3, 181, 0, 157, 177]
abbrev dktX6_next_3 : List UInt8 := dkwX6_next_3 ++ dktX6_next_4
def dkwX6_next_2 : List UInt8 := [42, 180, 0, 24, 164, 0, 28, 42, 180, 0, 21, 42, 180, 0, 24, 161, 0, 17, 42, 42, 180, 0, 24]
abbrev dktX6_next_2 : List UInt8 := dkwX6_next_2 ++ dktX6_next_3
def dkwX6_next_1 : List UInt8 := [96, 181, 0, 21, 167, 255, 228, 42, 42, 180, 0, 21, 181, 0, 151, 42, 3, 181, 0, 154, 42, 180, 0, 18]
abbrev dktX6_next_1 : List UInt8 := dkwX6_next_1 ++ dktX6_next_2
def dkwX6_next_0 : List UInt8 := [42, 182, 0, 147, 16, 32, 159, 0, 12, 42, 182, 0, 147, 16, 10, 160, 0, 16, 42, 89, 180, 0, 21, 4]
abbrev dktX6_next_0 : List UInt8 := dkwX6_next_0 ++ dktX6_next_1
theorem dksX6_next_0 : cX6_next.data.toList.drop 0 = dktX6_next_0 := by decide +kernel
theorem dksX6_next_1 : cX6_next.data.toList.drop 24 = dktX6_next_1 := dk_seg dksX6_next_0 24 rfl rfl
theorem dksX6_next_2 : cX6_next.data.toList.drop 48 = dktX6_next_2 := dk_seg dksX6_next_1 24 rfl rfl
theorem dksX6_next_3 : cX6_next.data.toList.drop 71 = dktX6_next_3 := dk_seg dksX6_next_2 23 rfl rfl
theorem dksX6_next_4 : cX6_next.data.toList.drop 95 = dktX6_next_4 := dk_seg dksX6_next_3 24 rfl rfl
theorem dksX6_next_5 : cX6_next.data.toList.drop 119 = dktX6_next_5 := dk_seg dksX6_next_4 24 rfl rfl
theorem dksX6_next_6 : cX6_next.data.toList.drop 141 = dktX6_next_6 := dk_seg dksX6_next_5 22 rfl rfl
theorem dksX6_next_7 : cX6_next.data.toList.drop 165 = dktX6_next_7 := dk_seg dksX6_next_6 24 rfl rfl
theorem dksX6_next_8 : cX6_next.data.toList.drop 188 = dktX6_next_8 := dk_seg dksX6_next_7 23 rfl rfl
theorem dksX6_next_9 : cX6_next.data.toList.drop 212 = dktX6_next_9 := dk_seg dksX6_next_8 24 rfl rfl
theorem dksX6_next_10 : cX6_next.data.toList.drop 236 = dktX6_next_10 := dk_seg dksX6_next_9 24 rfl rfl
theorem dksX6_next_11 : cX6_next.data.toList.drop 260 = dktX6_next_11 := dk_seg dksX6_next_10 24 rfl rfl
theorem dksX6_next_12 : cX6_next.data.toList.drop 282 = dktX6_next_12 := dk_seg dksX6_next_11 22 rfl rfl
theorem dksX6_next_13 : cX6_next.data.toList.drop 304 = dktX6_next_13 := dk_seg dksX6_next_12 22 rfl rfl
theorem dksX6_next_14 : cX6_next.data.toList.drop 328 = dktX6_next_14 := dk_seg dksX6_next_13 24 rfl rfl
theorem dX6_next_0 : decode cX6_next 0 = .ok (.aload_n 0, 1) := dk_42 (dk_at dksX6_next_0 0 rfl rfl)
theorem dX6_next_1 : decode cX6_next 1 = .ok (.invokevirtual 147, 3) := dk_182 0 147 (dk_at dksX6_next_0 1 rfl rfl)
theorem dX6_next_4 : decode cX6_next 4 = .ok (.bipush 32, 2) := dk_16 32 (dk_at dksX6_next_0 4 rfl rfl)
theorem dX6_next_6 : decode cX6_next 6 = .ok (.if_icmp .eq 12, 3) := dk_159 0 12 (dk_at dksX6_next_0 6 rfl rfl)
theorem dX6_next_9 : decode cX6_next 9 = .ok (.aload_n 0, 1) := dk_42 (dk_at dksX6_next_0 9 rfl rfl)
theorem dX6_next_10 : decode cX6_next 10 = .ok (.invokevirtual 147, 3) := dk_182 0 147 (dk_at dksX6_next_0 10 rfl rfl)
theorem dX6_next_13 : decode cX6_next 13 = .ok (.bipush 10, 2) := dk_16 10 (dk_at dksX6_next_0 13 rfl rfl)
theorem dX6_next_15 : decode cX6_next 15 = .ok (.if_icmp .ne 16, 3) := dk_160 0 16 (dk_at dksX6_next_0 15 rfl rfl)
theorem dX6_next_18 : decode cX6_next 18 = .ok (.aload_n 0, 1) := dk_42 (dk_at dksX6_next_0 18 rfl rfl)
theorem dX6_next_19 : decode cX6_next 19 = .ok (.dup, 1) := dk_89 (dk_at dksX6_next_0 19 rfl rfl)
theorem dX6_next_20 : decode cX6_next 20 = .ok (.getfield 21, 3) := dk_180 0 21 (dk_at dksX6_next_0 20 rfl rfl)
theorem dX6_next_23 : decode cX6_next 23 = .ok (.iconst 1, 1) := dk_4 (dk_at dksX6_next_0 23 rfl rfl)
theorem dX6_next_24 : decode cX6_next 24 = .ok (.iadd, 1) := dk_96 (dk_at dksX6_next_1 0 rfl rfl)
theorem dX6_next_25 : decode cX6_next 25 = .ok (.putfield 21, 3) := dk_181 0 21 (dk_at dksX6_next_1 1 rfl rfl)
theorem dX6_next_28 : decode cX6_next 28 = .ok (.goto (-28), 3) := dk_167 255 228 (dk_at dksX6_next_1 4 rfl rfl)
theorem dX6_next_31 : decode cX6_next 31 = .ok (.aload_n 0, 1) := dk_42 (dk_at dksX6_next_1 7 rfl rfl)
theorem dX6_next_32 : decode cX6_next 32 = .ok (.aload_n 0, 1) := dk_42 (dk_at dksX6_next_1 8 rfl rfl)
theorem dX6_next_33 : decode cX6_next 33 = .ok (.getfield 21, 3) := dk_180 0 21 (dk_at dksX6_next_1 9 rfl rfl)
theorem dX6_next_36 : decode cX6_next 36 = .ok (.putfield 151, 3) := dk_181 0 151 (dk_at dksX6_next_1 12 rfl rfl)
theorem dX6_next_39 : decode cX6_next 39 = .ok (.aload_n 0, 1) := dk_42 (dk_at dksX6_next_1 15 rfl rfl)
theorem dX6_next_40 : decode cX6_next 40 = .ok (.iconst 0, 1) := dk_3 (dk_at dksX6_next_1 16 rfl rfl)
theorem dX6_next_41 : decode cX6_next 41 = .ok (.putfield 154, 3) := dk_181 0 154 (dk_at dksX6_next_1 17 rfl rfl)
theorem dX6_next_44 : decode cX6_next 44 = .ok (.aload_n 0, 1) := dk_42 (dk_at dksX6_next_1 20 rfl rfl)
theorem dX6_next_45 : decode cX6_next 45 = .ok (.getfield 18, 3) := dk_180 0 18 (dk_at dksX6_next_1 21 rfl rfl)
theorem dX6_next_48 : decode cX6_next 48 = .ok (.aload_n 0, 1) := dk_42 (dk_at dksX6_next_2 0 rfl rfl)
theorem dX6_next_49 : decode cX6_next 49 = .ok (.getfield 24, 3) := dk_180 0 24 (dk_at dksX6_next_2 1 rfl rfl)
theorem dX6_next_52 : decode cX6_next 52 = .ok (.if_icmp .le 28, 3) := dk_164 0 28 (dk_at dksX6_next_2 4 rfl rfl)
theorem dX6_next_55 : decode cX6_next 55 = .ok (.aload_n 0, 1) := dk_42 (dk_at dksX6_next_2 7 rfl rfl)
theorem dX6_next_56 : decode cX6_next 56 = .ok (.getfield 21, 3) := dk_180 0 21 (dk_at dksX6_next_2 8 rfl rfl)
theorem dX6_next_59 : decode cX6_next 59 = .ok (.aload_n 0, 1) := dk_42 (dk_at dksX6_next_2 11 rfl rfl)
theorem dX6_next_60 : decode cX6_next 60 = .ok (.getfield 24, 3) := dk_180 0 24 (dk_at dksX6_next_2 12 rfl rfl)
theorem dX6_next_63 : decode cX6_next 63 = .ok (.if_icmp .lt 17, 3) := dk_161 0 17 (dk_at dksX6_next_2 15 rfl rfl)
theorem dX6_next_66 : decode cX6_next 66 = .ok (.aload_n 0, 1) := dk_42 (dk_at dksX6_next_2 18 rfl rfl)
theorem dX6_next_67 : decode cX6_next 67 = .ok (.aload_n 0, 1) := dk_42 (dk_at dksX6_next_2 19 rfl rfl)
theorem dX6_next_68 : decode cX6_next 68 = .ok (.getfield 24, 3) := dk_180 0 24 (dk_at dksX6_next_2 20 rfl rfl)
theorem dX6_next_71 : decode cX6_next 71 = .ok (.putfield 151, 3) := dk_181 0 151 (dk_at dksX6_next_3 0 rfl rfl)
theorem dX6_next_74 : decode cX6_next 74 = .ok (.aload_n 0, 1) := dk_42 (dk_at dksX6_next_3 3 rfl rfl)
theorem dX6_next_75 : decode cX6_next 75 = .ok (.iconst 4, 1) := dk_7 (dk_at dksX6_next_3 4 rfl rfl)
theorem dX6_next_76 : decode cX6_next 76 = .ok (.putfield 157, 3) := dk_181 0 157 (dk_at dksX6_next_3 5 rfl rfl)
theorem dX6_next_79 : decode cX6_next 79 = .ok (.return_, 1) := dk_177 (dk_at dksX6_next_3 8 rfl rfl)
theorem dX6_next_80 : decode cX6_next 80 = .ok (.aload_n 0, 1) := dk_42 (dk_at dksX6_next_3 9 rfl rfl)
theorem dX6_next_81 : decode cX6_next 81 = .ok (.invokevirtual 147, 3) := dk_182 0 147 (dk_at dksX6_next_3 10 rfl rfl)
theorem dX6_next_84 : decode cX6_next 84 = .ok (.istore_n 1, 1) := dk_60 (dk_at dksX6_next_3 13 rfl rfl)
theorem dX6_next_85 : decode cX6_next 85 = .ok (.iload_n 1, 1) := dk_27 (dk_at dksX6_next_3 14 rfl rfl)
theorem dX6_next_86 : decode cX6_next 86 = .ok (.ifCond .ge 9, 3) := dk_156 0 9 (dk_at dksX6_next_3 15 rfl rfl)
theorem dX6_next_89 : decode cX6_next 89 = .ok (.aload_n 0, 1) := dk_42 (dk_at dksX6_next_3 18 rfl rfl)
theorem dX6_next_90 : decode cX6_next 90 = .ok (.iconst 0, 1) := dk_3 (dk_at dksX6_next_3 19 rfl rfl)
theorem dX6_next_91 : decode cX6_next 91 = .ok (.putfield 157, 3) := dk_181 0 157 (dk_at dksX6_next_3 20 rfl rfl)
theorem dX6_next_94 : decode cX6_next 94 = .ok (.return_, 1) := dk_177 (dk_at dksX6_next_3 23 rfl rfl)
theorem dX6_next_95 : decode cX6_next 95 = .ok (.iload_n 1, 1) := dk_27 (dk_at dksX6_next_4 0 rfl rfl)
theorem dX6_next_96 : decode cX6_next 96 = .ok (.invokestatic 160, 3) := dk_184 0 160 (dk_at dksX6_next_4 1 rfl rfl)
theorem dX6_next_99 : decode cX6_next 99 = .ok (.ifCond .ne 65, 3) := dk_154 0 65 (dk_at dksX6_next_4 4 rfl rfl)
theorem dX6_next_102 : decode cX6_next 102 = .ok (.iload_n 1, 1) := dk_27 (dk_at dksX6_next_4 7 rfl rfl)
theorem dX6_next_103 : decode cX6_next 103 = .ok (.invokestatic 164, 3) := dk_184 0 164 (dk_at dksX6_next_4 8 rfl rfl)
theorem dX6_next_106 : decode cX6_next 106 = .ok (.ifCond .ne 58, 3) := dk_154 0 58 (dk_at dksX6_next_4 11 rfl rfl)
theorem dX6_next_109 : decode cX6_next 109 = .ok (.aload_n 0, 1) := dk_42 (dk_at dksX6_next_4 14 rfl rfl)
theorem dX6_next_110 : decode cX6_next 110 = .ok (.iload_n 1, 1) := dk_27 (dk_at dksX6_next_4 15 rfl rfl)
theorem dX6_next_111 : decode cX6_next 111 = .ok (.bipush 59, 2) := dk_16 59 (dk_at dksX6_next_4 16 rfl rfl)
theorem dX6_next_113 : decode cX6_next 113 = .ok (.if_icmp .eq 27, 3) := dk_159 0 27 (dk_at dksX6_next_4 18 rfl rfl)
theorem dX6_next_116 : decode cX6_next 116 = .ok (.iload_n 1, 1) := dk_27 (dk_at dksX6_next_4 21 rfl rfl)
theorem dX6_next_117 : decode cX6_next 117 = .ok (.bipush 40, 2) := dk_16 40 (dk_at dksX6_next_4 22 rfl rfl)
theorem dX6_next_119 : decode cX6_next 119 = .ok (.if_icmp .eq 21, 3) := dk_159 0 21 (dk_at dksX6_next_5 0 rfl rfl)
theorem dX6_next_122 : decode cX6_next 122 = .ok (.iload_n 1, 1) := dk_27 (dk_at dksX6_next_5 3 rfl rfl)
theorem dX6_next_123 : decode cX6_next 123 = .ok (.bipush 41, 2) := dk_16 41 (dk_at dksX6_next_5 4 rfl rfl)
theorem dX6_next_125 : decode cX6_next 125 = .ok (.if_icmp .eq 15, 3) := dk_159 0 15 (dk_at dksX6_next_5 6 rfl rfl)
theorem dX6_next_128 : decode cX6_next 128 = .ok (.iload_n 1, 1) := dk_27 (dk_at dksX6_next_5 9 rfl rfl)
theorem dX6_next_129 : decode cX6_next 129 = .ok (.bipush 60, 2) := dk_16 60 (dk_at dksX6_next_5 10 rfl rfl)
theorem dX6_next_131 : decode cX6_next 131 = .ok (.if_icmp .lt 13, 3) := dk_161 0 13 (dk_at dksX6_next_5 12 rfl rfl)
theorem dX6_next_134 : decode cX6_next 134 = .ok (.iload_n 1, 1) := dk_27 (dk_at dksX6_next_5 15 rfl rfl)
theorem dX6_next_135 : decode cX6_next 135 = .ok (.bipush 62, 2) := dk_16 62 (dk_at dksX6_next_5 16 rfl rfl)
theorem dX6_next_137 : decode cX6_next 137 = .ok (.if_icmp .gt 7, 3) := dk_163 0 7 (dk_at dksX6_next_5 18 rfl rfl)
theorem dX6_next_140 : decode cX6_next 140 = .ok (.iconst 3, 1) := dk_6 (dk_at dksX6_next_5 21 rfl rfl)
theorem dX6_next_141 : decode cX6_next 141 = .ok (.goto 4, 3) := dk_167 0 4 (dk_at dksX6_next_6 0 rfl rfl)
theorem dX6_next_144 : decode cX6_next 144 = .ok (.iconst 4, 1) := dk_7 (dk_at dksX6_next_6 3 rfl rfl)
theorem dX6_next_145 : decode cX6_next 145 = .ok (.putfield 157, 3) := dk_181 0 157 (dk_at dksX6_next_6 4 rfl rfl)
theorem dX6_next_148 : decode cX6_next 148 = .ok (.aload_n 0, 1) := dk_42 (dk_at dksX6_next_6 7 rfl rfl)
theorem dX6_next_149 : decode cX6_next 149 = .ok (.iload_n 1, 1) := dk_27 (dk_at dksX6_next_6 8 rfl rfl)
theorem dX6_next_150 : decode cX6_next 150 = .ok (.putfield 167, 3) := dk_181 0 167 (dk_at dksX6_next_6 9 rfl rfl)
theorem dX6_next_153 : decode cX6_next 153 = .ok (.aload_n 0, 1) := dk_42 (dk_at dksX6_next_6 12 rfl rfl)
theorem dX6_next_154 : decode cX6_next 154 = .ok (.dup, 1) := dk_89 (dk_at dksX6_next_6 13 rfl rfl)
theorem dX6_next_155 : decode cX6_next 155 = .ok (.getfield 21, 3) := dk_180 0 21 (dk_at dksX6_next_6 14 rfl rfl)
theorem dX6_next_158 : decode cX6_next 158 = .ok (.iconst 1, 1) := dk_4 (dk_at dksX6_next_6 17 rfl rfl)
theorem dX6_next_159 : decode cX6_next 159 = .ok (.iadd, 1) := dk_96 (dk_at dksX6_next_6 18 rfl rfl)
theorem dX6_next_160 : decode cX6_next 160 = .ok (.putfield 21, 3) := dk_181 0 21 (dk_at dksX6_next_6 19 rfl rfl)
theorem dX6_next_163 : decode cX6_next 163 = .ok (.return_, 1) := dk_177 (dk_at dksX6_next_6 22 rfl rfl)
theorem dX6_next_164 : decode cX6_next 164 = .ok (.iload_n 1, 1) := dk_27 (dk_at dksX6_next_6 23 rfl rfl)
theorem dX6_next_165 : decode cX6_next 165 = .ok (.invokestatic 160, 3) := dk_184 0 160 (dk_at dksX6_next_7 0 rfl rfl)
theorem dX6_next_168 : decode cX6_next 168 = .ok (.istore_n 2, 1) := dk_61 (dk_at dksX6_next_7 3 rfl rfl)
theorem dX6_next_169 : decode cX6_next 169 = .ok (.iconst 1, 1) := dk_4 (dk_at dksX6_next_7 4 rfl rfl)
theorem dX6_next_170 : decode cX6_next 170 = .ok (.istore_n 3, 1) := dk_62 (dk_at dksX6_next_7 5 rfl rfl)
theorem dX6_next_171 : decode cX6_next 171 = .ok (.aload_n 0, 1) := dk_42 (dk_at dksX6_next_7 6 rfl rfl)
theorem dX6_next_172 : decode cX6_next 172 = .ok (.lconst 0, 1) := dk_9 (dk_at dksX6_next_7 7 rfl rfl)
theorem dX6_next_173 : decode cX6_next 173 = .ok (.putfield 170, 3) := dk_181 0 170 (dk_at dksX6_next_7 8 rfl rfl)
theorem dX6_next_176 : decode cX6_next 176 = .ok (.aload_n 0, 1) := dk_42 (dk_at dksX6_next_7 11 rfl rfl)
theorem dX6_next_177 : decode cX6_next 177 = .ok (.iconst 0, 1) := dk_3 (dk_at dksX6_next_7 12 rfl rfl)
theorem dX6_next_178 : decode cX6_next 178 = .ok (.putfield 167, 3) := dk_181 0 167 (dk_at dksX6_next_7 13 rfl rfl)
theorem dX6_next_181 : decode cX6_next 181 = .ok (.aload_n 0, 1) := dk_42 (dk_at dksX6_next_7 16 rfl rfl)
theorem dX6_next_182 : decode cX6_next 182 = .ok (.invokevirtual 147, 3) := dk_182 0 147 (dk_at dksX6_next_7 17 rfl rfl)
theorem dX6_next_185 : decode cX6_next 185 = .ok (.invokestatic 160, 3) := dk_184 0 160 (dk_at dksX6_next_7 20 rfl rfl)
theorem dX6_next_188 : decode cX6_next 188 = .ok (.ifCond .ne 13, 3) := dk_154 0 13 (dk_at dksX6_next_8 0 rfl rfl)
theorem dX6_next_191 : decode cX6_next 191 = .ok (.aload_n 0, 1) := dk_42 (dk_at dksX6_next_8 3 rfl rfl)
theorem dX6_next_192 : decode cX6_next 192 = .ok (.invokevirtual 147, 3) := dk_182 0 147 (dk_at dksX6_next_8 4 rfl rfl)
theorem dX6_next_195 : decode cX6_next 195 = .ok (.invokestatic 164, 3) := dk_184 0 164 (dk_at dksX6_next_8 7 rfl rfl)
theorem dX6_next_198 : decode cX6_next 198 = .ok (.ifCond .eq 100, 3) := dk_153 0 100 (dk_at dksX6_next_8 10 rfl rfl)
theorem dX6_next_201 : decode cX6_next 201 = .ok (.iload_n 3, 1) := dk_29 (dk_at dksX6_next_8 13 rfl rfl)
theorem dX6_next_202 : decode cX6_next 202 = .ok (.ifCond .eq 18, 3) := dk_153 0 18 (dk_at dksX6_next_8 14 rfl rfl)
theorem dX6_next_205 : decode cX6_next 205 = .ok (.aload_n 0, 1) := dk_42 (dk_at dksX6_next_8 17 rfl rfl)
theorem dX6_next_206 : decode cX6_next 206 = .ok (.invokevirtual 147, 3) := dk_182 0 147 (dk_at dksX6_next_8 18 rfl rfl)
theorem dX6_next_209 : decode cX6_next 209 = .ok (.invokestatic 160, 3) := dk_184 0 160 (dk_at dksX6_next_8 21 rfl rfl)
theorem dX6_next_212 : decode cX6_next 212 = .ok (.iload_n 2, 1) := dk_28 (dk_at dksX6_next_9 0 rfl rfl)
theorem dX6_next_213 : decode cX6_next 213 = .ok (.if_icmp .ne 7, 3) := dk_160 0 7 (dk_at dksX6_next_9 1 rfl rfl)
theorem dX6_next_216 : decode cX6_next 216 = .ok (.iconst 1, 1) := dk_4 (dk_at dksX6_next_9 4 rfl rfl)
theorem dX6_next_217 : decode cX6_next 217 = .ok (.goto 4, 3) := dk_167 0 4 (dk_at dksX6_next_9 5 rfl rfl)
theorem dX6_next_220 : decode cX6_next 220 = .ok (.iconst 0, 1) := dk_3 (dk_at dksX6_next_9 8 rfl rfl)
theorem dX6_next_221 : decode cX6_next 221 = .ok (.istore_n 3, 1) := dk_62 (dk_at dksX6_next_9 9 rfl rfl)
theorem dX6_next_222 : decode cX6_next 222 = .ok (.aload_n 0, 1) := dk_42 (dk_at dksX6_next_9 10 rfl rfl)
theorem dX6_next_223 : decode cX6_next 223 = .ok (.getfield 154, 3) := dk_180 0 154 (dk_at dksX6_next_9 11 rfl rfl)
theorem dX6_next_226 : decode cX6_next 226 = .ok (.bipush 7, 2) := dk_16 7 (dk_at dksX6_next_9 14 rfl rfl)
theorem dX6_next_228 : decode cX6_next 228 = .ok (.if_icmp .ge 20, 3) := dk_162 0 20 (dk_at dksX6_next_9 16 rfl rfl)
theorem dX6_next_231 : decode cX6_next 231 = .ok (.aload_n 0, 1) := dk_42 (dk_at dksX6_next_9 19 rfl rfl)
theorem dX6_next_232 : decode cX6_next 232 = .ok (.aload_n 0, 1) := dk_42 (dk_at dksX6_next_9 20 rfl rfl)
theorem dX6_next_233 : decode cX6_next 233 = .ok (.getfield 170, 3) := dk_180 0 170 (dk_at dksX6_next_9 21 rfl rfl)
theorem dX6_next_236 : decode cX6_next 236 = .ok (.bipush 8, 2) := dk_16 8 (dk_at dksX6_next_10 0 rfl rfl)
theorem dX6_next_238 : decode cX6_next 238 = .ok (.lshl, 1) := dk_121 (dk_at dksX6_next_10 2 rfl rfl)
theorem dX6_next_239 : decode cX6_next 239 = .ok (.aload_n 0, 1) := dk_42 (dk_at dksX6_next_10 3 rfl rfl)
theorem dX6_next_240 : decode cX6_next 240 = .ok (.invokevirtual 147, 3) := dk_182 0 147 (dk_at dksX6_next_10 4 rfl rfl)
theorem dX6_next_243 : decode cX6_next 243 = .ok (.i2l, 1) := dk_133 (dk_at dksX6_next_10 7 rfl rfl)
theorem dX6_next_244 : decode cX6_next 244 = .ok (.lor, 1) := dk_129 (dk_at dksX6_next_10 8 rfl rfl)
theorem dX6_next_245 : decode cX6_next 245 = .ok (.putfield 170, 3) := dk_181 0 170 (dk_at dksX6_next_10 9 rfl rfl)
theorem dX6_next_248 : decode cX6_next 248 = .ok (.aload_n 0, 1) := dk_42 (dk_at dksX6_next_10 12 rfl rfl)
theorem dX6_next_249 : decode cX6_next 249 = .ok (.getfield 154, 3) := dk_180 0 154 (dk_at dksX6_next_10 13 rfl rfl)
theorem dX6_next_252 : decode cX6_next 252 = .ok (.iconst 3, 1) := dk_6 (dk_at dksX6_next_10 16 rfl rfl)
theorem dX6_next_253 : decode cX6_next 253 = .ok (.if_icmp .ge 22, 3) := dk_162 0 22 (dk_at dksX6_next_10 17 rfl rfl)
theorem dX6_next_256 : decode cX6_next 256 = .ok (.aload_n 0, 1) := dk_42 (dk_at dksX6_next_10 20 rfl rfl)
theorem dX6_next_257 : decode cX6_next 257 = .ok (.bipush 10, 2) := dk_16 10 (dk_at dksX6_next_10 21 rfl rfl)
theorem dX6_next_259 : decode cX6_next 259 = .ok (.aload_n 0, 1) := dk_42 (dk_at dksX6_next_10 23 rfl rfl)
theorem dX6_next_260 : decode cX6_next 260 = .ok (.getfield 167, 3) := dk_180 0 167 (dk_at dksX6_next_11 0 rfl rfl)
theorem dX6_next_263 : decode cX6_next 263 = .ok (.imul, 1) := dk_104 (dk_at dksX6_next_11 3 rfl rfl)
theorem dX6_next_264 : decode cX6_next 264 = .ok (.aload_n 0, 1) := dk_42 (dk_at dksX6_next_11 4 rfl rfl)
theorem dX6_next_265 : decode cX6_next 265 = .ok (.invokevirtual 147, 3) := dk_182 0 147 (dk_at dksX6_next_11 5 rfl rfl)
theorem dX6_next_268 : decode cX6_next 268 = .ok (.iadd, 1) := dk_96 (dk_at dksX6_next_11 8 rfl rfl)
theorem dX6_next_269 : decode cX6_next 269 = .ok (.bipush 48, 2) := dk_16 48 (dk_at dksX6_next_11 9 rfl rfl)
theorem dX6_next_271 : decode cX6_next 271 = .ok (.isub, 1) := dk_100 (dk_at dksX6_next_11 11 rfl rfl)
theorem dX6_next_272 : decode cX6_next 272 = .ok (.putfield 167, 3) := dk_181 0 167 (dk_at dksX6_next_11 12 rfl rfl)
theorem dX6_next_275 : decode cX6_next 275 = .ok (.aload_n 0, 1) := dk_42 (dk_at dksX6_next_11 15 rfl rfl)
theorem dX6_next_276 : decode cX6_next 276 = .ok (.dup, 1) := dk_89 (dk_at dksX6_next_11 16 rfl rfl)
theorem dX6_next_277 : decode cX6_next 277 = .ok (.getfield 154, 3) := dk_180 0 154 (dk_at dksX6_next_11 17 rfl rfl)
theorem dX6_next_280 : decode cX6_next 280 = .ok (.iconst 1, 1) := dk_4 (dk_at dksX6_next_11 20 rfl rfl)
theorem dX6_next_281 : decode cX6_next 281 = .ok (.iadd, 1) := dk_96 (dk_at dksX6_next_11 21 rfl rfl)
theorem dX6_next_282 : decode cX6_next 282 = .ok (.putfield 154, 3) := dk_181 0 154 (dk_at dksX6_next_12 0 rfl rfl)
theorem dX6_next_285 : decode cX6_next 285 = .ok (.aload_n 0, 1) := dk_42 (dk_at dksX6_next_12 3 rfl rfl)
theorem dX6_next_286 : decode cX6_next 286 = .ok (.dup, 1) := dk_89 (dk_at dksX6_next_12 4 rfl rfl)
theorem dX6_next_287 : decode cX6_next 287 = .ok (.getfield 21, 3) := dk_180 0 21 (dk_at dksX6_next_12 5 rfl rfl)
theorem dX6_next_290 : decode cX6_next 290 = .ok (.iconst 1, 1) := dk_4 (dk_at dksX6_next_12 8 rfl rfl)
theorem dX6_next_291 : decode cX6_next 291 = .ok (.iadd, 1) := dk_96 (dk_at dksX6_next_12 9 rfl rfl)
theorem dX6_next_292 : decode cX6_next 292 = .ok (.putfield 21, 3) := dk_181 0 21 (dk_at dksX6_next_12 10 rfl rfl)
theorem dX6_next_295 : decode cX6_next 295 = .ok (.goto (-114), 3) := dk_167 255 142 (dk_at dksX6_next_12 13 rfl rfl)
theorem dX6_next_298 : decode cX6_next 298 = .ok (.aload_n 0, 1) := dk_42 (dk_at dksX6_next_12 16 rfl rfl)
theorem dX6_next_299 : decode cX6_next 299 = .ok (.iload_n 3, 1) := dk_29 (dk_at dksX6_next_12 17 rfl rfl)
theorem dX6_next_300 : decode cX6_next 300 = .ok (.ifCond .eq 20, 3) := dk_153 0 20 (dk_at dksX6_next_12 18 rfl rfl)
theorem dX6_next_303 : decode cX6_next 303 = .ok (.aload_n 0, 1) := dk_42 (dk_at dksX6_next_12 21 rfl rfl)
theorem dX6_next_304 : decode cX6_next 304 = .ok (.getfield 154, 3) := dk_180 0 154 (dk_at dksX6_next_13 0 rfl rfl)
theorem dX6_next_307 : decode cX6_next 307 = .ok (.iload_n 2, 1) := dk_28 (dk_at dksX6_next_13 3 rfl rfl)
theorem dX6_next_308 : decode cX6_next 308 = .ok (.ifCond .eq 8, 3) := dk_153 0 8 (dk_at dksX6_next_13 4 rfl rfl)
theorem dX6_next_311 : decode cX6_next 311 = .ok (.bipush 7, 2) := dk_16 7 (dk_at dksX6_next_13 7 rfl rfl)
theorem dX6_next_313 : decode cX6_next 313 = .ok (.goto 4, 3) := dk_167 0 4 (dk_at dksX6_next_13 9 rfl rfl)
theorem dX6_next_316 : decode cX6_next 316 = .ok (.iconst 3, 1) := dk_6 (dk_at dksX6_next_13 12 rfl rfl)
theorem dX6_next_317 : decode cX6_next 317 = .ok (.if_icmp .le 7, 3) := dk_164 0 7 (dk_at dksX6_next_13 13 rfl rfl)
theorem dX6_next_320 : decode cX6_next 320 = .ok (.iconst 4, 1) := dk_7 (dk_at dksX6_next_13 16 rfl rfl)
theorem dX6_next_321 : decode cX6_next 321 = .ok (.goto 12, 3) := dk_167 0 12 (dk_at dksX6_next_13 17 rfl rfl)
theorem dX6_next_324 : decode cX6_next 324 = .ok (.iload_n 2, 1) := dk_28 (dk_at dksX6_next_13 20 rfl rfl)
theorem dX6_next_325 : decode cX6_next 325 = .ok (.ifCond .eq 7, 3) := dk_153 0 7 (dk_at dksX6_next_13 21 rfl rfl)
theorem dX6_next_328 : decode cX6_next 328 = .ok (.iconst 1, 1) := dk_4 (dk_at dksX6_next_14 0 rfl rfl)
theorem dX6_next_329 : decode cX6_next 329 = .ok (.goto 4, 3) := dk_167 0 4 (dk_at dksX6_next_14 1 rfl rfl)
theorem dX6_next_332 : decode cX6_next 332 = .ok (.iconst 2, 1) := dk_5 (dk_at dksX6_next_14 4 rfl rfl)
theorem dX6_next_333 : decode cX6_next 333 = .ok (.putfield 157, 3) := dk_181 0 157 (dk_at dksX6_next_14 5 rfl rfl)
theorem dX6_next_336 : decode cX6_next 336 = .ok (.return_, 1) := dk_177 (dk_at dksX6_next_14 8 rfl rfl)
abbrev cX6_peek : ByteArray := prog_25_method_10_code
def yX6_peek : MethodName := ⟨RX6, "peek", "()I"⟩
def dkwX6_peek_1 : List UInt8 := [167, 0, 4, 2, 172]
abbrev dktX6_peek_1 : List UInt8 := dkwX6_peek_1 ++ []
def dkwX6_peek_0 : List UInt8 := [42, 180, 0, 21, 42, 180, 0, 18, 162, 0, 19, 42, 180, 0, 14, 42, 180, 0, 21, 51, 17, 0, 255, 126]
abbrev dktX6_peek_0 : List UInt8 := dkwX6_peek_0 ++ dktX6_peek_1
theorem dksX6_peek_0 : cX6_peek.data.toList.drop 0 = dktX6_peek_0 := by decide +kernel
theorem dksX6_peek_1 : cX6_peek.data.toList.drop 24 = dktX6_peek_1 := dk_seg dksX6_peek_0 24 rfl rfl
theorem dX6_peek_0 : decode cX6_peek 0 = .ok (.aload_n 0, 1) := dk_42 (dk_at dksX6_peek_0 0 rfl rfl)
theorem dX6_peek_1 : decode cX6_peek 1 = .ok (.getfield 21, 3) := dk_180 0 21 (dk_at dksX6_peek_0 1 rfl rfl)
theorem dX6_peek_4 : decode cX6_peek 4 = .ok (.aload_n 0, 1) := dk_42 (dk_at dksX6_peek_0 4 rfl rfl)
theorem dX6_peek_5 : decode cX6_peek 5 = .ok (.getfield 18, 3) := dk_180 0 18 (dk_at dksX6_peek_0 5 rfl rfl)
theorem dX6_peek_8 : decode cX6_peek 8 = .ok (.if_icmp .ge 19, 3) := dk_162 0 19 (dk_at dksX6_peek_0 8 rfl rfl)
theorem dX6_peek_11 : decode cX6_peek 11 = .ok (.aload_n 0, 1) := dk_42 (dk_at dksX6_peek_0 11 rfl rfl)
theorem dX6_peek_12 : decode cX6_peek 12 = .ok (.getfield 14, 3) := dk_180 0 14 (dk_at dksX6_peek_0 12 rfl rfl)
theorem dX6_peek_15 : decode cX6_peek 15 = .ok (.aload_n 0, 1) := dk_42 (dk_at dksX6_peek_0 15 rfl rfl)
theorem dX6_peek_16 : decode cX6_peek 16 = .ok (.getfield 21, 3) := dk_180 0 21 (dk_at dksX6_peek_0 16 rfl rfl)
theorem dX6_peek_19 : decode cX6_peek 19 = .ok (.baload, 1) := dk_51 (dk_at dksX6_peek_0 19 rfl rfl)
theorem dX6_peek_20 : decode cX6_peek 20 = .ok (.sipush 255, 3) := dk_17 0 255 (dk_at dksX6_peek_0 20 rfl rfl)
theorem dX6_peek_23 : decode cX6_peek 23 = .ok (.iand, 1) := dk_126 (dk_at dksX6_peek_0 23 rfl rfl)
theorem dX6_peek_24 : decode cX6_peek 24 = .ok (.goto 4, 3) := dk_167 0 4 (dk_at dksX6_peek_1 0 rfl rfl)
theorem dX6_peek_27 : decode cX6_peek 27 = .ok (.iconst (-1), 1) := dk_2 (dk_at dksX6_peek_1 3 rfl rfl)
theorem dX6_peek_28 : decode cX6_peek 28 = .ok (.ireturn, 1) := dk_172 (dk_at dksX6_peek_1 4 rfl rfl)
abbrev cX6_isSmall : ByteArray := prog_25_method_11_code
def yX6_isSmall : MethodName := ⟨RX6, "isSmall", "(I)Z"⟩
def dkwX6_isSmall_0 : List UInt8 := [26, 16, 97, 161, 0, 13, 26, 16, 122, 163, 0, 7, 4, 167, 0, 4, 3, 172]
abbrev dktX6_isSmall_0 : List UInt8 := dkwX6_isSmall_0 ++ []
theorem dksX6_isSmall_0 : cX6_isSmall.data.toList.drop 0 = dktX6_isSmall_0 := by decide +kernel
theorem dX6_isSmall_0 : decode cX6_isSmall 0 = .ok (.iload_n 0, 1) := dk_26 (dk_at dksX6_isSmall_0 0 rfl rfl)
theorem dX6_isSmall_1 : decode cX6_isSmall 1 = .ok (.bipush 97, 2) := dk_16 97 (dk_at dksX6_isSmall_0 1 rfl rfl)
theorem dX6_isSmall_3 : decode cX6_isSmall 3 = .ok (.if_icmp .lt 13, 3) := dk_161 0 13 (dk_at dksX6_isSmall_0 3 rfl rfl)
theorem dX6_isSmall_6 : decode cX6_isSmall 6 = .ok (.iload_n 0, 1) := dk_26 (dk_at dksX6_isSmall_0 6 rfl rfl)
theorem dX6_isSmall_7 : decode cX6_isSmall 7 = .ok (.bipush 122, 2) := dk_16 122 (dk_at dksX6_isSmall_0 7 rfl rfl)
theorem dX6_isSmall_9 : decode cX6_isSmall 9 = .ok (.if_icmp .gt 7, 3) := dk_163 0 7 (dk_at dksX6_isSmall_0 9 rfl rfl)
theorem dX6_isSmall_12 : decode cX6_isSmall 12 = .ok (.iconst 1, 1) := dk_4 (dk_at dksX6_isSmall_0 12 rfl rfl)
theorem dX6_isSmall_13 : decode cX6_isSmall 13 = .ok (.goto 4, 3) := dk_167 0 4 (dk_at dksX6_isSmall_0 13 rfl rfl)
theorem dX6_isSmall_16 : decode cX6_isSmall 16 = .ok (.iconst 0, 1) := dk_3 (dk_at dksX6_isSmall_0 16 rfl rfl)
theorem dX6_isSmall_17 : decode cX6_isSmall 17 = .ok (.ireturn, 1) := dk_172 (dk_at dksX6_isSmall_0 17 rfl rfl)
abbrev cX6_isDigit : ByteArray := prog_25_method_12_code
def yX6_isDigit : MethodName := ⟨RX6, "isDigit", "(I)Z"⟩
def dkwX6_isDigit_0 : List UInt8 := [26, 16, 48, 161, 0, 13, 26, 16, 57, 163, 0, 7, 4, 167, 0, 4, 3, 172]
abbrev dktX6_isDigit_0 : List UInt8 := dkwX6_isDigit_0 ++ []
theorem dksX6_isDigit_0 : cX6_isDigit.data.toList.drop 0 = dktX6_isDigit_0 := by decide +kernel
theorem dX6_isDigit_0 : decode cX6_isDigit 0 = .ok (.iload_n 0, 1) := dk_26 (dk_at dksX6_isDigit_0 0 rfl rfl)
theorem dX6_isDigit_1 : decode cX6_isDigit 1 = .ok (.bipush 48, 2) := dk_16 48 (dk_at dksX6_isDigit_0 1 rfl rfl)
theorem dX6_isDigit_3 : decode cX6_isDigit 3 = .ok (.if_icmp .lt 13, 3) := dk_161 0 13 (dk_at dksX6_isDigit_0 3 rfl rfl)
theorem dX6_isDigit_6 : decode cX6_isDigit 6 = .ok (.iload_n 0, 1) := dk_26 (dk_at dksX6_isDigit_0 6 rfl rfl)
theorem dX6_isDigit_7 : decode cX6_isDigit 7 = .ok (.bipush 57, 2) := dk_16 57 (dk_at dksX6_isDigit_0 7 rfl rfl)
theorem dX6_isDigit_9 : decode cX6_isDigit 9 = .ok (.if_icmp .gt 7, 3) := dk_163 0 7 (dk_at dksX6_isDigit_0 9 rfl rfl)
theorem dX6_isDigit_12 : decode cX6_isDigit 12 = .ok (.iconst 1, 1) := dk_4 (dk_at dksX6_isDigit_0 12 rfl rfl)
theorem dX6_isDigit_13 : decode cX6_isDigit 13 = .ok (.goto 4, 3) := dk_167 0 4 (dk_at dksX6_isDigit_0 13 rfl rfl)
theorem dX6_isDigit_16 : decode cX6_isDigit 16 = .ok (.iconst 0, 1) := dk_3 (dk_at dksX6_isDigit_0 16 rfl rfl)
theorem dX6_isDigit_17 : decode cX6_isDigit 17 = .ok (.ireturn, 1) := dk_172 (dk_at dksX6_isDigit_0 17 rfl rfl)
abbrev cX6_readLine : ByteArray := prog_25_method_26_code
def yX6_readLine : MethodName := ⟨RX6, "readLine", "()Z"⟩
def dkwX6_readLine_2 : List UInt8 := [167, 0, 8, 42, 4, 182, 0, 183, 172]
abbrev dktX6_readLine_2 : List UInt8 := dkwX6_readLine_2 ++ []
def dkwX6_readLine_1 : List UInt8 := [153, 0, 10, 42, 182, 0, 224, 167, 0, 25, 42, 20, 0, 109, 182, 0, 214, 153, 0, 10, 42, 182, 0, 227]
abbrev dktX6_readLine_1 : List UInt8 := dkwX6_readLine_1 ++ dktX6_readLine_2
def dkwX6_readLine_0 : List UInt8 := [42, 20, 0, 105, 182, 0, 214, 153, 0, 10, 42, 182, 0, 221, 167, 0, 42, 42, 20, 0, 107, 182, 0, 214]
abbrev dktX6_readLine_0 : List UInt8 := dkwX6_readLine_0 ++ dktX6_readLine_1
theorem dksX6_readLine_0 : cX6_readLine.data.toList.drop 0 = dktX6_readLine_0 := by decide +kernel
theorem dksX6_readLine_1 : cX6_readLine.data.toList.drop 24 = dktX6_readLine_1 := dk_seg dksX6_readLine_0 24 rfl rfl
theorem dksX6_readLine_2 : cX6_readLine.data.toList.drop 48 = dktX6_readLine_2 := dk_seg dksX6_readLine_1 24 rfl rfl
theorem dX6_readLine_0 : decode cX6_readLine 0 = .ok (.aload_n 0, 1) := dk_42 (dk_at dksX6_readLine_0 0 rfl rfl)
theorem dX6_readLine_1 : decode cX6_readLine 1 = .ok (.ldc2_w 105, 3) := dk_20 0 105 (dk_at dksX6_readLine_0 1 rfl rfl)
theorem dX6_readLine_4 : decode cX6_readLine 4 = .ok (.invokevirtual 214, 3) := dk_182 0 214 (dk_at dksX6_readLine_0 4 rfl rfl)
theorem dX6_readLine_7 : decode cX6_readLine 7 = .ok (.ifCond .eq 10, 3) := dk_153 0 10 (dk_at dksX6_readLine_0 7 rfl rfl)
theorem dX6_readLine_10 : decode cX6_readLine 10 = .ok (.aload_n 0, 1) := dk_42 (dk_at dksX6_readLine_0 10 rfl rfl)
theorem dX6_readLine_11 : decode cX6_readLine 11 = .ok (.invokevirtual 221, 3) := dk_182 0 221 (dk_at dksX6_readLine_0 11 rfl rfl)
theorem dX6_readLine_14 : decode cX6_readLine 14 = .ok (.goto 42, 3) := dk_167 0 42 (dk_at dksX6_readLine_0 14 rfl rfl)
theorem dX6_readLine_17 : decode cX6_readLine 17 = .ok (.aload_n 0, 1) := dk_42 (dk_at dksX6_readLine_0 17 rfl rfl)
theorem dX6_readLine_18 : decode cX6_readLine 18 = .ok (.ldc2_w 107, 3) := dk_20 0 107 (dk_at dksX6_readLine_0 18 rfl rfl)
theorem dX6_readLine_21 : decode cX6_readLine 21 = .ok (.invokevirtual 214, 3) := dk_182 0 214 (dk_at dksX6_readLine_0 21 rfl rfl)
theorem dX6_readLine_24 : decode cX6_readLine 24 = .ok (.ifCond .eq 10, 3) := dk_153 0 10 (dk_at dksX6_readLine_1 0 rfl rfl)
theorem dX6_readLine_27 : decode cX6_readLine 27 = .ok (.aload_n 0, 1) := dk_42 (dk_at dksX6_readLine_1 3 rfl rfl)
theorem dX6_readLine_28 : decode cX6_readLine 28 = .ok (.invokevirtual 224, 3) := dk_182 0 224 (dk_at dksX6_readLine_1 4 rfl rfl)
theorem dX6_readLine_31 : decode cX6_readLine 31 = .ok (.goto 25, 3) := dk_167 0 25 (dk_at dksX6_readLine_1 7 rfl rfl)
theorem dX6_readLine_34 : decode cX6_readLine 34 = .ok (.aload_n 0, 1) := dk_42 (dk_at dksX6_readLine_1 10 rfl rfl)
theorem dX6_readLine_35 : decode cX6_readLine 35 = .ok (.ldc2_w 109, 3) := dk_20 0 109 (dk_at dksX6_readLine_1 11 rfl rfl)
theorem dX6_readLine_38 : decode cX6_readLine 38 = .ok (.invokevirtual 214, 3) := dk_182 0 214 (dk_at dksX6_readLine_1 14 rfl rfl)
theorem dX6_readLine_41 : decode cX6_readLine 41 = .ok (.ifCond .eq 10, 3) := dk_153 0 10 (dk_at dksX6_readLine_1 17 rfl rfl)
theorem dX6_readLine_44 : decode cX6_readLine 44 = .ok (.aload_n 0, 1) := dk_42 (dk_at dksX6_readLine_1 20 rfl rfl)
theorem dX6_readLine_45 : decode cX6_readLine 45 = .ok (.invokevirtual 227, 3) := dk_182 0 227 (dk_at dksX6_readLine_1 21 rfl rfl)
theorem dX6_readLine_48 : decode cX6_readLine 48 = .ok (.goto 8, 3) := dk_167 0 8 (dk_at dksX6_readLine_2 0 rfl rfl)
theorem dX6_readLine_51 : decode cX6_readLine 51 = .ok (.aload_n 0, 1) := dk_42 (dk_at dksX6_readLine_2 3 rfl rfl)
theorem dX6_readLine_52 : decode cX6_readLine 52 = .ok (.iconst 1, 1) := dk_4 (dk_at dksX6_readLine_2 4 rfl rfl)
theorem dX6_readLine_53 : decode cX6_readLine 53 = .ok (.invokevirtual 183, 3) := dk_182 0 183 (dk_at dksX6_readLine_2 5 rfl rfl)
theorem dX6_readLine_56 : decode cX6_readLine 56 = .ok (.ireturn, 1) := dk_172 (dk_at dksX6_readLine_2 8 rfl rfl)
abbrev cX6_isWord : ByteArray := prog_25_method_15_code
def yX6_isWord : MethodName := ⟨RX6, "isWord", "(J)Z"⟩
def dkwX6_isWord_0 : List UInt8 := [42, 180, 0, 157, 4, 160, 0, 16, 42, 180, 0, 170, 31, 148, 154, 0, 7, 4, 167, 0, 4, 3, 172]
abbrev dktX6_isWord_0 : List UInt8 := dkwX6_isWord_0 ++ []
theorem dksX6_isWord_0 : cX6_isWord.data.toList.drop 0 = dktX6_isWord_0 := by decide +kernel
theorem dX6_isWord_0 : decode cX6_isWord 0 = .ok (.aload_n 0, 1) := dk_42 (dk_at dksX6_isWord_0 0 rfl rfl)
theorem dX6_isWord_1 : decode cX6_isWord 1 = .ok (.getfield 157, 3) := dk_180 0 157 (dk_at dksX6_isWord_0 1 rfl rfl)
theorem dX6_isWord_4 : decode cX6_isWord 4 = .ok (.iconst 1, 1) := dk_4 (dk_at dksX6_isWord_0 4 rfl rfl)
theorem dX6_isWord_5 : decode cX6_isWord 5 = .ok (.if_icmp .ne 16, 3) := dk_160 0 16 (dk_at dksX6_isWord_0 5 rfl rfl)
theorem dX6_isWord_8 : decode cX6_isWord 8 = .ok (.aload_n 0, 1) := dk_42 (dk_at dksX6_isWord_0 8 rfl rfl)
theorem dX6_isWord_9 : decode cX6_isWord 9 = .ok (.getfield 170, 3) := dk_180 0 170 (dk_at dksX6_isWord_0 9 rfl rfl)
theorem dX6_isWord_12 : decode cX6_isWord 12 = .ok (.lload_n 1, 1) := dk_31 (dk_at dksX6_isWord_0 12 rfl rfl)
theorem dX6_isWord_13 : decode cX6_isWord 13 = .ok (.lcmp, 1) := dk_148 (dk_at dksX6_isWord_0 13 rfl rfl)
theorem dX6_isWord_14 : decode cX6_isWord 14 = .ok (.ifCond .ne 7, 3) := dk_154 0 7 (dk_at dksX6_isWord_0 14 rfl rfl)
theorem dX6_isWord_17 : decode cX6_isWord 17 = .ok (.iconst 1, 1) := dk_4 (dk_at dksX6_isWord_0 17 rfl rfl)
theorem dX6_isWord_18 : decode cX6_isWord 18 = .ok (.goto 4, 3) := dk_167 0 4 (dk_at dksX6_isWord_0 18 rfl rfl)
theorem dX6_isWord_21 : decode cX6_isWord 21 = .ok (.iconst 0, 1) := dk_3 (dk_at dksX6_isWord_0 21 rfl rfl)
theorem dX6_isWord_22 : decode cX6_isWord 22 = .ok (.ireturn, 1) := dk_172 (dk_at dksX6_isWord_0 22 rfl rfl)
abbrev cX6_readEpoch : ByteArray := prog_25_method_23_code
def yX6_readEpoch : MethodName := ⟨RX6, "readEpoch", "()Z"⟩
def dkwX6_readEpoch_1 : List UInt8 := [154, 0, 5, 3, 172, 42, 180, 0, 37, 3, 42, 180, 0, 193, 79, 4, 172]
abbrev dktX6_readEpoch_1 : List UInt8 := dkwX6_readEpoch_1 ++ []
def dkwX6_readEpoch_0 : List UInt8 := [42, 180, 0, 204, 158, 0, 9, 42, 6, 182, 0, 183, 172, 42, 182, 0, 186, 42, 4, 7, 182, 0, 207]
abbrev dktX6_readEpoch_0 : List UInt8 := dkwX6_readEpoch_0 ++ dktX6_readEpoch_1
theorem dksX6_readEpoch_0 : cX6_readEpoch.data.toList.drop 0 = dktX6_readEpoch_0 := by decide +kernel
theorem dksX6_readEpoch_1 : cX6_readEpoch.data.toList.drop 23 = dktX6_readEpoch_1 := dk_seg dksX6_readEpoch_0 23 rfl rfl
theorem dX6_readEpoch_0 : decode cX6_readEpoch 0 = .ok (.aload_n 0, 1) := dk_42 (dk_at dksX6_readEpoch_0 0 rfl rfl)
theorem dX6_readEpoch_1 : decode cX6_readEpoch 1 = .ok (.getfield 204, 3) := dk_180 0 204 (dk_at dksX6_readEpoch_0 1 rfl rfl)
theorem dX6_readEpoch_4 : decode cX6_readEpoch 4 = .ok (.ifCond .le 9, 3) := dk_158 0 9 (dk_at dksX6_readEpoch_0 4 rfl rfl)
theorem dX6_readEpoch_7 : decode cX6_readEpoch 7 = .ok (.aload_n 0, 1) := dk_42 (dk_at dksX6_readEpoch_0 7 rfl rfl)
theorem dX6_readEpoch_8 : decode cX6_readEpoch 8 = .ok (.iconst 3, 1) := dk_6 (dk_at dksX6_readEpoch_0 8 rfl rfl)
theorem dX6_readEpoch_9 : decode cX6_readEpoch 9 = .ok (.invokevirtual 183, 3) := dk_182 0 183 (dk_at dksX6_readEpoch_0 9 rfl rfl)
theorem dX6_readEpoch_12 : decode cX6_readEpoch 12 = .ok (.ireturn, 1) := dk_172 (dk_at dksX6_readEpoch_0 12 rfl rfl)
theorem dX6_readEpoch_13 : decode cX6_readEpoch 13 = .ok (.aload_n 0, 1) := dk_42 (dk_at dksX6_readEpoch_0 13 rfl rfl)
theorem dX6_readEpoch_14 : decode cX6_readEpoch 14 = .ok (.invokevirtual 186, 3) := dk_182 0 186 (dk_at dksX6_readEpoch_0 14 rfl rfl)
theorem dX6_readEpoch_17 : decode cX6_readEpoch 17 = .ok (.aload_n 0, 1) := dk_42 (dk_at dksX6_readEpoch_0 17 rfl rfl)
theorem dX6_readEpoch_18 : decode cX6_readEpoch 18 = .ok (.iconst 1, 1) := dk_4 (dk_at dksX6_readEpoch_0 18 rfl rfl)
theorem dX6_readEpoch_19 : decode cX6_readEpoch 19 = .ok (.iconst 4, 1) := dk_7 (dk_at dksX6_readEpoch_0 19 rfl rfl)
theorem dX6_readEpoch_20 : decode cX6_readEpoch 20 = .ok (.invokevirtual 207, 3) := dk_182 0 207 (dk_at dksX6_readEpoch_0 20 rfl rfl)
theorem dX6_readEpoch_23 : decode cX6_readEpoch 23 = .ok (.ifCond .ne 5, 3) := dk_154 0 5 (dk_at dksX6_readEpoch_1 0 rfl rfl)
theorem dX6_readEpoch_26 : decode cX6_readEpoch 26 = .ok (.iconst 0, 1) := dk_3 (dk_at dksX6_readEpoch_1 3 rfl rfl)
theorem dX6_readEpoch_27 : decode cX6_readEpoch 27 = .ok (.ireturn, 1) := dk_172 (dk_at dksX6_readEpoch_1 4 rfl rfl)
theorem dX6_readEpoch_28 : decode cX6_readEpoch 28 = .ok (.aload_n 0, 1) := dk_42 (dk_at dksX6_readEpoch_1 5 rfl rfl)
theorem dX6_readEpoch_29 : decode cX6_readEpoch 29 = .ok (.getfield 37, 3) := dk_180 0 37 (dk_at dksX6_readEpoch_1 6 rfl rfl)
theorem dX6_readEpoch_32 : decode cX6_readEpoch 32 = .ok (.iconst 0, 1) := dk_3 (dk_at dksX6_readEpoch_1 9 rfl rfl)
theorem dX6_readEpoch_33 : decode cX6_readEpoch 33 = .ok (.aload_n 0, 1) := dk_42 (dk_at dksX6_readEpoch_1 10 rfl rfl)
theorem dX6_readEpoch_34 : decode cX6_readEpoch 34 = .ok (.getfield 193, 3) := dk_180 0 193 (dk_at dksX6_readEpoch_1 11 rfl rfl)
theorem dX6_readEpoch_37 : decode cX6_readEpoch 37 = .ok (.iastore, 1) := dk_79 (dk_at dksX6_readEpoch_1 14 rfl rfl)
theorem dX6_readEpoch_38 : decode cX6_readEpoch 38 = .ok (.iconst 1, 1) := dk_4 (dk_at dksX6_readEpoch_1 15 rfl rfl)
theorem dX6_readEpoch_39 : decode cX6_readEpoch 39 = .ok (.ireturn, 1) := dk_172 (dk_at dksX6_readEpoch_1 16 rfl rfl)
abbrev cX6_bad : ByteArray := prog_25_method_14_code
def yX6_bad : MethodName := ⟨RX6, "bad", "(I)Z"⟩
def dkwX6_bad_0 : List UInt8 := [42, 27, 181, 0, 174, 42, 42, 180, 0, 151, 181, 0, 177, 3, 172]
abbrev dktX6_bad_0 : List UInt8 := dkwX6_bad_0 ++ []
theorem dksX6_bad_0 : cX6_bad.data.toList.drop 0 = dktX6_bad_0 := by decide +kernel
theorem dX6_bad_0 : decode cX6_bad 0 = .ok (.aload_n 0, 1) := dk_42 (dk_at dksX6_bad_0 0 rfl rfl)
theorem dX6_bad_1 : decode cX6_bad 1 = .ok (.iload_n 1, 1) := dk_27 (dk_at dksX6_bad_0 1 rfl rfl)
theorem dX6_bad_2 : decode cX6_bad 2 = .ok (.putfield 174, 3) := dk_181 0 174 (dk_at dksX6_bad_0 2 rfl rfl)
theorem dX6_bad_5 : decode cX6_bad 5 = .ok (.aload_n 0, 1) := dk_42 (dk_at dksX6_bad_0 5 rfl rfl)
theorem dX6_bad_6 : decode cX6_bad 6 = .ok (.aload_n 0, 1) := dk_42 (dk_at dksX6_bad_0 6 rfl rfl)
theorem dX6_bad_7 : decode cX6_bad 7 = .ok (.getfield 151, 3) := dk_180 0 151 (dk_at dksX6_bad_0 7 rfl rfl)
theorem dX6_bad_10 : decode cX6_bad 10 = .ok (.putfield 177, 3) := dk_181 0 177 (dk_at dksX6_bad_0 10 rfl rfl)
theorem dX6_bad_13 : decode cX6_bad 13 = .ok (.iconst 0, 1) := dk_3 (dk_at dksX6_bad_0 13 rfl rfl)
theorem dX6_bad_14 : decode cX6_bad 14 = .ok (.ireturn, 1) := dk_172 (dk_at dksX6_bad_0 14 rfl rfl)
abbrev cX6_takes : ByteArray := prog_25_method_19_code
def yX6_takes : MethodName := ⟨RX6, "takes", "(II)Z"⟩
def dkwX6_takes_1 : List UInt8 := [154, 0, 9, 42, 5, 182, 0, 183, 172, 42, 42, 180, 0, 167, 181, 0, 193, 42, 182, 0, 186, 4, 172]
abbrev dktX6_takes_1 : List UInt8 := dkwX6_takes_1 ++ []
def dkwX6_takes_0 : List UInt8 := [42, 180, 0, 157, 5, 159, 0, 9, 42, 4, 182, 0, 183, 172, 42, 180, 0, 167, 27, 28, 184, 0, 189]
abbrev dktX6_takes_0 : List UInt8 := dkwX6_takes_0 ++ dktX6_takes_1
theorem dksX6_takes_0 : cX6_takes.data.toList.drop 0 = dktX6_takes_0 := by decide +kernel
theorem dksX6_takes_1 : cX6_takes.data.toList.drop 23 = dktX6_takes_1 := dk_seg dksX6_takes_0 23 rfl rfl
theorem dX6_takes_0 : decode cX6_takes 0 = .ok (.aload_n 0, 1) := dk_42 (dk_at dksX6_takes_0 0 rfl rfl)
theorem dX6_takes_1 : decode cX6_takes 1 = .ok (.getfield 157, 3) := dk_180 0 157 (dk_at dksX6_takes_0 1 rfl rfl)
theorem dX6_takes_4 : decode cX6_takes 4 = .ok (.iconst 2, 1) := dk_5 (dk_at dksX6_takes_0 4 rfl rfl)
theorem dX6_takes_5 : decode cX6_takes 5 = .ok (.if_icmp .eq 9, 3) := dk_159 0 9 (dk_at dksX6_takes_0 5 rfl rfl)
theorem dX6_takes_8 : decode cX6_takes 8 = .ok (.aload_n 0, 1) := dk_42 (dk_at dksX6_takes_0 8 rfl rfl)
theorem dX6_takes_9 : decode cX6_takes 9 = .ok (.iconst 1, 1) := dk_4 (dk_at dksX6_takes_0 9 rfl rfl)
theorem dX6_takes_10 : decode cX6_takes 10 = .ok (.invokevirtual 183, 3) := dk_182 0 183 (dk_at dksX6_takes_0 10 rfl rfl)
theorem dX6_takes_13 : decode cX6_takes 13 = .ok (.ireturn, 1) := dk_172 (dk_at dksX6_takes_0 13 rfl rfl)
theorem dX6_takes_14 : decode cX6_takes 14 = .ok (.aload_n 0, 1) := dk_42 (dk_at dksX6_takes_0 14 rfl rfl)
theorem dX6_takes_15 : decode cX6_takes 15 = .ok (.getfield 167, 3) := dk_180 0 167 (dk_at dksX6_takes_0 15 rfl rfl)
theorem dX6_takes_18 : decode cX6_takes 18 = .ok (.iload_n 1, 1) := dk_27 (dk_at dksX6_takes_0 18 rfl rfl)
theorem dX6_takes_19 : decode cX6_takes 19 = .ok (.iload_n 2, 1) := dk_28 (dk_at dksX6_takes_0 19 rfl rfl)
theorem dX6_takes_20 : decode cX6_takes 20 = .ok (.invokestatic 189, 3) := dk_184 0 189 (dk_at dksX6_takes_0 20 rfl rfl)
theorem dX6_takes_23 : decode cX6_takes 23 = .ok (.ifCond .ne 9, 3) := dk_154 0 9 (dk_at dksX6_takes_1 0 rfl rfl)
theorem dX6_takes_26 : decode cX6_takes 26 = .ok (.aload_n 0, 1) := dk_42 (dk_at dksX6_takes_1 3 rfl rfl)
theorem dX6_takes_27 : decode cX6_takes 27 = .ok (.iconst 2, 1) := dk_5 (dk_at dksX6_takes_1 4 rfl rfl)
theorem dX6_takes_28 : decode cX6_takes 28 = .ok (.invokevirtual 183, 3) := dk_182 0 183 (dk_at dksX6_takes_1 5 rfl rfl)
theorem dX6_takes_31 : decode cX6_takes 31 = .ok (.ireturn, 1) := dk_172 (dk_at dksX6_takes_1 8 rfl rfl)
theorem dX6_takes_32 : decode cX6_takes 32 = .ok (.aload_n 0, 1) := dk_42 (dk_at dksX6_takes_1 9 rfl rfl)
theorem dX6_takes_33 : decode cX6_takes 33 = .ok (.aload_n 0, 1) := dk_42 (dk_at dksX6_takes_1 10 rfl rfl)
theorem dX6_takes_34 : decode cX6_takes 34 = .ok (.getfield 167, 3) := dk_180 0 167 (dk_at dksX6_takes_1 11 rfl rfl)
theorem dX6_takes_37 : decode cX6_takes 37 = .ok (.putfield 193, 3) := dk_181 0 193 (dk_at dksX6_takes_1 14 rfl rfl)
theorem dX6_takes_40 : decode cX6_takes 40 = .ok (.aload_n 0, 1) := dk_42 (dk_at dksX6_takes_1 17 rfl rfl)
theorem dX6_takes_41 : decode cX6_takes 41 = .ok (.invokevirtual 186, 3) := dk_182 0 186 (dk_at dksX6_takes_1 18 rfl rfl)
theorem dX6_takes_44 : decode cX6_takes 44 = .ok (.iconst 1, 1) := dk_4 (dk_at dksX6_takes_1 21 rfl rfl)
theorem dX6_takes_45 : decode cX6_takes 45 = .ok (.ireturn, 1) := dk_172 (dk_at dksX6_takes_1 22 rfl rfl)
abbrev cX6_isIn : ByteArray := prog_25_method_7_code
def yX6_isIn : MethodName := ⟨RX6, "isIn", "(III)Z"⟩
def dkwX6_isIn_0 : List UInt8 := [26, 27, 161, 0, 12, 26, 28, 163, 0, 7, 4, 167, 0, 4, 3, 172]
abbrev dktX6_isIn_0 : List UInt8 := dkwX6_isIn_0 ++ []
theorem dksX6_isIn_0 : cX6_isIn.data.toList.drop 0 = dktX6_isIn_0 := by decide +kernel
theorem dX6_isIn_0 : decode cX6_isIn 0 = .ok (.iload_n 0, 1) := dk_26 (dk_at dksX6_isIn_0 0 rfl rfl)
theorem dX6_isIn_1 : decode cX6_isIn 1 = .ok (.iload_n 1, 1) := dk_27 (dk_at dksX6_isIn_0 1 rfl rfl)
theorem dX6_isIn_2 : decode cX6_isIn 2 = .ok (.if_icmp .lt 12, 3) := dk_161 0 12 (dk_at dksX6_isIn_0 2 rfl rfl)
theorem dX6_isIn_5 : decode cX6_isIn 5 = .ok (.iload_n 0, 1) := dk_26 (dk_at dksX6_isIn_0 5 rfl rfl)
theorem dX6_isIn_6 : decode cX6_isIn 6 = .ok (.iload_n 2, 1) := dk_28 (dk_at dksX6_isIn_0 6 rfl rfl)
theorem dX6_isIn_7 : decode cX6_isIn 7 = .ok (.if_icmp .gt 7, 3) := dk_163 0 7 (dk_at dksX6_isIn_0 7 rfl rfl)
theorem dX6_isIn_10 : decode cX6_isIn 10 = .ok (.iconst 1, 1) := dk_4 (dk_at dksX6_isIn_0 10 rfl rfl)
theorem dX6_isIn_11 : decode cX6_isIn 11 = .ok (.goto 4, 3) := dk_167 0 4 (dk_at dksX6_isIn_0 11 rfl rfl)
theorem dX6_isIn_14 : decode cX6_isIn 14 = .ok (.iconst 0, 1) := dk_3 (dk_at dksX6_isIn_0 14 rfl rfl)
theorem dX6_isIn_15 : decode cX6_isIn 15 = .ok (.ireturn, 1) := dk_172 (dk_at dksX6_isIn_0 15 rfl rfl)
abbrev cX6_readVoter : ByteArray := prog_25_method_24_code
def yX6_readVoter : MethodName := ⟨RX6, "readVoter", "()Z"⟩
def dkwX6_readVoter_3 : List UInt8 := [180, 0, 193, 79, 42, 180, 0, 37, 4, 92, 46, 4, 96, 79, 4, 172]
abbrev dktX6_readVoter_3 : List UInt8 := dkwX6_readVoter_3 ++ []
def dkwX6_readVoter_2 : List UInt8 := [182, 0, 186, 42, 3, 16, 9, 182, 0, 207, 154, 0, 5, 3, 172, 42, 180, 0, 37, 7, 27, 96, 42]
abbrev dktX6_readVoter_2 : List UInt8 := dkwX6_readVoter_2 ++ dktX6_readVoter_3
def dkwX6_readVoter_1 : List UInt8 := [182, 0, 211, 154, 0, 5, 3, 172, 42, 180, 0, 46, 16, 28, 27, 96, 42, 180, 0, 170, 80, 42]
abbrev dktX6_readVoter_1 : List UInt8 := dkwX6_readVoter_1 ++ dktX6_readVoter_2
def dkwX6_readVoter_0 : List UInt8 := [42, 180, 0, 37, 4, 46, 60, 27, 16, 8, 160, 0, 9, 42, 7, 182, 0, 183, 172, 42, 182, 0, 186, 42]
abbrev dktX6_readVoter_0 : List UInt8 := dkwX6_readVoter_0 ++ dktX6_readVoter_1
theorem dksX6_readVoter_0 : cX6_readVoter.data.toList.drop 0 = dktX6_readVoter_0 := by decide +kernel
theorem dksX6_readVoter_1 : cX6_readVoter.data.toList.drop 24 = dktX6_readVoter_1 := dk_seg dksX6_readVoter_0 24 rfl rfl
theorem dksX6_readVoter_2 : cX6_readVoter.data.toList.drop 46 = dktX6_readVoter_2 := dk_seg dksX6_readVoter_1 22 rfl rfl
theorem dksX6_readVoter_3 : cX6_readVoter.data.toList.drop 69 = dktX6_readVoter_3 := dk_seg dksX6_readVoter_2 23 rfl rfl
theorem dX6_readVoter_0 : decode cX6_readVoter 0 = .ok (.aload_n 0, 1) := dk_42 (dk_at dksX6_readVoter_0 0 rfl rfl)
theorem dX6_readVoter_1 : decode cX6_readVoter 1 = .ok (.getfield 37, 3) := dk_180 0 37 (dk_at dksX6_readVoter_0 1 rfl rfl)
theorem dX6_readVoter_4 : decode cX6_readVoter 4 = .ok (.iconst 1, 1) := dk_4 (dk_at dksX6_readVoter_0 4 rfl rfl)
theorem dX6_readVoter_5 : decode cX6_readVoter 5 = .ok (.iaload, 1) := dk_46 (dk_at dksX6_readVoter_0 5 rfl rfl)
theorem dX6_readVoter_6 : decode cX6_readVoter 6 = .ok (.istore_n 1, 1) := dk_60 (dk_at dksX6_readVoter_0 6 rfl rfl)
theorem dX6_readVoter_7 : decode cX6_readVoter 7 = .ok (.iload_n 1, 1) := dk_27 (dk_at dksX6_readVoter_0 7 rfl rfl)
theorem dX6_readVoter_8 : decode cX6_readVoter 8 = .ok (.bipush 8, 2) := dk_16 8 (dk_at dksX6_readVoter_0 8 rfl rfl)
theorem dX6_readVoter_10 : decode cX6_readVoter 10 = .ok (.if_icmp .ne 9, 3) := dk_160 0 9 (dk_at dksX6_readVoter_0 10 rfl rfl)
theorem dX6_readVoter_13 : decode cX6_readVoter 13 = .ok (.aload_n 0, 1) := dk_42 (dk_at dksX6_readVoter_0 13 rfl rfl)
theorem dX6_readVoter_14 : decode cX6_readVoter 14 = .ok (.iconst 4, 1) := dk_7 (dk_at dksX6_readVoter_0 14 rfl rfl)
theorem dX6_readVoter_15 : decode cX6_readVoter 15 = .ok (.invokevirtual 183, 3) := dk_182 0 183 (dk_at dksX6_readVoter_0 15 rfl rfl)
theorem dX6_readVoter_18 : decode cX6_readVoter 18 = .ok (.ireturn, 1) := dk_172 (dk_at dksX6_readVoter_0 18 rfl rfl)
theorem dX6_readVoter_19 : decode cX6_readVoter 19 = .ok (.aload_n 0, 1) := dk_42 (dk_at dksX6_readVoter_0 19 rfl rfl)
theorem dX6_readVoter_20 : decode cX6_readVoter 20 = .ok (.invokevirtual 186, 3) := dk_182 0 186 (dk_at dksX6_readVoter_0 20 rfl rfl)
theorem dX6_readVoter_23 : decode cX6_readVoter 23 = .ok (.aload_n 0, 1) := dk_42 (dk_at dksX6_readVoter_0 23 rfl rfl)
theorem dX6_readVoter_24 : decode cX6_readVoter 24 = .ok (.invokevirtual 211, 3) := dk_182 0 211 (dk_at dksX6_readVoter_1 0 rfl rfl)
theorem dX6_readVoter_27 : decode cX6_readVoter 27 = .ok (.ifCond .ne 5, 3) := dk_154 0 5 (dk_at dksX6_readVoter_1 3 rfl rfl)
theorem dX6_readVoter_30 : decode cX6_readVoter 30 = .ok (.iconst 0, 1) := dk_3 (dk_at dksX6_readVoter_1 6 rfl rfl)
theorem dX6_readVoter_31 : decode cX6_readVoter 31 = .ok (.ireturn, 1) := dk_172 (dk_at dksX6_readVoter_1 7 rfl rfl)
theorem dX6_readVoter_32 : decode cX6_readVoter 32 = .ok (.aload_n 0, 1) := dk_42 (dk_at dksX6_readVoter_1 8 rfl rfl)
theorem dX6_readVoter_33 : decode cX6_readVoter 33 = .ok (.getfield 46, 3) := dk_180 0 46 (dk_at dksX6_readVoter_1 9 rfl rfl)
theorem dX6_readVoter_36 : decode cX6_readVoter 36 = .ok (.bipush 28, 2) := dk_16 28 (dk_at dksX6_readVoter_1 12 rfl rfl)
theorem dX6_readVoter_38 : decode cX6_readVoter 38 = .ok (.iload_n 1, 1) := dk_27 (dk_at dksX6_readVoter_1 14 rfl rfl)
theorem dX6_readVoter_39 : decode cX6_readVoter 39 = .ok (.iadd, 1) := dk_96 (dk_at dksX6_readVoter_1 15 rfl rfl)
theorem dX6_readVoter_40 : decode cX6_readVoter 40 = .ok (.aload_n 0, 1) := dk_42 (dk_at dksX6_readVoter_1 16 rfl rfl)
theorem dX6_readVoter_41 : decode cX6_readVoter 41 = .ok (.getfield 170, 3) := dk_180 0 170 (dk_at dksX6_readVoter_1 17 rfl rfl)
theorem dX6_readVoter_44 : decode cX6_readVoter 44 = .ok (.lastore, 1) := dk_80 (dk_at dksX6_readVoter_1 20 rfl rfl)
theorem dX6_readVoter_45 : decode cX6_readVoter 45 = .ok (.aload_n 0, 1) := dk_42 (dk_at dksX6_readVoter_1 21 rfl rfl)
theorem dX6_readVoter_46 : decode cX6_readVoter 46 = .ok (.invokevirtual 186, 3) := dk_182 0 186 (dk_at dksX6_readVoter_2 0 rfl rfl)
theorem dX6_readVoter_49 : decode cX6_readVoter 49 = .ok (.aload_n 0, 1) := dk_42 (dk_at dksX6_readVoter_2 3 rfl rfl)
theorem dX6_readVoter_50 : decode cX6_readVoter 50 = .ok (.iconst 0, 1) := dk_3 (dk_at dksX6_readVoter_2 4 rfl rfl)
theorem dX6_readVoter_51 : decode cX6_readVoter 51 = .ok (.bipush 9, 2) := dk_16 9 (dk_at dksX6_readVoter_2 5 rfl rfl)
theorem dX6_readVoter_53 : decode cX6_readVoter 53 = .ok (.invokevirtual 207, 3) := dk_182 0 207 (dk_at dksX6_readVoter_2 7 rfl rfl)
theorem dX6_readVoter_56 : decode cX6_readVoter 56 = .ok (.ifCond .ne 5, 3) := dk_154 0 5 (dk_at dksX6_readVoter_2 10 rfl rfl)
theorem dX6_readVoter_59 : decode cX6_readVoter 59 = .ok (.iconst 0, 1) := dk_3 (dk_at dksX6_readVoter_2 13 rfl rfl)
theorem dX6_readVoter_60 : decode cX6_readVoter 60 = .ok (.ireturn, 1) := dk_172 (dk_at dksX6_readVoter_2 14 rfl rfl)
theorem dX6_readVoter_61 : decode cX6_readVoter 61 = .ok (.aload_n 0, 1) := dk_42 (dk_at dksX6_readVoter_2 15 rfl rfl)
theorem dX6_readVoter_62 : decode cX6_readVoter 62 = .ok (.getfield 37, 3) := dk_180 0 37 (dk_at dksX6_readVoter_2 16 rfl rfl)
theorem dX6_readVoter_65 : decode cX6_readVoter 65 = .ok (.iconst 4, 1) := dk_7 (dk_at dksX6_readVoter_2 19 rfl rfl)
theorem dX6_readVoter_66 : decode cX6_readVoter 66 = .ok (.iload_n 1, 1) := dk_27 (dk_at dksX6_readVoter_2 20 rfl rfl)
theorem dX6_readVoter_67 : decode cX6_readVoter 67 = .ok (.iadd, 1) := dk_96 (dk_at dksX6_readVoter_2 21 rfl rfl)
theorem dX6_readVoter_68 : decode cX6_readVoter 68 = .ok (.aload_n 0, 1) := dk_42 (dk_at dksX6_readVoter_2 22 rfl rfl)
theorem dX6_readVoter_69 : decode cX6_readVoter 69 = .ok (.getfield 193, 3) := dk_180 0 193 (dk_at dksX6_readVoter_3 0 rfl rfl)
theorem dX6_readVoter_72 : decode cX6_readVoter 72 = .ok (.iastore, 1) := dk_79 (dk_at dksX6_readVoter_3 3 rfl rfl)
theorem dX6_readVoter_73 : decode cX6_readVoter 73 = .ok (.aload_n 0, 1) := dk_42 (dk_at dksX6_readVoter_3 4 rfl rfl)
theorem dX6_readVoter_74 : decode cX6_readVoter 74 = .ok (.getfield 37, 3) := dk_180 0 37 (dk_at dksX6_readVoter_3 5 rfl rfl)
theorem dX6_readVoter_77 : decode cX6_readVoter 77 = .ok (.iconst 1, 1) := dk_4 (dk_at dksX6_readVoter_3 8 rfl rfl)
theorem dX6_readVoter_78 : decode cX6_readVoter 78 = .ok (.dup2, 1) := dk_92 (dk_at dksX6_readVoter_3 9 rfl rfl)
theorem dX6_readVoter_79 : decode cX6_readVoter 79 = .ok (.iaload, 1) := dk_46 (dk_at dksX6_readVoter_3 10 rfl rfl)
theorem dX6_readVoter_80 : decode cX6_readVoter 80 = .ok (.iconst 1, 1) := dk_4 (dk_at dksX6_readVoter_3 11 rfl rfl)
theorem dX6_readVoter_81 : decode cX6_readVoter 81 = .ok (.iadd, 1) := dk_96 (dk_at dksX6_readVoter_3 12 rfl rfl)
theorem dX6_readVoter_82 : decode cX6_readVoter 82 = .ok (.iastore, 1) := dk_79 (dk_at dksX6_readVoter_3 13 rfl rfl)
theorem dX6_readVoter_83 : decode cX6_readVoter 83 = .ok (.iconst 1, 1) := dk_4 (dk_at dksX6_readVoter_3 14 rfl rfl)
theorem dX6_readVoter_84 : decode cX6_readVoter 84 = .ok (.ireturn, 1) := dk_172 (dk_at dksX6_readVoter_3 15 rfl rfl)
abbrev cX6_isNew : ByteArray := prog_25_method_22_code
def yX6_isNew : MethodName := ⟨RX6, "isNew", "()Z"⟩
def dkwX6_isNew_2 : List UInt8 := [182, 0, 183, 153, 0, 7, 4, 167, 0, 4, 3, 172]
abbrev dktX6_isNew_2 : List UInt8 := dkwX6_isNew_2 ++ []
def dkwX6_isNew_1 : List UInt8 := [182, 0, 200, 156, 0, 18, 42, 16, 36, 42, 180, 0, 37, 5, 46, 182, 0, 200, 155, 0, 11, 42, 6]
abbrev dktX6_isNew_1 : List UInt8 := dkwX6_isNew_1 ++ dktX6_isNew_2
def dkwX6_isNew_0 : List UInt8 := [42, 182, 0, 196, 154, 0, 9, 42, 4, 182, 0, 183, 172, 42, 16, 28, 42, 180, 0, 37, 4, 46]
abbrev dktX6_isNew_0 : List UInt8 := dkwX6_isNew_0 ++ dktX6_isNew_1
theorem dksX6_isNew_0 : cX6_isNew.data.toList.drop 0 = dktX6_isNew_0 := by decide +kernel
theorem dksX6_isNew_1 : cX6_isNew.data.toList.drop 22 = dktX6_isNew_1 := dk_seg dksX6_isNew_0 22 rfl rfl
theorem dksX6_isNew_2 : cX6_isNew.data.toList.drop 45 = dktX6_isNew_2 := dk_seg dksX6_isNew_1 23 rfl rfl
theorem dX6_isNew_0 : decode cX6_isNew 0 = .ok (.aload_n 0, 1) := dk_42 (dk_at dksX6_isNew_0 0 rfl rfl)
theorem dX6_isNew_1 : decode cX6_isNew 1 = .ok (.invokevirtual 196, 3) := dk_182 0 196 (dk_at dksX6_isNew_0 1 rfl rfl)
theorem dX6_isNew_4 : decode cX6_isNew 4 = .ok (.ifCond .ne 9, 3) := dk_154 0 9 (dk_at dksX6_isNew_0 4 rfl rfl)
theorem dX6_isNew_7 : decode cX6_isNew 7 = .ok (.aload_n 0, 1) := dk_42 (dk_at dksX6_isNew_0 7 rfl rfl)
theorem dX6_isNew_8 : decode cX6_isNew 8 = .ok (.iconst 1, 1) := dk_4 (dk_at dksX6_isNew_0 8 rfl rfl)
theorem dX6_isNew_9 : decode cX6_isNew 9 = .ok (.invokevirtual 183, 3) := dk_182 0 183 (dk_at dksX6_isNew_0 9 rfl rfl)
theorem dX6_isNew_12 : decode cX6_isNew 12 = .ok (.ireturn, 1) := dk_172 (dk_at dksX6_isNew_0 12 rfl rfl)
theorem dX6_isNew_13 : decode cX6_isNew 13 = .ok (.aload_n 0, 1) := dk_42 (dk_at dksX6_isNew_0 13 rfl rfl)
theorem dX6_isNew_14 : decode cX6_isNew 14 = .ok (.bipush 28, 2) := dk_16 28 (dk_at dksX6_isNew_0 14 rfl rfl)
theorem dX6_isNew_16 : decode cX6_isNew 16 = .ok (.aload_n 0, 1) := dk_42 (dk_at dksX6_isNew_0 16 rfl rfl)
theorem dX6_isNew_17 : decode cX6_isNew 17 = .ok (.getfield 37, 3) := dk_180 0 37 (dk_at dksX6_isNew_0 17 rfl rfl)
theorem dX6_isNew_20 : decode cX6_isNew 20 = .ok (.iconst 1, 1) := dk_4 (dk_at dksX6_isNew_0 20 rfl rfl)
theorem dX6_isNew_21 : decode cX6_isNew 21 = .ok (.iaload, 1) := dk_46 (dk_at dksX6_isNew_0 21 rfl rfl)
theorem dX6_isNew_22 : decode cX6_isNew 22 = .ok (.invokevirtual 200, 3) := dk_182 0 200 (dk_at dksX6_isNew_1 0 rfl rfl)
theorem dX6_isNew_25 : decode cX6_isNew 25 = .ok (.ifCond .ge 18, 3) := dk_156 0 18 (dk_at dksX6_isNew_1 3 rfl rfl)
theorem dX6_isNew_28 : decode cX6_isNew 28 = .ok (.aload_n 0, 1) := dk_42 (dk_at dksX6_isNew_1 6 rfl rfl)
theorem dX6_isNew_29 : decode cX6_isNew 29 = .ok (.bipush 36, 2) := dk_16 36 (dk_at dksX6_isNew_1 7 rfl rfl)
theorem dX6_isNew_31 : decode cX6_isNew 31 = .ok (.aload_n 0, 1) := dk_42 (dk_at dksX6_isNew_1 9 rfl rfl)
theorem dX6_isNew_32 : decode cX6_isNew 32 = .ok (.getfield 37, 3) := dk_180 0 37 (dk_at dksX6_isNew_1 10 rfl rfl)
theorem dX6_isNew_35 : decode cX6_isNew 35 = .ok (.iconst 2, 1) := dk_5 (dk_at dksX6_isNew_1 13 rfl rfl)
theorem dX6_isNew_36 : decode cX6_isNew 36 = .ok (.iaload, 1) := dk_46 (dk_at dksX6_isNew_1 14 rfl rfl)
theorem dX6_isNew_37 : decode cX6_isNew 37 = .ok (.invokevirtual 200, 3) := dk_182 0 200 (dk_at dksX6_isNew_1 15 rfl rfl)
theorem dX6_isNew_40 : decode cX6_isNew 40 = .ok (.ifCond .lt 11, 3) := dk_155 0 11 (dk_at dksX6_isNew_1 18 rfl rfl)
theorem dX6_isNew_43 : decode cX6_isNew 43 = .ok (.aload_n 0, 1) := dk_42 (dk_at dksX6_isNew_1 21 rfl rfl)
theorem dX6_isNew_44 : decode cX6_isNew 44 = .ok (.iconst 3, 1) := dk_6 (dk_at dksX6_isNew_1 22 rfl rfl)
theorem dX6_isNew_45 : decode cX6_isNew 45 = .ok (.invokevirtual 183, 3) := dk_182 0 183 (dk_at dksX6_isNew_2 0 rfl rfl)
theorem dX6_isNew_48 : decode cX6_isNew 48 = .ok (.ifCond .eq 7, 3) := dk_153 0 7 (dk_at dksX6_isNew_2 3 rfl rfl)
theorem dX6_isNew_51 : decode cX6_isNew 51 = .ok (.iconst 1, 1) := dk_4 (dk_at dksX6_isNew_2 6 rfl rfl)
theorem dX6_isNew_52 : decode cX6_isNew 52 = .ok (.goto 4, 3) := dk_167 0 4 (dk_at dksX6_isNew_2 7 rfl rfl)
theorem dX6_isNew_55 : decode cX6_isNew 55 = .ok (.iconst 0, 1) := dk_3 (dk_at dksX6_isNew_2 10 rfl rfl)
theorem dX6_isNew_56 : decode cX6_isNew 56 = .ok (.ireturn, 1) := dk_172 (dk_at dksX6_isNew_2 11 rfl rfl)
abbrev cX6_isName : ByteArray := prog_25_method_18_code
def yX6_isName : MethodName := ⟨RX6, "isName", "()Z"⟩
def dkwX6_isName_2 : List UInt8 := [132, 2, 1, 167, 255, 223, 27, 172]
abbrev dktX6_isName_2 : List UInt8 := dkwX6_isName_2 ++ []
def dkwX6_isName_1 : List UInt8 := [153, 0, 21, 42, 180, 0, 170, 42, 180, 0, 50, 28, 47, 148, 153, 0, 7, 4, 167, 0, 4, 3, 60]
abbrev dktX6_isName_1 : List UInt8 := dkwX6_isName_1 ++ dktX6_isName_2
def dkwX6_isName_0 : List UInt8 := [42, 180, 0, 157, 4, 160, 0, 7, 4, 167, 0, 4, 3, 60, 3, 61, 28, 16, 21, 162, 0, 33, 27]
abbrev dktX6_isName_0 : List UInt8 := dkwX6_isName_0 ++ dktX6_isName_1
theorem dksX6_isName_0 : cX6_isName.data.toList.drop 0 = dktX6_isName_0 := by decide +kernel
theorem dksX6_isName_1 : cX6_isName.data.toList.drop 23 = dktX6_isName_1 := dk_seg dksX6_isName_0 23 rfl rfl
theorem dksX6_isName_2 : cX6_isName.data.toList.drop 46 = dktX6_isName_2 := dk_seg dksX6_isName_1 23 rfl rfl
theorem dX6_isName_0 : decode cX6_isName 0 = .ok (.aload_n 0, 1) := dk_42 (dk_at dksX6_isName_0 0 rfl rfl)
theorem dX6_isName_1 : decode cX6_isName 1 = .ok (.getfield 157, 3) := dk_180 0 157 (dk_at dksX6_isName_0 1 rfl rfl)
theorem dX6_isName_4 : decode cX6_isName 4 = .ok (.iconst 1, 1) := dk_4 (dk_at dksX6_isName_0 4 rfl rfl)
theorem dX6_isName_5 : decode cX6_isName 5 = .ok (.if_icmp .ne 7, 3) := dk_160 0 7 (dk_at dksX6_isName_0 5 rfl rfl)
theorem dX6_isName_8 : decode cX6_isName 8 = .ok (.iconst 1, 1) := dk_4 (dk_at dksX6_isName_0 8 rfl rfl)
theorem dX6_isName_9 : decode cX6_isName 9 = .ok (.goto 4, 3) := dk_167 0 4 (dk_at dksX6_isName_0 9 rfl rfl)
theorem dX6_isName_12 : decode cX6_isName 12 = .ok (.iconst 0, 1) := dk_3 (dk_at dksX6_isName_0 12 rfl rfl)
theorem dX6_isName_13 : decode cX6_isName 13 = .ok (.istore_n 1, 1) := dk_60 (dk_at dksX6_isName_0 13 rfl rfl)
theorem dX6_isName_14 : decode cX6_isName 14 = .ok (.iconst 0, 1) := dk_3 (dk_at dksX6_isName_0 14 rfl rfl)
theorem dX6_isName_15 : decode cX6_isName 15 = .ok (.istore_n 2, 1) := dk_61 (dk_at dksX6_isName_0 15 rfl rfl)
theorem dX6_isName_16 : decode cX6_isName 16 = .ok (.iload_n 2, 1) := dk_28 (dk_at dksX6_isName_0 16 rfl rfl)
theorem dX6_isName_17 : decode cX6_isName 17 = .ok (.bipush 21, 2) := dk_16 21 (dk_at dksX6_isName_0 17 rfl rfl)
theorem dX6_isName_19 : decode cX6_isName 19 = .ok (.if_icmp .ge 33, 3) := dk_162 0 33 (dk_at dksX6_isName_0 19 rfl rfl)
theorem dX6_isName_22 : decode cX6_isName 22 = .ok (.iload_n 1, 1) := dk_27 (dk_at dksX6_isName_0 22 rfl rfl)
theorem dX6_isName_23 : decode cX6_isName 23 = .ok (.ifCond .eq 21, 3) := dk_153 0 21 (dk_at dksX6_isName_1 0 rfl rfl)
theorem dX6_isName_26 : decode cX6_isName 26 = .ok (.aload_n 0, 1) := dk_42 (dk_at dksX6_isName_1 3 rfl rfl)
theorem dX6_isName_27 : decode cX6_isName 27 = .ok (.getfield 170, 3) := dk_180 0 170 (dk_at dksX6_isName_1 4 rfl rfl)
theorem dX6_isName_30 : decode cX6_isName 30 = .ok (.aload_n 0, 1) := dk_42 (dk_at dksX6_isName_1 7 rfl rfl)
theorem dX6_isName_31 : decode cX6_isName 31 = .ok (.getfield 50, 3) := dk_180 0 50 (dk_at dksX6_isName_1 8 rfl rfl)
theorem dX6_isName_34 : decode cX6_isName 34 = .ok (.iload_n 2, 1) := dk_28 (dk_at dksX6_isName_1 11 rfl rfl)
theorem dX6_isName_35 : decode cX6_isName 35 = .ok (.laload, 1) := dk_47 (dk_at dksX6_isName_1 12 rfl rfl)
theorem dX6_isName_36 : decode cX6_isName 36 = .ok (.lcmp, 1) := dk_148 (dk_at dksX6_isName_1 13 rfl rfl)
theorem dX6_isName_37 : decode cX6_isName 37 = .ok (.ifCond .eq 7, 3) := dk_153 0 7 (dk_at dksX6_isName_1 14 rfl rfl)
theorem dX6_isName_40 : decode cX6_isName 40 = .ok (.iconst 1, 1) := dk_4 (dk_at dksX6_isName_1 17 rfl rfl)
theorem dX6_isName_41 : decode cX6_isName 41 = .ok (.goto 4, 3) := dk_167 0 4 (dk_at dksX6_isName_1 18 rfl rfl)
theorem dX6_isName_44 : decode cX6_isName 44 = .ok (.iconst 0, 1) := dk_3 (dk_at dksX6_isName_1 21 rfl rfl)
theorem dX6_isName_45 : decode cX6_isName 45 = .ok (.istore_n 1, 1) := dk_60 (dk_at dksX6_isName_1 22 rfl rfl)
theorem dX6_isName_46 : decode cX6_isName 46 = .ok (.iinc 2 1, 3) := dk_132 2 1 (dk_at dksX6_isName_2 0 rfl rfl)
theorem dX6_isName_49 : decode cX6_isName 49 = .ok (.goto (-33), 3) := dk_167 255 223 (dk_at dksX6_isName_2 3 rfl rfl)
theorem dX6_isName_52 : decode cX6_isName 52 = .ok (.iload_n 1, 1) := dk_27 (dk_at dksX6_isName_2 6 rfl rfl)
theorem dX6_isName_53 : decode cX6_isName 53 = .ok (.ireturn, 1) := dk_172 (dk_at dksX6_isName_2 7 rfl rfl)
abbrev cX6_seek : ByteArray := prog_25_method_20_code
def yX6_seek : MethodName := ⟨RX6, "seek", "(II)I"⟩
def dkwX6_seek_1 : List UInt8 := [172, 132, 3, 1, 167, 255, 230, 2, 172]
abbrev dktX6_seek_1 : List UInt8 := dkwX6_seek_1 ++ []
def dkwX6_seek_0 : List UInt8 := [3, 62, 29, 28, 162, 0, 27, 42, 180, 0, 46, 27, 29, 96, 47, 42, 180, 0, 170, 148, 154, 0, 5, 29]
abbrev dktX6_seek_0 : List UInt8 := dkwX6_seek_0 ++ dktX6_seek_1
theorem dksX6_seek_0 : cX6_seek.data.toList.drop 0 = dktX6_seek_0 := by decide +kernel
theorem dksX6_seek_1 : cX6_seek.data.toList.drop 24 = dktX6_seek_1 := dk_seg dksX6_seek_0 24 rfl rfl
theorem dX6_seek_0 : decode cX6_seek 0 = .ok (.iconst 0, 1) := dk_3 (dk_at dksX6_seek_0 0 rfl rfl)
theorem dX6_seek_1 : decode cX6_seek 1 = .ok (.istore_n 3, 1) := dk_62 (dk_at dksX6_seek_0 1 rfl rfl)
theorem dX6_seek_2 : decode cX6_seek 2 = .ok (.iload_n 3, 1) := dk_29 (dk_at dksX6_seek_0 2 rfl rfl)
theorem dX6_seek_3 : decode cX6_seek 3 = .ok (.iload_n 2, 1) := dk_28 (dk_at dksX6_seek_0 3 rfl rfl)
theorem dX6_seek_4 : decode cX6_seek 4 = .ok (.if_icmp .ge 27, 3) := dk_162 0 27 (dk_at dksX6_seek_0 4 rfl rfl)
theorem dX6_seek_7 : decode cX6_seek 7 = .ok (.aload_n 0, 1) := dk_42 (dk_at dksX6_seek_0 7 rfl rfl)
theorem dX6_seek_8 : decode cX6_seek 8 = .ok (.getfield 46, 3) := dk_180 0 46 (dk_at dksX6_seek_0 8 rfl rfl)
theorem dX6_seek_11 : decode cX6_seek 11 = .ok (.iload_n 1, 1) := dk_27 (dk_at dksX6_seek_0 11 rfl rfl)
theorem dX6_seek_12 : decode cX6_seek 12 = .ok (.iload_n 3, 1) := dk_29 (dk_at dksX6_seek_0 12 rfl rfl)
theorem dX6_seek_13 : decode cX6_seek 13 = .ok (.iadd, 1) := dk_96 (dk_at dksX6_seek_0 13 rfl rfl)
theorem dX6_seek_14 : decode cX6_seek 14 = .ok (.laload, 1) := dk_47 (dk_at dksX6_seek_0 14 rfl rfl)
theorem dX6_seek_15 : decode cX6_seek 15 = .ok (.aload_n 0, 1) := dk_42 (dk_at dksX6_seek_0 15 rfl rfl)
theorem dX6_seek_16 : decode cX6_seek 16 = .ok (.getfield 170, 3) := dk_180 0 170 (dk_at dksX6_seek_0 16 rfl rfl)
theorem dX6_seek_19 : decode cX6_seek 19 = .ok (.lcmp, 1) := dk_148 (dk_at dksX6_seek_0 19 rfl rfl)
theorem dX6_seek_20 : decode cX6_seek 20 = .ok (.ifCond .ne 5, 3) := dk_154 0 5 (dk_at dksX6_seek_0 20 rfl rfl)
theorem dX6_seek_23 : decode cX6_seek 23 = .ok (.iload_n 3, 1) := dk_29 (dk_at dksX6_seek_0 23 rfl rfl)
theorem dX6_seek_24 : decode cX6_seek 24 = .ok (.ireturn, 1) := dk_172 (dk_at dksX6_seek_1 0 rfl rfl)
theorem dX6_seek_25 : decode cX6_seek 25 = .ok (.iinc 3 1, 3) := dk_132 3 1 (dk_at dksX6_seek_1 1 rfl rfl)
theorem dX6_seek_28 : decode cX6_seek 28 = .ok (.goto (-26), 3) := dk_167 255 230 (dk_at dksX6_seek_1 4 rfl rfl)
theorem dX6_seek_31 : decode cX6_seek 31 = .ok (.iconst (-1), 1) := dk_2 (dk_at dksX6_seek_1 7 rfl rfl)
theorem dX6_seek_32 : decode cX6_seek 32 = .ok (.ireturn, 1) := dk_172 (dk_at dksX6_seek_1 8 rfl rfl)
abbrev cX6_readBlock : ByteArray := prog_25_method_25_code
def yX6_readBlock : MethodName := ⟨RX6, "readBlock", "()Z"⟩
def dkwX6_readBlock_8 : List UInt8 := [180, 0, 46, 16, 36, 27, 96, 32, 80, 42, 180, 0, 37, 5, 92, 46, 4, 96, 79, 4, 172]
abbrev dktX6_readBlock_8 : List UInt8 := dkwX6_readBlock_8 ++ []
def dkwX6_readBlock_7 : List UInt8 := [16, 9, 182, 0, 207, 154, 0, 5, 3, 172, 42, 180, 0, 37, 16, 52, 27, 96, 42, 180, 0, 193, 79, 42]
abbrev dktX6_readBlock_7 : List UInt8 := dkwX6_readBlock_7 ++ dktX6_readBlock_8
def dkwX6_readBlock_6 : List UInt8 := [182, 0, 218, 154, 0, 5, 3, 172, 42, 180, 0, 37, 16, 32, 27, 96, 42, 180, 0, 193, 79, 42, 3]
abbrev dktX6_readBlock_6 : List UInt8 := dkwX6_readBlock_6 ++ dktX6_readBlock_7
def dkwX6_readBlock_5 : List UInt8 := [42, 20, 0, 113, 182, 0, 214, 153, 0, 62, 42, 182, 0, 186, 42, 16, 28, 42, 180, 0, 37, 4, 46]
abbrev dktX6_readBlock_5 : List UInt8 := dkwX6_readBlock_5 ++ dktX6_readBlock_6
def dkwX6_readBlock_4 : List UInt8 := [180, 0, 193, 79, 42, 180, 0, 37, 16, 32, 27, 96, 2, 79, 42, 180, 0, 37, 16, 52, 27, 96, 3, 79]
abbrev dktX6_readBlock_4 : List UInt8 := dkwX6_readBlock_4 ++ dktX6_readBlock_5
def dkwX6_readBlock_3 : List UInt8 := [182, 0, 186, 42, 16, 36, 27, 182, 0, 218, 154, 0, 5, 3, 172, 42, 180, 0, 37, 16, 12, 27, 96, 42]
abbrev dktX6_readBlock_3 : List UInt8 := dkwX6_readBlock_3 ++ dktX6_readBlock_4
def dkwX6_readBlock_2 : List UInt8 := [96, 2, 79, 27, 158, 0, 48, 42, 20, 0, 111, 182, 0, 214, 154, 0, 9, 42, 4, 182, 0, 183, 172, 42]
abbrev dktX6_readBlock_2 : List UInt8 := dkwX6_readBlock_2 ++ dktX6_readBlock_3
def dkwX6_readBlock_1 : List UInt8 := [182, 0, 211, 154, 0, 5, 3, 172, 42, 180, 0, 170, 65, 42, 182, 0, 186, 42, 180, 0, 37, 16, 12, 27]
abbrev dktX6_readBlock_1 : List UInt8 := dkwX6_readBlock_1 ++ dktX6_readBlock_2
def dkwX6_readBlock_0 : List UInt8 := [42, 180, 0, 37, 5, 46, 60, 27, 16, 20, 160, 0, 9, 42, 7, 182, 0, 183, 172, 42, 182, 0, 186, 42]
abbrev dktX6_readBlock_0 : List UInt8 := dkwX6_readBlock_0 ++ dktX6_readBlock_1
theorem dksX6_readBlock_0 : cX6_readBlock.data.toList.drop 0 = dktX6_readBlock_0 := by decide +kernel
theorem dksX6_readBlock_1 : cX6_readBlock.data.toList.drop 24 = dktX6_readBlock_1 := dk_seg dksX6_readBlock_0 24 rfl rfl
theorem dksX6_readBlock_2 : cX6_readBlock.data.toList.drop 48 = dktX6_readBlock_2 := dk_seg dksX6_readBlock_1 24 rfl rfl
theorem dksX6_readBlock_3 : cX6_readBlock.data.toList.drop 72 = dktX6_readBlock_3 := dk_seg dksX6_readBlock_2 24 rfl rfl
theorem dksX6_readBlock_4 : cX6_readBlock.data.toList.drop 96 = dktX6_readBlock_4 := dk_seg dksX6_readBlock_3 24 rfl rfl
theorem dksX6_readBlock_5 : cX6_readBlock.data.toList.drop 120 = dktX6_readBlock_5 := dk_seg dksX6_readBlock_4 24 rfl rfl
theorem dksX6_readBlock_6 : cX6_readBlock.data.toList.drop 143 = dktX6_readBlock_6 := dk_seg dksX6_readBlock_5 23 rfl rfl
theorem dksX6_readBlock_7 : cX6_readBlock.data.toList.drop 166 = dktX6_readBlock_7 := dk_seg dksX6_readBlock_6 23 rfl rfl
theorem dksX6_readBlock_8 : cX6_readBlock.data.toList.drop 190 = dktX6_readBlock_8 := dk_seg dksX6_readBlock_7 24 rfl rfl
theorem dX6_readBlock_0 : decode cX6_readBlock 0 = .ok (.aload_n 0, 1) := dk_42 (dk_at dksX6_readBlock_0 0 rfl rfl)
theorem dX6_readBlock_1 : decode cX6_readBlock 1 = .ok (.getfield 37, 3) := dk_180 0 37 (dk_at dksX6_readBlock_0 1 rfl rfl)
theorem dX6_readBlock_4 : decode cX6_readBlock 4 = .ok (.iconst 2, 1) := dk_5 (dk_at dksX6_readBlock_0 4 rfl rfl)
theorem dX6_readBlock_5 : decode cX6_readBlock 5 = .ok (.iaload, 1) := dk_46 (dk_at dksX6_readBlock_0 5 rfl rfl)
theorem dX6_readBlock_6 : decode cX6_readBlock 6 = .ok (.istore_n 1, 1) := dk_60 (dk_at dksX6_readBlock_0 6 rfl rfl)
theorem dX6_readBlock_7 : decode cX6_readBlock 7 = .ok (.iload_n 1, 1) := dk_27 (dk_at dksX6_readBlock_0 7 rfl rfl)
theorem dX6_readBlock_8 : decode cX6_readBlock 8 = .ok (.bipush 20, 2) := dk_16 20 (dk_at dksX6_readBlock_0 8 rfl rfl)
theorem dX6_readBlock_10 : decode cX6_readBlock 10 = .ok (.if_icmp .ne 9, 3) := dk_160 0 9 (dk_at dksX6_readBlock_0 10 rfl rfl)
theorem dX6_readBlock_13 : decode cX6_readBlock 13 = .ok (.aload_n 0, 1) := dk_42 (dk_at dksX6_readBlock_0 13 rfl rfl)
theorem dX6_readBlock_14 : decode cX6_readBlock 14 = .ok (.iconst 4, 1) := dk_7 (dk_at dksX6_readBlock_0 14 rfl rfl)
theorem dX6_readBlock_15 : decode cX6_readBlock 15 = .ok (.invokevirtual 183, 3) := dk_182 0 183 (dk_at dksX6_readBlock_0 15 rfl rfl)
theorem dX6_readBlock_18 : decode cX6_readBlock 18 = .ok (.ireturn, 1) := dk_172 (dk_at dksX6_readBlock_0 18 rfl rfl)
theorem dX6_readBlock_19 : decode cX6_readBlock 19 = .ok (.aload_n 0, 1) := dk_42 (dk_at dksX6_readBlock_0 19 rfl rfl)
theorem dX6_readBlock_20 : decode cX6_readBlock 20 = .ok (.invokevirtual 186, 3) := dk_182 0 186 (dk_at dksX6_readBlock_0 20 rfl rfl)
theorem dX6_readBlock_23 : decode cX6_readBlock 23 = .ok (.aload_n 0, 1) := dk_42 (dk_at dksX6_readBlock_0 23 rfl rfl)
theorem dX6_readBlock_24 : decode cX6_readBlock 24 = .ok (.invokevirtual 211, 3) := dk_182 0 211 (dk_at dksX6_readBlock_1 0 rfl rfl)
theorem dX6_readBlock_27 : decode cX6_readBlock 27 = .ok (.ifCond .ne 5, 3) := dk_154 0 5 (dk_at dksX6_readBlock_1 3 rfl rfl)
theorem dX6_readBlock_30 : decode cX6_readBlock 30 = .ok (.iconst 0, 1) := dk_3 (dk_at dksX6_readBlock_1 6 rfl rfl)
theorem dX6_readBlock_31 : decode cX6_readBlock 31 = .ok (.ireturn, 1) := dk_172 (dk_at dksX6_readBlock_1 7 rfl rfl)
theorem dX6_readBlock_32 : decode cX6_readBlock 32 = .ok (.aload_n 0, 1) := dk_42 (dk_at dksX6_readBlock_1 8 rfl rfl)
theorem dX6_readBlock_33 : decode cX6_readBlock 33 = .ok (.getfield 170, 3) := dk_180 0 170 (dk_at dksX6_readBlock_1 9 rfl rfl)
theorem dX6_readBlock_36 : decode cX6_readBlock 36 = .ok (.lstore_n 2, 1) := dk_65 (dk_at dksX6_readBlock_1 12 rfl rfl)
theorem dX6_readBlock_37 : decode cX6_readBlock 37 = .ok (.aload_n 0, 1) := dk_42 (dk_at dksX6_readBlock_1 13 rfl rfl)
theorem dX6_readBlock_38 : decode cX6_readBlock 38 = .ok (.invokevirtual 186, 3) := dk_182 0 186 (dk_at dksX6_readBlock_1 14 rfl rfl)
theorem dX6_readBlock_41 : decode cX6_readBlock 41 = .ok (.aload_n 0, 1) := dk_42 (dk_at dksX6_readBlock_1 17 rfl rfl)
theorem dX6_readBlock_42 : decode cX6_readBlock 42 = .ok (.getfield 37, 3) := dk_180 0 37 (dk_at dksX6_readBlock_1 18 rfl rfl)
theorem dX6_readBlock_45 : decode cX6_readBlock 45 = .ok (.bipush 12, 2) := dk_16 12 (dk_at dksX6_readBlock_1 21 rfl rfl)
theorem dX6_readBlock_47 : decode cX6_readBlock 47 = .ok (.iload_n 1, 1) := dk_27 (dk_at dksX6_readBlock_1 23 rfl rfl)
theorem dX6_readBlock_48 : decode cX6_readBlock 48 = .ok (.iadd, 1) := dk_96 (dk_at dksX6_readBlock_2 0 rfl rfl)
theorem dX6_readBlock_49 : decode cX6_readBlock 49 = .ok (.iconst (-1), 1) := dk_2 (dk_at dksX6_readBlock_2 1 rfl rfl)
theorem dX6_readBlock_50 : decode cX6_readBlock 50 = .ok (.iastore, 1) := dk_79 (dk_at dksX6_readBlock_2 2 rfl rfl)
theorem dX6_readBlock_51 : decode cX6_readBlock 51 = .ok (.iload_n 1, 1) := dk_27 (dk_at dksX6_readBlock_2 3 rfl rfl)
theorem dX6_readBlock_52 : decode cX6_readBlock 52 = .ok (.ifCond .le 48, 3) := dk_158 0 48 (dk_at dksX6_readBlock_2 4 rfl rfl)
theorem dX6_readBlock_55 : decode cX6_readBlock 55 = .ok (.aload_n 0, 1) := dk_42 (dk_at dksX6_readBlock_2 7 rfl rfl)
theorem dX6_readBlock_56 : decode cX6_readBlock 56 = .ok (.ldc2_w 111, 3) := dk_20 0 111 (dk_at dksX6_readBlock_2 8 rfl rfl)
theorem dX6_readBlock_59 : decode cX6_readBlock 59 = .ok (.invokevirtual 214, 3) := dk_182 0 214 (dk_at dksX6_readBlock_2 11 rfl rfl)
theorem dX6_readBlock_62 : decode cX6_readBlock 62 = .ok (.ifCond .ne 9, 3) := dk_154 0 9 (dk_at dksX6_readBlock_2 14 rfl rfl)
theorem dX6_readBlock_65 : decode cX6_readBlock 65 = .ok (.aload_n 0, 1) := dk_42 (dk_at dksX6_readBlock_2 17 rfl rfl)
theorem dX6_readBlock_66 : decode cX6_readBlock 66 = .ok (.iconst 1, 1) := dk_4 (dk_at dksX6_readBlock_2 18 rfl rfl)
theorem dX6_readBlock_67 : decode cX6_readBlock 67 = .ok (.invokevirtual 183, 3) := dk_182 0 183 (dk_at dksX6_readBlock_2 19 rfl rfl)
theorem dX6_readBlock_70 : decode cX6_readBlock 70 = .ok (.ireturn, 1) := dk_172 (dk_at dksX6_readBlock_2 22 rfl rfl)
theorem dX6_readBlock_71 : decode cX6_readBlock 71 = .ok (.aload_n 0, 1) := dk_42 (dk_at dksX6_readBlock_2 23 rfl rfl)
theorem dX6_readBlock_72 : decode cX6_readBlock 72 = .ok (.invokevirtual 186, 3) := dk_182 0 186 (dk_at dksX6_readBlock_3 0 rfl rfl)
theorem dX6_readBlock_75 : decode cX6_readBlock 75 = .ok (.aload_n 0, 1) := dk_42 (dk_at dksX6_readBlock_3 3 rfl rfl)
theorem dX6_readBlock_76 : decode cX6_readBlock 76 = .ok (.bipush 36, 2) := dk_16 36 (dk_at dksX6_readBlock_3 4 rfl rfl)
theorem dX6_readBlock_78 : decode cX6_readBlock 78 = .ok (.iload_n 1, 1) := dk_27 (dk_at dksX6_readBlock_3 6 rfl rfl)
theorem dX6_readBlock_79 : decode cX6_readBlock 79 = .ok (.invokevirtual 218, 3) := dk_182 0 218 (dk_at dksX6_readBlock_3 7 rfl rfl)
theorem dX6_readBlock_82 : decode cX6_readBlock 82 = .ok (.ifCond .ne 5, 3) := dk_154 0 5 (dk_at dksX6_readBlock_3 10 rfl rfl)
theorem dX6_readBlock_85 : decode cX6_readBlock 85 = .ok (.iconst 0, 1) := dk_3 (dk_at dksX6_readBlock_3 13 rfl rfl)
theorem dX6_readBlock_86 : decode cX6_readBlock 86 = .ok (.ireturn, 1) := dk_172 (dk_at dksX6_readBlock_3 14 rfl rfl)
theorem dX6_readBlock_87 : decode cX6_readBlock 87 = .ok (.aload_n 0, 1) := dk_42 (dk_at dksX6_readBlock_3 15 rfl rfl)
theorem dX6_readBlock_88 : decode cX6_readBlock 88 = .ok (.getfield 37, 3) := dk_180 0 37 (dk_at dksX6_readBlock_3 16 rfl rfl)
theorem dX6_readBlock_91 : decode cX6_readBlock 91 = .ok (.bipush 12, 2) := dk_16 12 (dk_at dksX6_readBlock_3 19 rfl rfl)
theorem dX6_readBlock_93 : decode cX6_readBlock 93 = .ok (.iload_n 1, 1) := dk_27 (dk_at dksX6_readBlock_3 21 rfl rfl)
theorem dX6_readBlock_94 : decode cX6_readBlock 94 = .ok (.iadd, 1) := dk_96 (dk_at dksX6_readBlock_3 22 rfl rfl)
theorem dX6_readBlock_95 : decode cX6_readBlock 95 = .ok (.aload_n 0, 1) := dk_42 (dk_at dksX6_readBlock_3 23 rfl rfl)
theorem dX6_readBlock_96 : decode cX6_readBlock 96 = .ok (.getfield 193, 3) := dk_180 0 193 (dk_at dksX6_readBlock_4 0 rfl rfl)
theorem dX6_readBlock_99 : decode cX6_readBlock 99 = .ok (.iastore, 1) := dk_79 (dk_at dksX6_readBlock_4 3 rfl rfl)
theorem dX6_readBlock_100 : decode cX6_readBlock 100 = .ok (.aload_n 0, 1) := dk_42 (dk_at dksX6_readBlock_4 4 rfl rfl)
theorem dX6_readBlock_101 : decode cX6_readBlock 101 = .ok (.getfield 37, 3) := dk_180 0 37 (dk_at dksX6_readBlock_4 5 rfl rfl)
theorem dX6_readBlock_104 : decode cX6_readBlock 104 = .ok (.bipush 32, 2) := dk_16 32 (dk_at dksX6_readBlock_4 8 rfl rfl)
theorem dX6_readBlock_106 : decode cX6_readBlock 106 = .ok (.iload_n 1, 1) := dk_27 (dk_at dksX6_readBlock_4 10 rfl rfl)
theorem dX6_readBlock_107 : decode cX6_readBlock 107 = .ok (.iadd, 1) := dk_96 (dk_at dksX6_readBlock_4 11 rfl rfl)
theorem dX6_readBlock_108 : decode cX6_readBlock 108 = .ok (.iconst (-1), 1) := dk_2 (dk_at dksX6_readBlock_4 12 rfl rfl)
theorem dX6_readBlock_109 : decode cX6_readBlock 109 = .ok (.iastore, 1) := dk_79 (dk_at dksX6_readBlock_4 13 rfl rfl)
theorem dX6_readBlock_110 : decode cX6_readBlock 110 = .ok (.aload_n 0, 1) := dk_42 (dk_at dksX6_readBlock_4 14 rfl rfl)
theorem dX6_readBlock_111 : decode cX6_readBlock 111 = .ok (.getfield 37, 3) := dk_180 0 37 (dk_at dksX6_readBlock_4 15 rfl rfl)
theorem dX6_readBlock_114 : decode cX6_readBlock 114 = .ok (.bipush 52, 2) := dk_16 52 (dk_at dksX6_readBlock_4 18 rfl rfl)
theorem dX6_readBlock_116 : decode cX6_readBlock 116 = .ok (.iload_n 1, 1) := dk_27 (dk_at dksX6_readBlock_4 20 rfl rfl)
theorem dX6_readBlock_117 : decode cX6_readBlock 117 = .ok (.iadd, 1) := dk_96 (dk_at dksX6_readBlock_4 21 rfl rfl)
theorem dX6_readBlock_118 : decode cX6_readBlock 118 = .ok (.iconst 0, 1) := dk_3 (dk_at dksX6_readBlock_4 22 rfl rfl)
theorem dX6_readBlock_119 : decode cX6_readBlock 119 = .ok (.iastore, 1) := dk_79 (dk_at dksX6_readBlock_4 23 rfl rfl)
theorem dX6_readBlock_120 : decode cX6_readBlock 120 = .ok (.aload_n 0, 1) := dk_42 (dk_at dksX6_readBlock_5 0 rfl rfl)
theorem dX6_readBlock_121 : decode cX6_readBlock 121 = .ok (.ldc2_w 113, 3) := dk_20 0 113 (dk_at dksX6_readBlock_5 1 rfl rfl)
theorem dX6_readBlock_124 : decode cX6_readBlock 124 = .ok (.invokevirtual 214, 3) := dk_182 0 214 (dk_at dksX6_readBlock_5 4 rfl rfl)
theorem dX6_readBlock_127 : decode cX6_readBlock 127 = .ok (.ifCond .eq 62, 3) := dk_153 0 62 (dk_at dksX6_readBlock_5 7 rfl rfl)
theorem dX6_readBlock_130 : decode cX6_readBlock 130 = .ok (.aload_n 0, 1) := dk_42 (dk_at dksX6_readBlock_5 10 rfl rfl)
theorem dX6_readBlock_131 : decode cX6_readBlock 131 = .ok (.invokevirtual 186, 3) := dk_182 0 186 (dk_at dksX6_readBlock_5 11 rfl rfl)
theorem dX6_readBlock_134 : decode cX6_readBlock 134 = .ok (.aload_n 0, 1) := dk_42 (dk_at dksX6_readBlock_5 14 rfl rfl)
theorem dX6_readBlock_135 : decode cX6_readBlock 135 = .ok (.bipush 28, 2) := dk_16 28 (dk_at dksX6_readBlock_5 15 rfl rfl)
theorem dX6_readBlock_137 : decode cX6_readBlock 137 = .ok (.aload_n 0, 1) := dk_42 (dk_at dksX6_readBlock_5 17 rfl rfl)
theorem dX6_readBlock_138 : decode cX6_readBlock 138 = .ok (.getfield 37, 3) := dk_180 0 37 (dk_at dksX6_readBlock_5 18 rfl rfl)
theorem dX6_readBlock_141 : decode cX6_readBlock 141 = .ok (.iconst 1, 1) := dk_4 (dk_at dksX6_readBlock_5 21 rfl rfl)
theorem dX6_readBlock_142 : decode cX6_readBlock 142 = .ok (.iaload, 1) := dk_46 (dk_at dksX6_readBlock_5 22 rfl rfl)
theorem dX6_readBlock_143 : decode cX6_readBlock 143 = .ok (.invokevirtual 218, 3) := dk_182 0 218 (dk_at dksX6_readBlock_6 0 rfl rfl)
theorem dX6_readBlock_146 : decode cX6_readBlock 146 = .ok (.ifCond .ne 5, 3) := dk_154 0 5 (dk_at dksX6_readBlock_6 3 rfl rfl)
theorem dX6_readBlock_149 : decode cX6_readBlock 149 = .ok (.iconst 0, 1) := dk_3 (dk_at dksX6_readBlock_6 6 rfl rfl)
theorem dX6_readBlock_150 : decode cX6_readBlock 150 = .ok (.ireturn, 1) := dk_172 (dk_at dksX6_readBlock_6 7 rfl rfl)
theorem dX6_readBlock_151 : decode cX6_readBlock 151 = .ok (.aload_n 0, 1) := dk_42 (dk_at dksX6_readBlock_6 8 rfl rfl)
theorem dX6_readBlock_152 : decode cX6_readBlock 152 = .ok (.getfield 37, 3) := dk_180 0 37 (dk_at dksX6_readBlock_6 9 rfl rfl)
theorem dX6_readBlock_155 : decode cX6_readBlock 155 = .ok (.bipush 32, 2) := dk_16 32 (dk_at dksX6_readBlock_6 12 rfl rfl)
theorem dX6_readBlock_157 : decode cX6_readBlock 157 = .ok (.iload_n 1, 1) := dk_27 (dk_at dksX6_readBlock_6 14 rfl rfl)
theorem dX6_readBlock_158 : decode cX6_readBlock 158 = .ok (.iadd, 1) := dk_96 (dk_at dksX6_readBlock_6 15 rfl rfl)
theorem dX6_readBlock_159 : decode cX6_readBlock 159 = .ok (.aload_n 0, 1) := dk_42 (dk_at dksX6_readBlock_6 16 rfl rfl)
theorem dX6_readBlock_160 : decode cX6_readBlock 160 = .ok (.getfield 193, 3) := dk_180 0 193 (dk_at dksX6_readBlock_6 17 rfl rfl)
theorem dX6_readBlock_163 : decode cX6_readBlock 163 = .ok (.iastore, 1) := dk_79 (dk_at dksX6_readBlock_6 20 rfl rfl)
theorem dX6_readBlock_164 : decode cX6_readBlock 164 = .ok (.aload_n 0, 1) := dk_42 (dk_at dksX6_readBlock_6 21 rfl rfl)
theorem dX6_readBlock_165 : decode cX6_readBlock 165 = .ok (.iconst 0, 1) := dk_3 (dk_at dksX6_readBlock_6 22 rfl rfl)
theorem dX6_readBlock_166 : decode cX6_readBlock 166 = .ok (.bipush 9, 2) := dk_16 9 (dk_at dksX6_readBlock_7 0 rfl rfl)
theorem dX6_readBlock_168 : decode cX6_readBlock 168 = .ok (.invokevirtual 207, 3) := dk_182 0 207 (dk_at dksX6_readBlock_7 2 rfl rfl)
theorem dX6_readBlock_171 : decode cX6_readBlock 171 = .ok (.ifCond .ne 5, 3) := dk_154 0 5 (dk_at dksX6_readBlock_7 5 rfl rfl)
theorem dX6_readBlock_174 : decode cX6_readBlock 174 = .ok (.iconst 0, 1) := dk_3 (dk_at dksX6_readBlock_7 8 rfl rfl)
theorem dX6_readBlock_175 : decode cX6_readBlock 175 = .ok (.ireturn, 1) := dk_172 (dk_at dksX6_readBlock_7 9 rfl rfl)
theorem dX6_readBlock_176 : decode cX6_readBlock 176 = .ok (.aload_n 0, 1) := dk_42 (dk_at dksX6_readBlock_7 10 rfl rfl)
theorem dX6_readBlock_177 : decode cX6_readBlock 177 = .ok (.getfield 37, 3) := dk_180 0 37 (dk_at dksX6_readBlock_7 11 rfl rfl)
theorem dX6_readBlock_180 : decode cX6_readBlock 180 = .ok (.bipush 52, 2) := dk_16 52 (dk_at dksX6_readBlock_7 14 rfl rfl)
theorem dX6_readBlock_182 : decode cX6_readBlock 182 = .ok (.iload_n 1, 1) := dk_27 (dk_at dksX6_readBlock_7 16 rfl rfl)
theorem dX6_readBlock_183 : decode cX6_readBlock 183 = .ok (.iadd, 1) := dk_96 (dk_at dksX6_readBlock_7 17 rfl rfl)
theorem dX6_readBlock_184 : decode cX6_readBlock 184 = .ok (.aload_n 0, 1) := dk_42 (dk_at dksX6_readBlock_7 18 rfl rfl)
theorem dX6_readBlock_185 : decode cX6_readBlock 185 = .ok (.getfield 193, 3) := dk_180 0 193 (dk_at dksX6_readBlock_7 19 rfl rfl)
theorem dX6_readBlock_188 : decode cX6_readBlock 188 = .ok (.iastore, 1) := dk_79 (dk_at dksX6_readBlock_7 22 rfl rfl)
theorem dX6_readBlock_189 : decode cX6_readBlock 189 = .ok (.aload_n 0, 1) := dk_42 (dk_at dksX6_readBlock_7 23 rfl rfl)
theorem dX6_readBlock_190 : decode cX6_readBlock 190 = .ok (.getfield 46, 3) := dk_180 0 46 (dk_at dksX6_readBlock_8 0 rfl rfl)
theorem dX6_readBlock_193 : decode cX6_readBlock 193 = .ok (.bipush 36, 2) := dk_16 36 (dk_at dksX6_readBlock_8 3 rfl rfl)
theorem dX6_readBlock_195 : decode cX6_readBlock 195 = .ok (.iload_n 1, 1) := dk_27 (dk_at dksX6_readBlock_8 5 rfl rfl)
theorem dX6_readBlock_196 : decode cX6_readBlock 196 = .ok (.iadd, 1) := dk_96 (dk_at dksX6_readBlock_8 6 rfl rfl)
theorem dX6_readBlock_197 : decode cX6_readBlock 197 = .ok (.lload_n 2, 1) := dk_32 (dk_at dksX6_readBlock_8 7 rfl rfl)
theorem dX6_readBlock_198 : decode cX6_readBlock 198 = .ok (.lastore, 1) := dk_80 (dk_at dksX6_readBlock_8 8 rfl rfl)
theorem dX6_readBlock_199 : decode cX6_readBlock 199 = .ok (.aload_n 0, 1) := dk_42 (dk_at dksX6_readBlock_8 9 rfl rfl)
theorem dX6_readBlock_200 : decode cX6_readBlock 200 = .ok (.getfield 37, 3) := dk_180 0 37 (dk_at dksX6_readBlock_8 10 rfl rfl)
theorem dX6_readBlock_203 : decode cX6_readBlock 203 = .ok (.iconst 2, 1) := dk_5 (dk_at dksX6_readBlock_8 13 rfl rfl)
theorem dX6_readBlock_204 : decode cX6_readBlock 204 = .ok (.dup2, 1) := dk_92 (dk_at dksX6_readBlock_8 14 rfl rfl)
theorem dX6_readBlock_205 : decode cX6_readBlock 205 = .ok (.iaload, 1) := dk_46 (dk_at dksX6_readBlock_8 15 rfl rfl)
theorem dX6_readBlock_206 : decode cX6_readBlock 206 = .ok (.iconst 1, 1) := dk_4 (dk_at dksX6_readBlock_8 16 rfl rfl)
theorem dX6_readBlock_207 : decode cX6_readBlock 207 = .ok (.iadd, 1) := dk_96 (dk_at dksX6_readBlock_8 17 rfl rfl)
theorem dX6_readBlock_208 : decode cX6_readBlock 208 = .ok (.iastore, 1) := dk_79 (dk_at dksX6_readBlock_8 18 rfl rfl)
theorem dX6_readBlock_209 : decode cX6_readBlock 209 = .ok (.iconst 1, 1) := dk_4 (dk_at dksX6_readBlock_8 19 rfl rfl)
theorem dX6_readBlock_210 : decode cX6_readBlock 210 = .ok (.ireturn, 1) := dk_172 (dk_at dksX6_readBlock_8 20 rfl rfl)
abbrev cX6_takesName : ByteArray := prog_25_method_21_code
def yX6_takesName : MethodName := ⟨RX6, "takesName", "(II)Z"⟩
def dkwX6_takesName_1 : List UInt8 := [180, 0, 193, 156, 0, 9, 42, 6, 182, 0, 183, 172, 42, 182, 0, 186, 4, 172]
abbrev dktX6_takesName_1 : List UInt8 := dkwX6_takesName_1 ++ []
def dkwX6_takesName_0 : List UInt8 := [42, 182, 0, 196, 154, 0, 9, 42, 4, 182, 0, 183, 172, 42, 42, 27, 28, 182, 0, 200, 181, 0, 193, 42]
abbrev dktX6_takesName_0 : List UInt8 := dkwX6_takesName_0 ++ dktX6_takesName_1
theorem dksX6_takesName_0 : cX6_takesName.data.toList.drop 0 = dktX6_takesName_0 := by decide +kernel
theorem dksX6_takesName_1 : cX6_takesName.data.toList.drop 24 = dktX6_takesName_1 := dk_seg dksX6_takesName_0 24 rfl rfl
theorem dX6_takesName_0 : decode cX6_takesName 0 = .ok (.aload_n 0, 1) := dk_42 (dk_at dksX6_takesName_0 0 rfl rfl)
theorem dX6_takesName_1 : decode cX6_takesName 1 = .ok (.invokevirtual 196, 3) := dk_182 0 196 (dk_at dksX6_takesName_0 1 rfl rfl)
theorem dX6_takesName_4 : decode cX6_takesName 4 = .ok (.ifCond .ne 9, 3) := dk_154 0 9 (dk_at dksX6_takesName_0 4 rfl rfl)
theorem dX6_takesName_7 : decode cX6_takesName 7 = .ok (.aload_n 0, 1) := dk_42 (dk_at dksX6_takesName_0 7 rfl rfl)
theorem dX6_takesName_8 : decode cX6_takesName 8 = .ok (.iconst 1, 1) := dk_4 (dk_at dksX6_takesName_0 8 rfl rfl)
theorem dX6_takesName_9 : decode cX6_takesName 9 = .ok (.invokevirtual 183, 3) := dk_182 0 183 (dk_at dksX6_takesName_0 9 rfl rfl)
theorem dX6_takesName_12 : decode cX6_takesName 12 = .ok (.ireturn, 1) := dk_172 (dk_at dksX6_takesName_0 12 rfl rfl)
theorem dX6_takesName_13 : decode cX6_takesName 13 = .ok (.aload_n 0, 1) := dk_42 (dk_at dksX6_takesName_0 13 rfl rfl)
theorem dX6_takesName_14 : decode cX6_takesName 14 = .ok (.aload_n 0, 1) := dk_42 (dk_at dksX6_takesName_0 14 rfl rfl)
theorem dX6_takesName_15 : decode cX6_takesName 15 = .ok (.iload_n 1, 1) := dk_27 (dk_at dksX6_takesName_0 15 rfl rfl)
theorem dX6_takesName_16 : decode cX6_takesName 16 = .ok (.iload_n 2, 1) := dk_28 (dk_at dksX6_takesName_0 16 rfl rfl)
theorem dX6_takesName_17 : decode cX6_takesName 17 = .ok (.invokevirtual 200, 3) := dk_182 0 200 (dk_at dksX6_takesName_0 17 rfl rfl)
theorem dX6_takesName_20 : decode cX6_takesName 20 = .ok (.putfield 193, 3) := dk_181 0 193 (dk_at dksX6_takesName_0 20 rfl rfl)
theorem dX6_takesName_23 : decode cX6_takesName 23 = .ok (.aload_n 0, 1) := dk_42 (dk_at dksX6_takesName_0 23 rfl rfl)
theorem dX6_takesName_24 : decode cX6_takesName 24 = .ok (.getfield 193, 3) := dk_180 0 193 (dk_at dksX6_takesName_1 0 rfl rfl)
theorem dX6_takesName_27 : decode cX6_takesName 27 = .ok (.ifCond .ge 9, 3) := dk_156 0 9 (dk_at dksX6_takesName_1 3 rfl rfl)
theorem dX6_takesName_30 : decode cX6_takesName 30 = .ok (.aload_n 0, 1) := dk_42 (dk_at dksX6_takesName_1 6 rfl rfl)
theorem dX6_takesName_31 : decode cX6_takesName 31 = .ok (.iconst 3, 1) := dk_6 (dk_at dksX6_takesName_1 7 rfl rfl)
theorem dX6_takesName_32 : decode cX6_takesName 32 = .ok (.invokevirtual 183, 3) := dk_182 0 183 (dk_at dksX6_takesName_1 8 rfl rfl)
theorem dX6_takesName_35 : decode cX6_takesName 35 = .ok (.ireturn, 1) := dk_172 (dk_at dksX6_takesName_1 11 rfl rfl)
theorem dX6_takesName_36 : decode cX6_takesName 36 = .ok (.aload_n 0, 1) := dk_42 (dk_at dksX6_takesName_1 12 rfl rfl)
theorem dX6_takesName_37 : decode cX6_takesName 37 = .ok (.invokevirtual 186, 3) := dk_182 0 186 (dk_at dksX6_takesName_1 13 rfl rfl)
theorem dX6_takesName_40 : decode cX6_takesName 40 = .ok (.iconst 1, 1) := dk_4 (dk_at dksX6_takesName_1 16 rfl rfl)
theorem dX6_takesName_41 : decode cX6_takesName 41 = .ok (.ireturn, 1) := dk_172 (dk_at dksX6_takesName_1 17 rfl rfl)
abbrev cX6_sign : ByteArray := prog_25_method_17_code
def yX6_sign : MethodName := ⟨RX6, "sign", "(I)Z"⟩
def dkwX6_sign_0 : List UInt8 := [42, 27, 182, 0, 180, 154, 0, 9, 42, 4, 182, 0, 183, 172, 42, 182, 0, 186, 4, 172]
abbrev dktX6_sign_0 : List UInt8 := dkwX6_sign_0 ++ []
theorem dksX6_sign_0 : cX6_sign.data.toList.drop 0 = dktX6_sign_0 := by decide +kernel
theorem dX6_sign_0 : decode cX6_sign 0 = .ok (.aload_n 0, 1) := dk_42 (dk_at dksX6_sign_0 0 rfl rfl)
theorem dX6_sign_1 : decode cX6_sign 1 = .ok (.iload_n 1, 1) := dk_27 (dk_at dksX6_sign_0 1 rfl rfl)
theorem dX6_sign_2 : decode cX6_sign 2 = .ok (.invokevirtual 180, 3) := dk_182 0 180 (dk_at dksX6_sign_0 2 rfl rfl)
theorem dX6_sign_5 : decode cX6_sign 5 = .ok (.ifCond .ne 9, 3) := dk_154 0 9 (dk_at dksX6_sign_0 5 rfl rfl)
theorem dX6_sign_8 : decode cX6_sign 8 = .ok (.aload_n 0, 1) := dk_42 (dk_at dksX6_sign_0 8 rfl rfl)
theorem dX6_sign_9 : decode cX6_sign 9 = .ok (.iconst 1, 1) := dk_4 (dk_at dksX6_sign_0 9 rfl rfl)
theorem dX6_sign_10 : decode cX6_sign 10 = .ok (.invokevirtual 183, 3) := dk_182 0 183 (dk_at dksX6_sign_0 10 rfl rfl)
theorem dX6_sign_13 : decode cX6_sign 13 = .ok (.ireturn, 1) := dk_172 (dk_at dksX6_sign_0 13 rfl rfl)
theorem dX6_sign_14 : decode cX6_sign 14 = .ok (.aload_n 0, 1) := dk_42 (dk_at dksX6_sign_0 14 rfl rfl)
theorem dX6_sign_15 : decode cX6_sign 15 = .ok (.invokevirtual 186, 3) := dk_182 0 186 (dk_at dksX6_sign_0 15 rfl rfl)
theorem dX6_sign_18 : decode cX6_sign 18 = .ok (.iconst 1, 1) := dk_4 (dk_at dksX6_sign_0 18 rfl rfl)
theorem dX6_sign_19 : decode cX6_sign 19 = .ok (.ireturn, 1) := dk_172 (dk_at dksX6_sign_0 19 rfl rfl)
abbrev cX6_isSign : ByteArray := prog_25_method_16_code
def yX6_isSign : MethodName := ⟨RX6, "isSign", "(I)Z"⟩
def dkwX6_isSign_0 : List UInt8 := [42, 180, 0, 157, 6, 160, 0, 15, 42, 180, 0, 167, 27, 160, 0, 7, 4, 167, 0, 4, 3, 172]
abbrev dktX6_isSign_0 : List UInt8 := dkwX6_isSign_0 ++ []
theorem dksX6_isSign_0 : cX6_isSign.data.toList.drop 0 = dktX6_isSign_0 := by decide +kernel
theorem dX6_isSign_0 : decode cX6_isSign 0 = .ok (.aload_n 0, 1) := dk_42 (dk_at dksX6_isSign_0 0 rfl rfl)
theorem dX6_isSign_1 : decode cX6_isSign 1 = .ok (.getfield 157, 3) := dk_180 0 157 (dk_at dksX6_isSign_0 1 rfl rfl)
theorem dX6_isSign_4 : decode cX6_isSign 4 = .ok (.iconst 3, 1) := dk_6 (dk_at dksX6_isSign_0 4 rfl rfl)
theorem dX6_isSign_5 : decode cX6_isSign 5 = .ok (.if_icmp .ne 15, 3) := dk_160 0 15 (dk_at dksX6_isSign_0 5 rfl rfl)
theorem dX6_isSign_8 : decode cX6_isSign 8 = .ok (.aload_n 0, 1) := dk_42 (dk_at dksX6_isSign_0 8 rfl rfl)
theorem dX6_isSign_9 : decode cX6_isSign 9 = .ok (.getfield 167, 3) := dk_180 0 167 (dk_at dksX6_isSign_0 9 rfl rfl)
theorem dX6_isSign_12 : decode cX6_isSign 12 = .ok (.iload_n 1, 1) := dk_27 (dk_at dksX6_isSign_0 12 rfl rfl)
theorem dX6_isSign_13 : decode cX6_isSign 13 = .ok (.if_icmp .ne 7, 3) := dk_160 0 7 (dk_at dksX6_isSign_0 13 rfl rfl)
theorem dX6_isSign_16 : decode cX6_isSign 16 = .ok (.iconst 1, 1) := dk_4 (dk_at dksX6_isSign_0 16 rfl rfl)
theorem dX6_isSign_17 : decode cX6_isSign 17 = .ok (.goto 4, 3) := dk_167 0 4 (dk_at dksX6_isSign_0 17 rfl rfl)
theorem dX6_isSign_20 : decode cX6_isSign 20 = .ok (.iconst 0, 1) := dk_3 (dk_at dksX6_isSign_0 20 rfl rfl)
theorem dX6_isSign_21 : decode cX6_isSign 21 = .ok (.ireturn, 1) := dk_172 (dk_at dksX6_isSign_0 21 rfl rfl)
abbrev cX6_fault : ByteArray := prog_25_method_28_code
def yX6_fault : MethodName := ⟨RX6, "fault", "()I"⟩
def dkwX6_fault_0 : List UInt8 := [42, 3, 181, 0, 1, 42, 180, 0, 174, 172]
abbrev dktX6_fault_0 : List UInt8 := dkwX6_fault_0 ++ []
theorem dksX6_fault_0 : cX6_fault.data.toList.drop 0 = dktX6_fault_0 := by decide +kernel
theorem dX6_fault_0 : decode cX6_fault 0 = .ok (.aload_n 0, 1) := dk_42 (dk_at dksX6_fault_0 0 rfl rfl)
theorem dX6_fault_1 : decode cX6_fault 1 = .ok (.iconst 0, 1) := dk_3 (dk_at dksX6_fault_0 1 rfl rfl)
theorem dX6_fault_2 : decode cX6_fault 2 = .ok (.putfield 1, 3) := dk_181 0 1 (dk_at dksX6_fault_0 2 rfl rfl)
theorem dX6_fault_5 : decode cX6_fault 5 = .ok (.aload_n 0, 1) := dk_42 (dk_at dksX6_fault_0 5 rfl rfl)
theorem dX6_fault_6 : decode cX6_fault 6 = .ok (.getfield 174, 3) := dk_180 0 174 (dk_at dksX6_fault_0 6 rfl rfl)
theorem dX6_fault_9 : decode cX6_fault 9 = .ok (.ireturn, 1) := dk_172 (dk_at dksX6_fault_0 9 rfl rfl)
abbrev cX6_block : ByteArray := prog_25_method_49_code
def yX6_block : MethodName := ⟨RX6, "block", "(II)I"⟩
def dkwX6_block_6 : List UInt8 := [184, 0, 246, 184, 1, 75, 172, 42, 180, 0, 62, 27, 46, 172]
abbrev dktX6_block_6 : List UInt8 := dkwX6_block_6 ++ []
def dkwX6_block_5 : List UInt8 := [16, 32, 27, 96, 46, 172, 42, 180, 1, 26, 27, 184, 0, 246, 184, 1, 75, 172, 42, 180, 1, 29, 27]
abbrev dktX6_block_5 : List UInt8 := dkwX6_block_5 ++ dktX6_block_6
def dkwX6_block_4 : List UInt8 := [153, 0, 11, 42, 27, 182, 0, 249, 167, 0, 4, 2, 172, 42, 27, 182, 1, 72, 172, 42, 180, 0, 33]
abbrev dktX6_block_4 : List UInt8 := dkwX6_block_4 ++ dktX6_block_5
def dkwX6_block_3 : List UInt8 := [42, 180, 0, 33, 16, 12, 27, 96, 46, 172, 42, 180, 0, 53, 27, 46, 172, 42, 27, 182, 1, 69]
abbrev dktX6_block_3 : List UInt8 := dkwX6_block_3 ++ dktX6_block_4
def dkwX6_block_2 : List UInt8 := [170, 0, 0, 0, 0, 0, 118, 0, 0, 0, 0, 0, 0, 0, 6, 0, 0, 0, 43, 0, 0, 0, 53, 0, 0, 0, 60, 0, 0, 0, 78, 0, 0, 0, 84, 0, 0, 0, 94, 0, 0, 0, 106]
abbrev dktX6_block_2 : List UInt8 := dkwX6_block_2 ++ dktX6_block_3
def dkwX6_block_1 : List UInt8 := [182, 1, 62, 153, 0, 5, 3, 172, 42, 182, 1, 66, 28]
abbrev dktX6_block_1 : List UInt8 := dkwX6_block_1 ++ dktX6_block_2
def dkwX6_block_0 : List UInt8 := [42, 42, 27, 182, 1, 59, 153, 0, 13, 28, 3, 16, 7, 184, 0, 189, 154, 0, 7, 4, 167, 0, 4, 3]
abbrev dktX6_block_0 : List UInt8 := dkwX6_block_0 ++ dktX6_block_1
theorem dksX6_block_0 : cX6_block.data.toList.drop 0 = dktX6_block_0 := by decide +kernel
theorem dksX6_block_1 : cX6_block.data.toList.drop 24 = dktX6_block_1 := dk_seg dksX6_block_0 24 rfl rfl
theorem dksX6_block_2 : cX6_block.data.toList.drop 37 = dktX6_block_2 := dk_seg dksX6_block_1 13 rfl rfl
theorem dksX6_block_3 : cX6_block.data.toList.drop 80 = dktX6_block_3 := dk_seg dksX6_block_2 43 rfl rfl
theorem dksX6_block_4 : cX6_block.data.toList.drop 102 = dktX6_block_4 := dk_seg dksX6_block_3 22 rfl rfl
theorem dksX6_block_5 : cX6_block.data.toList.drop 125 = dktX6_block_5 := dk_seg dksX6_block_4 23 rfl rfl
theorem dksX6_block_6 : cX6_block.data.toList.drop 148 = dktX6_block_6 := dk_seg dksX6_block_5 23 rfl rfl
theorem dX6_block_0 : decode cX6_block 0 = .ok (.aload_n 0, 1) := dk_42 (dk_at dksX6_block_0 0 rfl rfl)
theorem dX6_block_1 : decode cX6_block 1 = .ok (.aload_n 0, 1) := dk_42 (dk_at dksX6_block_0 1 rfl rfl)
theorem dX6_block_2 : decode cX6_block 2 = .ok (.iload_n 1, 1) := dk_27 (dk_at dksX6_block_0 2 rfl rfl)
theorem dX6_block_3 : decode cX6_block 3 = .ok (.invokevirtual 315, 3) := dk_182 1 59 (dk_at dksX6_block_0 3 rfl rfl)
theorem dX6_block_6 : decode cX6_block 6 = .ok (.ifCond .eq 13, 3) := dk_153 0 13 (dk_at dksX6_block_0 6 rfl rfl)
theorem dX6_block_9 : decode cX6_block 9 = .ok (.iload_n 2, 1) := dk_28 (dk_at dksX6_block_0 9 rfl rfl)
theorem dX6_block_10 : decode cX6_block 10 = .ok (.iconst 0, 1) := dk_3 (dk_at dksX6_block_0 10 rfl rfl)
theorem dX6_block_11 : decode cX6_block 11 = .ok (.bipush 7, 2) := dk_16 7 (dk_at dksX6_block_0 11 rfl rfl)
theorem dX6_block_13 : decode cX6_block 13 = .ok (.invokestatic 189, 3) := dk_184 0 189 (dk_at dksX6_block_0 13 rfl rfl)
theorem dX6_block_16 : decode cX6_block 16 = .ok (.ifCond .ne 7, 3) := dk_154 0 7 (dk_at dksX6_block_0 16 rfl rfl)
theorem dX6_block_19 : decode cX6_block 19 = .ok (.iconst 1, 1) := dk_4 (dk_at dksX6_block_0 19 rfl rfl)
theorem dX6_block_20 : decode cX6_block 20 = .ok (.goto 4, 3) := dk_167 0 4 (dk_at dksX6_block_0 20 rfl rfl)
theorem dX6_block_23 : decode cX6_block 23 = .ok (.iconst 0, 1) := dk_3 (dk_at dksX6_block_0 23 rfl rfl)
theorem dX6_block_24 : decode cX6_block 24 = .ok (.invokevirtual 318, 3) := dk_182 1 62 (dk_at dksX6_block_1 0 rfl rfl)
theorem dX6_block_27 : decode cX6_block 27 = .ok (.ifCond .eq 5, 3) := dk_153 0 5 (dk_at dksX6_block_1 3 rfl rfl)
theorem dX6_block_30 : decode cX6_block 30 = .ok (.iconst 0, 1) := dk_3 (dk_at dksX6_block_1 6 rfl rfl)
theorem dX6_block_31 : decode cX6_block 31 = .ok (.ireturn, 1) := dk_172 (dk_at dksX6_block_1 7 rfl rfl)
theorem dX6_block_32 : decode cX6_block 32 = .ok (.aload_n 0, 1) := dk_42 (dk_at dksX6_block_1 8 rfl rfl)
theorem dX6_block_33 : decode cX6_block 33 = .ok (.invokevirtual 322, 3) := dk_182 1 66 (dk_at dksX6_block_1 9 rfl rfl)
theorem dX6_block_36 : decode cX6_block 36 = .ok (.iload_n 2, 1) := dk_28 (dk_at dksX6_block_1 12 rfl rfl)
theorem dX6_block_37 : decode cX6_block 37 = .ok (.tableswitch 118 0 6 #[43, 53, 60, 78, 84, 94, 106], 43) := by decide +kernel
theorem dX6_block_80 : decode cX6_block 80 = .ok (.aload_n 0, 1) := dk_42 (dk_at dksX6_block_3 0 rfl rfl)
theorem dX6_block_81 : decode cX6_block 81 = .ok (.getfield 33, 3) := dk_180 0 33 (dk_at dksX6_block_3 1 rfl rfl)
theorem dX6_block_84 : decode cX6_block 84 = .ok (.bipush 12, 2) := dk_16 12 (dk_at dksX6_block_3 4 rfl rfl)
theorem dX6_block_86 : decode cX6_block 86 = .ok (.iload_n 1, 1) := dk_27 (dk_at dksX6_block_3 6 rfl rfl)
theorem dX6_block_87 : decode cX6_block 87 = .ok (.iadd, 1) := dk_96 (dk_at dksX6_block_3 7 rfl rfl)
theorem dX6_block_88 : decode cX6_block 88 = .ok (.iaload, 1) := dk_46 (dk_at dksX6_block_3 8 rfl rfl)
theorem dX6_block_89 : decode cX6_block 89 = .ok (.ireturn, 1) := dk_172 (dk_at dksX6_block_3 9 rfl rfl)
theorem dX6_block_90 : decode cX6_block 90 = .ok (.aload_n 0, 1) := dk_42 (dk_at dksX6_block_3 10 rfl rfl)
theorem dX6_block_91 : decode cX6_block 91 = .ok (.getfield 53, 3) := dk_180 0 53 (dk_at dksX6_block_3 11 rfl rfl)
theorem dX6_block_94 : decode cX6_block 94 = .ok (.iload_n 1, 1) := dk_27 (dk_at dksX6_block_3 14 rfl rfl)
theorem dX6_block_95 : decode cX6_block 95 = .ok (.iaload, 1) := dk_46 (dk_at dksX6_block_3 15 rfl rfl)
theorem dX6_block_96 : decode cX6_block 96 = .ok (.ireturn, 1) := dk_172 (dk_at dksX6_block_3 16 rfl rfl)
theorem dX6_block_97 : decode cX6_block 97 = .ok (.aload_n 0, 1) := dk_42 (dk_at dksX6_block_3 17 rfl rfl)
theorem dX6_block_98 : decode cX6_block 98 = .ok (.iload_n 1, 1) := dk_27 (dk_at dksX6_block_3 18 rfl rfl)
theorem dX6_block_99 : decode cX6_block 99 = .ok (.invokevirtual 325, 3) := dk_182 1 69 (dk_at dksX6_block_3 19 rfl rfl)
theorem dX6_block_102 : decode cX6_block 102 = .ok (.ifCond .eq 11, 3) := dk_153 0 11 (dk_at dksX6_block_4 0 rfl rfl)
theorem dX6_block_105 : decode cX6_block 105 = .ok (.aload_n 0, 1) := dk_42 (dk_at dksX6_block_4 3 rfl rfl)
theorem dX6_block_106 : decode cX6_block 106 = .ok (.iload_n 1, 1) := dk_27 (dk_at dksX6_block_4 4 rfl rfl)
theorem dX6_block_107 : decode cX6_block 107 = .ok (.invokevirtual 249, 3) := dk_182 0 249 (dk_at dksX6_block_4 5 rfl rfl)
theorem dX6_block_110 : decode cX6_block 110 = .ok (.goto 4, 3) := dk_167 0 4 (dk_at dksX6_block_4 8 rfl rfl)
theorem dX6_block_113 : decode cX6_block 113 = .ok (.iconst (-1), 1) := dk_2 (dk_at dksX6_block_4 11 rfl rfl)
theorem dX6_block_114 : decode cX6_block 114 = .ok (.ireturn, 1) := dk_172 (dk_at dksX6_block_4 12 rfl rfl)
theorem dX6_block_115 : decode cX6_block 115 = .ok (.aload_n 0, 1) := dk_42 (dk_at dksX6_block_4 13 rfl rfl)
theorem dX6_block_116 : decode cX6_block 116 = .ok (.iload_n 1, 1) := dk_27 (dk_at dksX6_block_4 14 rfl rfl)
theorem dX6_block_117 : decode cX6_block 117 = .ok (.invokevirtual 328, 3) := dk_182 1 72 (dk_at dksX6_block_4 15 rfl rfl)
theorem dX6_block_120 : decode cX6_block 120 = .ok (.ireturn, 1) := dk_172 (dk_at dksX6_block_4 18 rfl rfl)
theorem dX6_block_121 : decode cX6_block 121 = .ok (.aload_n 0, 1) := dk_42 (dk_at dksX6_block_4 19 rfl rfl)
theorem dX6_block_122 : decode cX6_block 122 = .ok (.getfield 33, 3) := dk_180 0 33 (dk_at dksX6_block_4 20 rfl rfl)
theorem dX6_block_125 : decode cX6_block 125 = .ok (.bipush 32, 2) := dk_16 32 (dk_at dksX6_block_5 0 rfl rfl)
theorem dX6_block_127 : decode cX6_block 127 = .ok (.iload_n 1, 1) := dk_27 (dk_at dksX6_block_5 2 rfl rfl)
theorem dX6_block_128 : decode cX6_block 128 = .ok (.iadd, 1) := dk_96 (dk_at dksX6_block_5 3 rfl rfl)
theorem dX6_block_129 : decode cX6_block 129 = .ok (.iaload, 1) := dk_46 (dk_at dksX6_block_5 4 rfl rfl)
theorem dX6_block_130 : decode cX6_block 130 = .ok (.ireturn, 1) := dk_172 (dk_at dksX6_block_5 5 rfl rfl)
theorem dX6_block_131 : decode cX6_block 131 = .ok (.aload_n 0, 1) := dk_42 (dk_at dksX6_block_5 6 rfl rfl)
theorem dX6_block_132 : decode cX6_block 132 = .ok (.getfield 282, 3) := dk_180 1 26 (dk_at dksX6_block_5 7 rfl rfl)
theorem dX6_block_135 : decode cX6_block 135 = .ok (.iload_n 1, 1) := dk_27 (dk_at dksX6_block_5 10 rfl rfl)
theorem dX6_block_136 : decode cX6_block 136 = .ok (.invokestatic 246, 3) := dk_184 0 246 (dk_at dksX6_block_5 11 rfl rfl)
theorem dX6_block_139 : decode cX6_block 139 = .ok (.invokestatic 331, 3) := dk_184 1 75 (dk_at dksX6_block_5 14 rfl rfl)
theorem dX6_block_142 : decode cX6_block 142 = .ok (.ireturn, 1) := dk_172 (dk_at dksX6_block_5 17 rfl rfl)
theorem dX6_block_143 : decode cX6_block 143 = .ok (.aload_n 0, 1) := dk_42 (dk_at dksX6_block_5 18 rfl rfl)
theorem dX6_block_144 : decode cX6_block 144 = .ok (.getfield 285, 3) := dk_180 1 29 (dk_at dksX6_block_5 19 rfl rfl)
theorem dX6_block_147 : decode cX6_block 147 = .ok (.iload_n 1, 1) := dk_27 (dk_at dksX6_block_5 22 rfl rfl)
theorem dX6_block_148 : decode cX6_block 148 = .ok (.invokestatic 246, 3) := dk_184 0 246 (dk_at dksX6_block_6 0 rfl rfl)
theorem dX6_block_151 : decode cX6_block 151 = .ok (.invokestatic 331, 3) := dk_184 1 75 (dk_at dksX6_block_6 3 rfl rfl)
theorem dX6_block_154 : decode cX6_block 154 = .ok (.ireturn, 1) := dk_172 (dk_at dksX6_block_6 6 rfl rfl)
theorem dX6_block_155 : decode cX6_block 155 = .ok (.aload_n 0, 1) := dk_42 (dk_at dksX6_block_6 7 rfl rfl)
theorem dX6_block_156 : decode cX6_block 156 = .ok (.getfield 62, 3) := dk_180 0 62 (dk_at dksX6_block_6 8 rfl rfl)
theorem dX6_block_159 : decode cX6_block 159 = .ok (.iload_n 1, 1) := dk_27 (dk_at dksX6_block_6 11 rfl rfl)
theorem dX6_block_160 : decode cX6_block 160 = .ok (.iaload, 1) := dk_46 (dk_at dksX6_block_6 12 rfl rfl)
theorem dX6_block_161 : decode cX6_block 161 = .ok (.ireturn, 1) := dk_172 (dk_at dksX6_block_6 13 rfl rfl)
abbrev cX6_isBlock : ByteArray := prog_25_method_29_code
def yX6_isBlock : MethodName := ⟨RX6, "isBlock", "(I)Z"⟩
def dkwX6_isBlock_0 : List UInt8 := [27, 3, 42, 180, 0, 33, 5, 46, 4, 100, 184, 0, 189, 172]
abbrev dktX6_isBlock_0 : List UInt8 := dkwX6_isBlock_0 ++ []
theorem dksX6_isBlock_0 : cX6_isBlock.data.toList.drop 0 = dktX6_isBlock_0 := by decide +kernel
theorem dX6_isBlock_0 : decode cX6_isBlock 0 = .ok (.iload_n 1, 1) := dk_27 (dk_at dksX6_isBlock_0 0 rfl rfl)
theorem dX6_isBlock_1 : decode cX6_isBlock 1 = .ok (.iconst 0, 1) := dk_3 (dk_at dksX6_isBlock_0 1 rfl rfl)
theorem dX6_isBlock_2 : decode cX6_isBlock 2 = .ok (.aload_n 0, 1) := dk_42 (dk_at dksX6_isBlock_0 2 rfl rfl)
theorem dX6_isBlock_3 : decode cX6_isBlock 3 = .ok (.getfield 33, 3) := dk_180 0 33 (dk_at dksX6_isBlock_0 3 rfl rfl)
theorem dX6_isBlock_6 : decode cX6_isBlock 6 = .ok (.iconst 2, 1) := dk_5 (dk_at dksX6_isBlock_0 6 rfl rfl)
theorem dX6_isBlock_7 : decode cX6_isBlock 7 = .ok (.iaload, 1) := dk_46 (dk_at dksX6_isBlock_0 7 rfl rfl)
theorem dX6_isBlock_8 : decode cX6_isBlock 8 = .ok (.iconst 1, 1) := dk_4 (dk_at dksX6_isBlock_0 8 rfl rfl)
theorem dX6_isBlock_9 : decode cX6_isBlock 9 = .ok (.isub, 1) := dk_100 (dk_at dksX6_isBlock_0 9 rfl rfl)
theorem dX6_isBlock_10 : decode cX6_isBlock 10 = .ok (.invokestatic 189, 3) := dk_184 0 189 (dk_at dksX6_isBlock_0 10 rfl rfl)
theorem dX6_isBlock_13 : decode cX6_isBlock 13 = .ok (.ireturn, 1) := dk_172 (dk_at dksX6_isBlock_0 13 rfl rfl)
abbrev cX6_throwsIf : ByteArray := prog_25_method_2_code
def yX6_throwsIf : MethodName := ⟨RX6, "throwsIf", "(Z)Z"⟩
def dkwX6_throwsIf_0 : List UInt8 := [42, 27, 153, 0, 7, 4, 167, 0, 4, 3, 181, 0, 1, 27, 172]
abbrev dktX6_throwsIf_0 : List UInt8 := dkwX6_throwsIf_0 ++ []
theorem dksX6_throwsIf_0 : cX6_throwsIf.data.toList.drop 0 = dktX6_throwsIf_0 := by decide +kernel
theorem dX6_throwsIf_0 : decode cX6_throwsIf 0 = .ok (.aload_n 0, 1) := dk_42 (dk_at dksX6_throwsIf_0 0 rfl rfl)
theorem dX6_throwsIf_1 : decode cX6_throwsIf 1 = .ok (.iload_n 1, 1) := dk_27 (dk_at dksX6_throwsIf_0 1 rfl rfl)
theorem dX6_throwsIf_2 : decode cX6_throwsIf 2 = .ok (.ifCond .eq 7, 3) := dk_153 0 7 (dk_at dksX6_throwsIf_0 2 rfl rfl)
theorem dX6_throwsIf_5 : decode cX6_throwsIf 5 = .ok (.iconst 1, 1) := dk_4 (dk_at dksX6_throwsIf_0 5 rfl rfl)
theorem dX6_throwsIf_6 : decode cX6_throwsIf 6 = .ok (.goto 4, 3) := dk_167 0 4 (dk_at dksX6_throwsIf_0 6 rfl rfl)
theorem dX6_throwsIf_9 : decode cX6_throwsIf 9 = .ok (.iconst 0, 1) := dk_3 (dk_at dksX6_throwsIf_0 9 rfl rfl)
theorem dX6_throwsIf_10 : decode cX6_throwsIf 10 = .ok (.putfield 1, 3) := dk_181 0 1 (dk_at dksX6_throwsIf_0 10 rfl rfl)
theorem dX6_throwsIf_13 : decode cX6_throwsIf 13 = .ok (.iload_n 1, 1) := dk_27 (dk_at dksX6_throwsIf_0 13 rfl rfl)
theorem dX6_throwsIf_14 : decode cX6_throwsIf 14 = .ok (.ireturn, 1) := dk_172 (dk_at dksX6_throwsIf_0 14 rfl rfl)
abbrev cX6_lays : ByteArray := prog_25_method_46_code
def yX6_lays : MethodName := ⟨RX6, "lays", "()V"⟩
def dkwX6_lays_2 : List UInt8 := [180, 0, 33, 5, 46, 154, 0, 4, 177, 42, 182, 1, 53, 42, 182, 1, 56, 177]
abbrev dktX6_lays_2 : List UInt8 := dkwX6_lays_2 ++ []
def dkwX6_lays_1 : List UInt8 := [181, 1, 26, 42, 3, 181, 1, 29, 42, 2, 181, 1, 38, 42, 3, 181, 1, 41, 42, 3, 181, 1, 32, 42]
abbrev dktX6_lays_1 : List UInt8 := dkwX6_lays_1 ++ dktX6_lays_2
def dkwX6_lays_0 : List UInt8 := [42, 180, 0, 242, 153, 0, 4, 177, 42, 4, 181, 0, 242, 42, 182, 1, 47, 42, 182, 1, 50, 42, 3]
abbrev dktX6_lays_0 : List UInt8 := dkwX6_lays_0 ++ dktX6_lays_1
theorem dksX6_lays_0 : cX6_lays.data.toList.drop 0 = dktX6_lays_0 := by decide +kernel
theorem dksX6_lays_1 : cX6_lays.data.toList.drop 23 = dktX6_lays_1 := dk_seg dksX6_lays_0 23 rfl rfl
theorem dksX6_lays_2 : cX6_lays.data.toList.drop 47 = dktX6_lays_2 := dk_seg dksX6_lays_1 24 rfl rfl
theorem dX6_lays_0 : decode cX6_lays 0 = .ok (.aload_n 0, 1) := dk_42 (dk_at dksX6_lays_0 0 rfl rfl)
theorem dX6_lays_1 : decode cX6_lays 1 = .ok (.getfield 242, 3) := dk_180 0 242 (dk_at dksX6_lays_0 1 rfl rfl)
theorem dX6_lays_4 : decode cX6_lays 4 = .ok (.ifCond .eq 4, 3) := dk_153 0 4 (dk_at dksX6_lays_0 4 rfl rfl)
theorem dX6_lays_7 : decode cX6_lays 7 = .ok (.return_, 1) := dk_177 (dk_at dksX6_lays_0 7 rfl rfl)
theorem dX6_lays_8 : decode cX6_lays 8 = .ok (.aload_n 0, 1) := dk_42 (dk_at dksX6_lays_0 8 rfl rfl)
theorem dX6_lays_9 : decode cX6_lays 9 = .ok (.iconst 1, 1) := dk_4 (dk_at dksX6_lays_0 9 rfl rfl)
theorem dX6_lays_10 : decode cX6_lays 10 = .ok (.putfield 242, 3) := dk_181 0 242 (dk_at dksX6_lays_0 10 rfl rfl)
theorem dX6_lays_13 : decode cX6_lays 13 = .ok (.aload_n 0, 1) := dk_42 (dk_at dksX6_lays_0 13 rfl rfl)
theorem dX6_lays_14 : decode cX6_lays 14 = .ok (.invokevirtual 303, 3) := dk_182 1 47 (dk_at dksX6_lays_0 14 rfl rfl)
theorem dX6_lays_17 : decode cX6_lays 17 = .ok (.aload_n 0, 1) := dk_42 (dk_at dksX6_lays_0 17 rfl rfl)
theorem dX6_lays_18 : decode cX6_lays 18 = .ok (.invokevirtual 306, 3) := dk_182 1 50 (dk_at dksX6_lays_0 18 rfl rfl)
theorem dX6_lays_21 : decode cX6_lays 21 = .ok (.aload_n 0, 1) := dk_42 (dk_at dksX6_lays_0 21 rfl rfl)
theorem dX6_lays_22 : decode cX6_lays 22 = .ok (.iconst 0, 1) := dk_3 (dk_at dksX6_lays_0 22 rfl rfl)
theorem dX6_lays_23 : decode cX6_lays 23 = .ok (.putfield 282, 3) := dk_181 1 26 (dk_at dksX6_lays_1 0 rfl rfl)
theorem dX6_lays_26 : decode cX6_lays 26 = .ok (.aload_n 0, 1) := dk_42 (dk_at dksX6_lays_1 3 rfl rfl)
theorem dX6_lays_27 : decode cX6_lays 27 = .ok (.iconst 0, 1) := dk_3 (dk_at dksX6_lays_1 4 rfl rfl)
theorem dX6_lays_28 : decode cX6_lays 28 = .ok (.putfield 285, 3) := dk_181 1 29 (dk_at dksX6_lays_1 5 rfl rfl)
theorem dX6_lays_31 : decode cX6_lays 31 = .ok (.aload_n 0, 1) := dk_42 (dk_at dksX6_lays_1 8 rfl rfl)
theorem dX6_lays_32 : decode cX6_lays 32 = .ok (.iconst (-1), 1) := dk_2 (dk_at dksX6_lays_1 9 rfl rfl)
theorem dX6_lays_33 : decode cX6_lays 33 = .ok (.putfield 294, 3) := dk_181 1 38 (dk_at dksX6_lays_1 10 rfl rfl)
theorem dX6_lays_36 : decode cX6_lays 36 = .ok (.aload_n 0, 1) := dk_42 (dk_at dksX6_lays_1 13 rfl rfl)
theorem dX6_lays_37 : decode cX6_lays 37 = .ok (.iconst 0, 1) := dk_3 (dk_at dksX6_lays_1 14 rfl rfl)
theorem dX6_lays_38 : decode cX6_lays 38 = .ok (.putfield 297, 3) := dk_181 1 41 (dk_at dksX6_lays_1 15 rfl rfl)
theorem dX6_lays_41 : decode cX6_lays 41 = .ok (.aload_n 0, 1) := dk_42 (dk_at dksX6_lays_1 18 rfl rfl)
theorem dX6_lays_42 : decode cX6_lays 42 = .ok (.iconst 0, 1) := dk_3 (dk_at dksX6_lays_1 19 rfl rfl)
theorem dX6_lays_43 : decode cX6_lays 43 = .ok (.putfield 288, 3) := dk_181 1 32 (dk_at dksX6_lays_1 20 rfl rfl)
theorem dX6_lays_46 : decode cX6_lays 46 = .ok (.aload_n 0, 1) := dk_42 (dk_at dksX6_lays_1 23 rfl rfl)
theorem dX6_lays_47 : decode cX6_lays 47 = .ok (.getfield 33, 3) := dk_180 0 33 (dk_at dksX6_lays_2 0 rfl rfl)
theorem dX6_lays_50 : decode cX6_lays 50 = .ok (.iconst 2, 1) := dk_5 (dk_at dksX6_lays_2 3 rfl rfl)
theorem dX6_lays_51 : decode cX6_lays 51 = .ok (.iaload, 1) := dk_46 (dk_at dksX6_lays_2 4 rfl rfl)
theorem dX6_lays_52 : decode cX6_lays 52 = .ok (.ifCond .ne 4, 3) := dk_154 0 4 (dk_at dksX6_lays_2 5 rfl rfl)
theorem dX6_lays_55 : decode cX6_lays 55 = .ok (.return_, 1) := dk_177 (dk_at dksX6_lays_2 8 rfl rfl)
theorem dX6_lays_56 : decode cX6_lays 56 = .ok (.aload_n 0, 1) := dk_42 (dk_at dksX6_lays_2 9 rfl rfl)
theorem dX6_lays_57 : decode cX6_lays 57 = .ok (.invokevirtual 309, 3) := dk_182 1 53 (dk_at dksX6_lays_2 10 rfl rfl)
theorem dX6_lays_60 : decode cX6_lays 60 = .ok (.aload_n 0, 1) := dk_42 (dk_at dksX6_lays_2 13 rfl rfl)
theorem dX6_lays_61 : decode cX6_lays 61 = .ok (.invokevirtual 312, 3) := dk_182 1 56 (dk_at dksX6_lays_2 14 rfl rfl)
theorem dX6_lays_64 : decode cX6_lays 64 = .ok (.return_, 1) := dk_177 (dk_at dksX6_lays_2 17 rfl rfl)
abbrev cX6_laysBlocks : ByteArray := prog_25_method_34_code
def yX6_laysBlocks : MethodName := ⟨RX6, "laysBlocks", "()V"⟩
def dkwX6_laysBlocks_3 : List UInt8 := [132, 1, 1, 167, 255, 187, 177]
abbrev dktX6_laysBlocks_3 : List UInt8 := dkwX6_laysBlocks_3 ++ []
def dkwX6_laysBlocks_2 : List UInt8 := [180, 0, 56, 27, 28, 156, 0, 7, 3, 167, 0, 13, 42, 180, 0, 56, 28, 46, 4, 28, 120, 128, 79]
abbrev dktX6_laysBlocks_2 : List UInt8 := dkwX6_laysBlocks_2 ++ dktX6_laysBlocks_3
def dkwX6_laysBlocks_1 : List UInt8 := [180, 0, 53, 27, 28, 156, 0, 7, 3, 167, 0, 11, 42, 180, 0, 53, 28, 46, 4, 96, 79, 42]
abbrev dktX6_laysBlocks_1 : List UInt8 := dkwX6_laysBlocks_1 ++ dktX6_laysBlocks_2
def dkwX6_laysBlocks_0 : List UInt8 := [3, 60, 27, 42, 180, 0, 33, 5, 46, 162, 0, 65, 42, 180, 0, 33, 16, 12, 27, 96, 46, 61, 42]
abbrev dktX6_laysBlocks_0 : List UInt8 := dkwX6_laysBlocks_0 ++ dktX6_laysBlocks_1
theorem dksX6_laysBlocks_0 : cX6_laysBlocks.data.toList.drop 0 = dktX6_laysBlocks_0 := by decide +kernel
theorem dksX6_laysBlocks_1 : cX6_laysBlocks.data.toList.drop 23 = dktX6_laysBlocks_1 := dk_seg dksX6_laysBlocks_0 23 rfl rfl
theorem dksX6_laysBlocks_2 : cX6_laysBlocks.data.toList.drop 45 = dktX6_laysBlocks_2 := dk_seg dksX6_laysBlocks_1 22 rfl rfl
theorem dksX6_laysBlocks_3 : cX6_laysBlocks.data.toList.drop 68 = dktX6_laysBlocks_3 := dk_seg dksX6_laysBlocks_2 23 rfl rfl
theorem dX6_laysBlocks_0 : decode cX6_laysBlocks 0 = .ok (.iconst 0, 1) := dk_3 (dk_at dksX6_laysBlocks_0 0 rfl rfl)
theorem dX6_laysBlocks_1 : decode cX6_laysBlocks 1 = .ok (.istore_n 1, 1) := dk_60 (dk_at dksX6_laysBlocks_0 1 rfl rfl)
theorem dX6_laysBlocks_2 : decode cX6_laysBlocks 2 = .ok (.iload_n 1, 1) := dk_27 (dk_at dksX6_laysBlocks_0 2 rfl rfl)
theorem dX6_laysBlocks_3 : decode cX6_laysBlocks 3 = .ok (.aload_n 0, 1) := dk_42 (dk_at dksX6_laysBlocks_0 3 rfl rfl)
theorem dX6_laysBlocks_4 : decode cX6_laysBlocks 4 = .ok (.getfield 33, 3) := dk_180 0 33 (dk_at dksX6_laysBlocks_0 4 rfl rfl)
theorem dX6_laysBlocks_7 : decode cX6_laysBlocks 7 = .ok (.iconst 2, 1) := dk_5 (dk_at dksX6_laysBlocks_0 7 rfl rfl)
theorem dX6_laysBlocks_8 : decode cX6_laysBlocks 8 = .ok (.iaload, 1) := dk_46 (dk_at dksX6_laysBlocks_0 8 rfl rfl)
theorem dX6_laysBlocks_9 : decode cX6_laysBlocks 9 = .ok (.if_icmp .ge 65, 3) := dk_162 0 65 (dk_at dksX6_laysBlocks_0 9 rfl rfl)
theorem dX6_laysBlocks_12 : decode cX6_laysBlocks 12 = .ok (.aload_n 0, 1) := dk_42 (dk_at dksX6_laysBlocks_0 12 rfl rfl)
theorem dX6_laysBlocks_13 : decode cX6_laysBlocks 13 = .ok (.getfield 33, 3) := dk_180 0 33 (dk_at dksX6_laysBlocks_0 13 rfl rfl)
theorem dX6_laysBlocks_16 : decode cX6_laysBlocks 16 = .ok (.bipush 12, 2) := dk_16 12 (dk_at dksX6_laysBlocks_0 16 rfl rfl)
theorem dX6_laysBlocks_18 : decode cX6_laysBlocks 18 = .ok (.iload_n 1, 1) := dk_27 (dk_at dksX6_laysBlocks_0 18 rfl rfl)
theorem dX6_laysBlocks_19 : decode cX6_laysBlocks 19 = .ok (.iadd, 1) := dk_96 (dk_at dksX6_laysBlocks_0 19 rfl rfl)
theorem dX6_laysBlocks_20 : decode cX6_laysBlocks 20 = .ok (.iaload, 1) := dk_46 (dk_at dksX6_laysBlocks_0 20 rfl rfl)
theorem dX6_laysBlocks_21 : decode cX6_laysBlocks 21 = .ok (.istore_n 2, 1) := dk_61 (dk_at dksX6_laysBlocks_0 21 rfl rfl)
theorem dX6_laysBlocks_22 : decode cX6_laysBlocks 22 = .ok (.aload_n 0, 1) := dk_42 (dk_at dksX6_laysBlocks_0 22 rfl rfl)
theorem dX6_laysBlocks_23 : decode cX6_laysBlocks 23 = .ok (.getfield 53, 3) := dk_180 0 53 (dk_at dksX6_laysBlocks_1 0 rfl rfl)
theorem dX6_laysBlocks_26 : decode cX6_laysBlocks 26 = .ok (.iload_n 1, 1) := dk_27 (dk_at dksX6_laysBlocks_1 3 rfl rfl)
theorem dX6_laysBlocks_27 : decode cX6_laysBlocks 27 = .ok (.iload_n 2, 1) := dk_28 (dk_at dksX6_laysBlocks_1 4 rfl rfl)
theorem dX6_laysBlocks_28 : decode cX6_laysBlocks 28 = .ok (.ifCond .ge 7, 3) := dk_156 0 7 (dk_at dksX6_laysBlocks_1 5 rfl rfl)
theorem dX6_laysBlocks_31 : decode cX6_laysBlocks 31 = .ok (.iconst 0, 1) := dk_3 (dk_at dksX6_laysBlocks_1 8 rfl rfl)
theorem dX6_laysBlocks_32 : decode cX6_laysBlocks 32 = .ok (.goto 11, 3) := dk_167 0 11 (dk_at dksX6_laysBlocks_1 9 rfl rfl)
theorem dX6_laysBlocks_35 : decode cX6_laysBlocks 35 = .ok (.aload_n 0, 1) := dk_42 (dk_at dksX6_laysBlocks_1 12 rfl rfl)
theorem dX6_laysBlocks_36 : decode cX6_laysBlocks 36 = .ok (.getfield 53, 3) := dk_180 0 53 (dk_at dksX6_laysBlocks_1 13 rfl rfl)
theorem dX6_laysBlocks_39 : decode cX6_laysBlocks 39 = .ok (.iload_n 2, 1) := dk_28 (dk_at dksX6_laysBlocks_1 16 rfl rfl)
theorem dX6_laysBlocks_40 : decode cX6_laysBlocks 40 = .ok (.iaload, 1) := dk_46 (dk_at dksX6_laysBlocks_1 17 rfl rfl)
theorem dX6_laysBlocks_41 : decode cX6_laysBlocks 41 = .ok (.iconst 1, 1) := dk_4 (dk_at dksX6_laysBlocks_1 18 rfl rfl)
theorem dX6_laysBlocks_42 : decode cX6_laysBlocks 42 = .ok (.iadd, 1) := dk_96 (dk_at dksX6_laysBlocks_1 19 rfl rfl)
theorem dX6_laysBlocks_43 : decode cX6_laysBlocks 43 = .ok (.iastore, 1) := dk_79 (dk_at dksX6_laysBlocks_1 20 rfl rfl)
theorem dX6_laysBlocks_44 : decode cX6_laysBlocks 44 = .ok (.aload_n 0, 1) := dk_42 (dk_at dksX6_laysBlocks_1 21 rfl rfl)
theorem dX6_laysBlocks_45 : decode cX6_laysBlocks 45 = .ok (.getfield 56, 3) := dk_180 0 56 (dk_at dksX6_laysBlocks_2 0 rfl rfl)
theorem dX6_laysBlocks_48 : decode cX6_laysBlocks 48 = .ok (.iload_n 1, 1) := dk_27 (dk_at dksX6_laysBlocks_2 3 rfl rfl)
theorem dX6_laysBlocks_49 : decode cX6_laysBlocks 49 = .ok (.iload_n 2, 1) := dk_28 (dk_at dksX6_laysBlocks_2 4 rfl rfl)
theorem dX6_laysBlocks_50 : decode cX6_laysBlocks 50 = .ok (.ifCond .ge 7, 3) := dk_156 0 7 (dk_at dksX6_laysBlocks_2 5 rfl rfl)
theorem dX6_laysBlocks_53 : decode cX6_laysBlocks 53 = .ok (.iconst 0, 1) := dk_3 (dk_at dksX6_laysBlocks_2 8 rfl rfl)
theorem dX6_laysBlocks_54 : decode cX6_laysBlocks 54 = .ok (.goto 13, 3) := dk_167 0 13 (dk_at dksX6_laysBlocks_2 9 rfl rfl)
theorem dX6_laysBlocks_57 : decode cX6_laysBlocks 57 = .ok (.aload_n 0, 1) := dk_42 (dk_at dksX6_laysBlocks_2 12 rfl rfl)
theorem dX6_laysBlocks_58 : decode cX6_laysBlocks 58 = .ok (.getfield 56, 3) := dk_180 0 56 (dk_at dksX6_laysBlocks_2 13 rfl rfl)
theorem dX6_laysBlocks_61 : decode cX6_laysBlocks 61 = .ok (.iload_n 2, 1) := dk_28 (dk_at dksX6_laysBlocks_2 16 rfl rfl)
theorem dX6_laysBlocks_62 : decode cX6_laysBlocks 62 = .ok (.iaload, 1) := dk_46 (dk_at dksX6_laysBlocks_2 17 rfl rfl)
theorem dX6_laysBlocks_63 : decode cX6_laysBlocks 63 = .ok (.iconst 1, 1) := dk_4 (dk_at dksX6_laysBlocks_2 18 rfl rfl)
theorem dX6_laysBlocks_64 : decode cX6_laysBlocks 64 = .ok (.iload_n 2, 1) := dk_28 (dk_at dksX6_laysBlocks_2 19 rfl rfl)
theorem dX6_laysBlocks_65 : decode cX6_laysBlocks 65 = .ok (.ishl, 1) := dk_120 (dk_at dksX6_laysBlocks_2 20 rfl rfl)
theorem dX6_laysBlocks_66 : decode cX6_laysBlocks 66 = .ok (.ior, 1) := dk_128 (dk_at dksX6_laysBlocks_2 21 rfl rfl)
theorem dX6_laysBlocks_67 : decode cX6_laysBlocks 67 = .ok (.iastore, 1) := dk_79 (dk_at dksX6_laysBlocks_2 22 rfl rfl)
theorem dX6_laysBlocks_68 : decode cX6_laysBlocks 68 = .ok (.iinc 1 1, 3) := dk_132 1 1 (dk_at dksX6_laysBlocks_3 0 rfl rfl)
theorem dX6_laysBlocks_71 : decode cX6_laysBlocks 71 = .ok (.goto (-69), 3) := dk_167 255 187 (dk_at dksX6_laysBlocks_3 3 rfl rfl)
theorem dX6_laysBlocks_74 : decode cX6_laysBlocks 74 = .ok (.return_, 1) := dk_177 (dk_at dksX6_laysBlocks_3 6 rfl rfl)
abbrev cX6_laysVotes : ByteArray := prog_25_method_42_code
def yX6_laysVotes : MethodName := ⟨RX6, "laysVotes", "()V"⟩
def dkwX6_laysVotes_7 : List UInt8 := [132, 3, 1, 167, 255, 206, 132, 1, 1, 167, 255, 121, 177]
abbrev dktX6_laysVotes_7 : List UInt8 := dkwX6_laysVotes_7 ++ []
def dkwX6_laysVotes_6 : List UInt8 := [42, 180, 0, 33, 16, 72, 27, 96, 46, 120, 128, 181, 1, 14, 42, 89, 180, 1, 17, 4, 96, 181, 1, 17]
abbrev dktX6_laysVotes_6 : List UInt8 := dkwX6_laysVotes_6 ++ dktX6_laysVotes_7
def dkwX6_laysVotes_5 : List UInt8 := [62, 29, 27, 162, 0, 51, 42, 29, 27, 182, 1, 23, 154, 0, 6, 167, 0, 33, 42, 89, 180, 1, 14, 4]
abbrev dktX6_laysVotes_5 : List UInt8 := dkwX6_laysVotes_5 ++ dktX6_laysVotes_6
def dkwX6_laysVotes_4 : List UInt8 := [181, 1, 20, 42, 180, 0, 59, 28, 92, 46, 4, 42, 180, 0, 33, 16, 72, 27, 96, 46, 120, 128, 79, 3]
abbrev dktX6_laysVotes_4 : List UInt8 := dkwX6_laysVotes_4 ++ dktX6_laysVotes_5
def dkwX6_laysVotes_3 : List UInt8 := [46, 96, 61, 42, 89, 180, 1, 20, 42, 180, 0, 59, 28, 46, 154, 0, 7, 4, 167, 0, 4, 3, 96]
abbrev dktX6_laysVotes_3 : List UInt8 := dkwX6_laysVotes_3 ++ dktX6_laysVotes_4
def dkwX6_laysVotes_2 : List UInt8 := [162, 0, 131, 16, 20, 42, 180, 0, 33, 16, 120, 27, 96, 46, 104, 42, 180, 0, 33, 17, 0, 168, 27, 96]
abbrev dktX6_laysVotes_2 : List UInt8 := dkwX6_laysVotes_2 ++ dktX6_laysVotes_3
def dkwX6_laysVotes_1 : List UInt8 := [42, 180, 0, 59, 27, 3, 79, 132, 1, 1, 167, 255, 239, 3, 60, 27, 42, 180, 0, 33, 6, 46]
abbrev dktX6_laysVotes_1 : List UInt8 := dkwX6_laysVotes_1 ++ dktX6_laysVotes_2
def dkwX6_laysVotes_0 : List UInt8 := [42, 3, 181, 1, 14, 42, 3, 181, 1, 17, 42, 3, 181, 1, 20, 3, 60, 27, 17, 1, 144, 162, 0, 16]
abbrev dktX6_laysVotes_0 : List UInt8 := dkwX6_laysVotes_0 ++ dktX6_laysVotes_1
theorem dksX6_laysVotes_0 : cX6_laysVotes.data.toList.drop 0 = dktX6_laysVotes_0 := by decide +kernel
theorem dksX6_laysVotes_1 : cX6_laysVotes.data.toList.drop 24 = dktX6_laysVotes_1 := dk_seg dksX6_laysVotes_0 24 rfl rfl
theorem dksX6_laysVotes_2 : cX6_laysVotes.data.toList.drop 46 = dktX6_laysVotes_2 := dk_seg dksX6_laysVotes_1 22 rfl rfl
theorem dksX6_laysVotes_3 : cX6_laysVotes.data.toList.drop 70 = dktX6_laysVotes_3 := dk_seg dksX6_laysVotes_2 24 rfl rfl
theorem dksX6_laysVotes_4 : cX6_laysVotes.data.toList.drop 93 = dktX6_laysVotes_4 := dk_seg dksX6_laysVotes_3 23 rfl rfl
theorem dksX6_laysVotes_5 : cX6_laysVotes.data.toList.drop 117 = dktX6_laysVotes_5 := dk_seg dksX6_laysVotes_4 24 rfl rfl
theorem dksX6_laysVotes_6 : cX6_laysVotes.data.toList.drop 141 = dktX6_laysVotes_6 := dk_seg dksX6_laysVotes_5 24 rfl rfl
theorem dksX6_laysVotes_7 : cX6_laysVotes.data.toList.drop 165 = dktX6_laysVotes_7 := dk_seg dksX6_laysVotes_6 24 rfl rfl
theorem dX6_laysVotes_0 : decode cX6_laysVotes 0 = .ok (.aload_n 0, 1) := dk_42 (dk_at dksX6_laysVotes_0 0 rfl rfl)
theorem dX6_laysVotes_1 : decode cX6_laysVotes 1 = .ok (.iconst 0, 1) := dk_3 (dk_at dksX6_laysVotes_0 1 rfl rfl)
theorem dX6_laysVotes_2 : decode cX6_laysVotes 2 = .ok (.putfield 270, 3) := dk_181 1 14 (dk_at dksX6_laysVotes_0 2 rfl rfl)
theorem dX6_laysVotes_5 : decode cX6_laysVotes 5 = .ok (.aload_n 0, 1) := dk_42 (dk_at dksX6_laysVotes_0 5 rfl rfl)
theorem dX6_laysVotes_6 : decode cX6_laysVotes 6 = .ok (.iconst 0, 1) := dk_3 (dk_at dksX6_laysVotes_0 6 rfl rfl)
theorem dX6_laysVotes_7 : decode cX6_laysVotes 7 = .ok (.putfield 273, 3) := dk_181 1 17 (dk_at dksX6_laysVotes_0 7 rfl rfl)
theorem dX6_laysVotes_10 : decode cX6_laysVotes 10 = .ok (.aload_n 0, 1) := dk_42 (dk_at dksX6_laysVotes_0 10 rfl rfl)
theorem dX6_laysVotes_11 : decode cX6_laysVotes 11 = .ok (.iconst 0, 1) := dk_3 (dk_at dksX6_laysVotes_0 11 rfl rfl)
theorem dX6_laysVotes_12 : decode cX6_laysVotes 12 = .ok (.putfield 276, 3) := dk_181 1 20 (dk_at dksX6_laysVotes_0 12 rfl rfl)
theorem dX6_laysVotes_15 : decode cX6_laysVotes 15 = .ok (.iconst 0, 1) := dk_3 (dk_at dksX6_laysVotes_0 15 rfl rfl)
theorem dX6_laysVotes_16 : decode cX6_laysVotes 16 = .ok (.istore_n 1, 1) := dk_60 (dk_at dksX6_laysVotes_0 16 rfl rfl)
theorem dX6_laysVotes_17 : decode cX6_laysVotes 17 = .ok (.iload_n 1, 1) := dk_27 (dk_at dksX6_laysVotes_0 17 rfl rfl)
theorem dX6_laysVotes_18 : decode cX6_laysVotes 18 = .ok (.sipush 400, 3) := dk_17 1 144 (dk_at dksX6_laysVotes_0 18 rfl rfl)
theorem dX6_laysVotes_21 : decode cX6_laysVotes 21 = .ok (.if_icmp .ge 16, 3) := dk_162 0 16 (dk_at dksX6_laysVotes_0 21 rfl rfl)
theorem dX6_laysVotes_24 : decode cX6_laysVotes 24 = .ok (.aload_n 0, 1) := dk_42 (dk_at dksX6_laysVotes_1 0 rfl rfl)
theorem dX6_laysVotes_25 : decode cX6_laysVotes 25 = .ok (.getfield 59, 3) := dk_180 0 59 (dk_at dksX6_laysVotes_1 1 rfl rfl)
theorem dX6_laysVotes_28 : decode cX6_laysVotes 28 = .ok (.iload_n 1, 1) := dk_27 (dk_at dksX6_laysVotes_1 4 rfl rfl)
theorem dX6_laysVotes_29 : decode cX6_laysVotes 29 = .ok (.iconst 0, 1) := dk_3 (dk_at dksX6_laysVotes_1 5 rfl rfl)
theorem dX6_laysVotes_30 : decode cX6_laysVotes 30 = .ok (.iastore, 1) := dk_79 (dk_at dksX6_laysVotes_1 6 rfl rfl)
theorem dX6_laysVotes_31 : decode cX6_laysVotes 31 = .ok (.iinc 1 1, 3) := dk_132 1 1 (dk_at dksX6_laysVotes_1 7 rfl rfl)
theorem dX6_laysVotes_34 : decode cX6_laysVotes 34 = .ok (.goto (-17), 3) := dk_167 255 239 (dk_at dksX6_laysVotes_1 10 rfl rfl)
theorem dX6_laysVotes_37 : decode cX6_laysVotes 37 = .ok (.iconst 0, 1) := dk_3 (dk_at dksX6_laysVotes_1 13 rfl rfl)
theorem dX6_laysVotes_38 : decode cX6_laysVotes 38 = .ok (.istore_n 1, 1) := dk_60 (dk_at dksX6_laysVotes_1 14 rfl rfl)
theorem dX6_laysVotes_39 : decode cX6_laysVotes 39 = .ok (.iload_n 1, 1) := dk_27 (dk_at dksX6_laysVotes_1 15 rfl rfl)
theorem dX6_laysVotes_40 : decode cX6_laysVotes 40 = .ok (.aload_n 0, 1) := dk_42 (dk_at dksX6_laysVotes_1 16 rfl rfl)
theorem dX6_laysVotes_41 : decode cX6_laysVotes 41 = .ok (.getfield 33, 3) := dk_180 0 33 (dk_at dksX6_laysVotes_1 17 rfl rfl)
theorem dX6_laysVotes_44 : decode cX6_laysVotes 44 = .ok (.iconst 3, 1) := dk_6 (dk_at dksX6_laysVotes_1 20 rfl rfl)
theorem dX6_laysVotes_45 : decode cX6_laysVotes 45 = .ok (.iaload, 1) := dk_46 (dk_at dksX6_laysVotes_1 21 rfl rfl)
theorem dX6_laysVotes_46 : decode cX6_laysVotes 46 = .ok (.if_icmp .ge 131, 3) := dk_162 0 131 (dk_at dksX6_laysVotes_2 0 rfl rfl)
theorem dX6_laysVotes_49 : decode cX6_laysVotes 49 = .ok (.bipush 20, 2) := dk_16 20 (dk_at dksX6_laysVotes_2 3 rfl rfl)
theorem dX6_laysVotes_51 : decode cX6_laysVotes 51 = .ok (.aload_n 0, 1) := dk_42 (dk_at dksX6_laysVotes_2 5 rfl rfl)
theorem dX6_laysVotes_52 : decode cX6_laysVotes 52 = .ok (.getfield 33, 3) := dk_180 0 33 (dk_at dksX6_laysVotes_2 6 rfl rfl)
theorem dX6_laysVotes_55 : decode cX6_laysVotes 55 = .ok (.bipush 120, 2) := dk_16 120 (dk_at dksX6_laysVotes_2 9 rfl rfl)
theorem dX6_laysVotes_57 : decode cX6_laysVotes 57 = .ok (.iload_n 1, 1) := dk_27 (dk_at dksX6_laysVotes_2 11 rfl rfl)
theorem dX6_laysVotes_58 : decode cX6_laysVotes 58 = .ok (.iadd, 1) := dk_96 (dk_at dksX6_laysVotes_2 12 rfl rfl)
theorem dX6_laysVotes_59 : decode cX6_laysVotes 59 = .ok (.iaload, 1) := dk_46 (dk_at dksX6_laysVotes_2 13 rfl rfl)
theorem dX6_laysVotes_60 : decode cX6_laysVotes 60 = .ok (.imul, 1) := dk_104 (dk_at dksX6_laysVotes_2 14 rfl rfl)
theorem dX6_laysVotes_61 : decode cX6_laysVotes 61 = .ok (.aload_n 0, 1) := dk_42 (dk_at dksX6_laysVotes_2 15 rfl rfl)
theorem dX6_laysVotes_62 : decode cX6_laysVotes 62 = .ok (.getfield 33, 3) := dk_180 0 33 (dk_at dksX6_laysVotes_2 16 rfl rfl)
theorem dX6_laysVotes_65 : decode cX6_laysVotes 65 = .ok (.sipush 168, 3) := dk_17 0 168 (dk_at dksX6_laysVotes_2 19 rfl rfl)
theorem dX6_laysVotes_68 : decode cX6_laysVotes 68 = .ok (.iload_n 1, 1) := dk_27 (dk_at dksX6_laysVotes_2 22 rfl rfl)
theorem dX6_laysVotes_69 : decode cX6_laysVotes 69 = .ok (.iadd, 1) := dk_96 (dk_at dksX6_laysVotes_2 23 rfl rfl)
theorem dX6_laysVotes_70 : decode cX6_laysVotes 70 = .ok (.iaload, 1) := dk_46 (dk_at dksX6_laysVotes_3 0 rfl rfl)
theorem dX6_laysVotes_71 : decode cX6_laysVotes 71 = .ok (.iadd, 1) := dk_96 (dk_at dksX6_laysVotes_3 1 rfl rfl)
theorem dX6_laysVotes_72 : decode cX6_laysVotes 72 = .ok (.istore_n 2, 1) := dk_61 (dk_at dksX6_laysVotes_3 2 rfl rfl)
theorem dX6_laysVotes_73 : decode cX6_laysVotes 73 = .ok (.aload_n 0, 1) := dk_42 (dk_at dksX6_laysVotes_3 3 rfl rfl)
theorem dX6_laysVotes_74 : decode cX6_laysVotes 74 = .ok (.dup, 1) := dk_89 (dk_at dksX6_laysVotes_3 4 rfl rfl)
theorem dX6_laysVotes_75 : decode cX6_laysVotes 75 = .ok (.getfield 276, 3) := dk_180 1 20 (dk_at dksX6_laysVotes_3 5 rfl rfl)
theorem dX6_laysVotes_78 : decode cX6_laysVotes 78 = .ok (.aload_n 0, 1) := dk_42 (dk_at dksX6_laysVotes_3 8 rfl rfl)
theorem dX6_laysVotes_79 : decode cX6_laysVotes 79 = .ok (.getfield 59, 3) := dk_180 0 59 (dk_at dksX6_laysVotes_3 9 rfl rfl)
theorem dX6_laysVotes_82 : decode cX6_laysVotes 82 = .ok (.iload_n 2, 1) := dk_28 (dk_at dksX6_laysVotes_3 12 rfl rfl)
theorem dX6_laysVotes_83 : decode cX6_laysVotes 83 = .ok (.iaload, 1) := dk_46 (dk_at dksX6_laysVotes_3 13 rfl rfl)
theorem dX6_laysVotes_84 : decode cX6_laysVotes 84 = .ok (.ifCond .ne 7, 3) := dk_154 0 7 (dk_at dksX6_laysVotes_3 14 rfl rfl)
theorem dX6_laysVotes_87 : decode cX6_laysVotes 87 = .ok (.iconst 1, 1) := dk_4 (dk_at dksX6_laysVotes_3 17 rfl rfl)
theorem dX6_laysVotes_88 : decode cX6_laysVotes 88 = .ok (.goto 4, 3) := dk_167 0 4 (dk_at dksX6_laysVotes_3 18 rfl rfl)
theorem dX6_laysVotes_91 : decode cX6_laysVotes 91 = .ok (.iconst 0, 1) := dk_3 (dk_at dksX6_laysVotes_3 21 rfl rfl)
theorem dX6_laysVotes_92 : decode cX6_laysVotes 92 = .ok (.iadd, 1) := dk_96 (dk_at dksX6_laysVotes_3 22 rfl rfl)
theorem dX6_laysVotes_93 : decode cX6_laysVotes 93 = .ok (.putfield 276, 3) := dk_181 1 20 (dk_at dksX6_laysVotes_4 0 rfl rfl)
theorem dX6_laysVotes_96 : decode cX6_laysVotes 96 = .ok (.aload_n 0, 1) := dk_42 (dk_at dksX6_laysVotes_4 3 rfl rfl)
theorem dX6_laysVotes_97 : decode cX6_laysVotes 97 = .ok (.getfield 59, 3) := dk_180 0 59 (dk_at dksX6_laysVotes_4 4 rfl rfl)
theorem dX6_laysVotes_100 : decode cX6_laysVotes 100 = .ok (.iload_n 2, 1) := dk_28 (dk_at dksX6_laysVotes_4 7 rfl rfl)
theorem dX6_laysVotes_101 : decode cX6_laysVotes 101 = .ok (.dup2, 1) := dk_92 (dk_at dksX6_laysVotes_4 8 rfl rfl)
theorem dX6_laysVotes_102 : decode cX6_laysVotes 102 = .ok (.iaload, 1) := dk_46 (dk_at dksX6_laysVotes_4 9 rfl rfl)
theorem dX6_laysVotes_103 : decode cX6_laysVotes 103 = .ok (.iconst 1, 1) := dk_4 (dk_at dksX6_laysVotes_4 10 rfl rfl)
theorem dX6_laysVotes_104 : decode cX6_laysVotes 104 = .ok (.aload_n 0, 1) := dk_42 (dk_at dksX6_laysVotes_4 11 rfl rfl)
theorem dX6_laysVotes_105 : decode cX6_laysVotes 105 = .ok (.getfield 33, 3) := dk_180 0 33 (dk_at dksX6_laysVotes_4 12 rfl rfl)
theorem dX6_laysVotes_108 : decode cX6_laysVotes 108 = .ok (.bipush 72, 2) := dk_16 72 (dk_at dksX6_laysVotes_4 15 rfl rfl)
theorem dX6_laysVotes_110 : decode cX6_laysVotes 110 = .ok (.iload_n 1, 1) := dk_27 (dk_at dksX6_laysVotes_4 17 rfl rfl)
theorem dX6_laysVotes_111 : decode cX6_laysVotes 111 = .ok (.iadd, 1) := dk_96 (dk_at dksX6_laysVotes_4 18 rfl rfl)
theorem dX6_laysVotes_112 : decode cX6_laysVotes 112 = .ok (.iaload, 1) := dk_46 (dk_at dksX6_laysVotes_4 19 rfl rfl)
theorem dX6_laysVotes_113 : decode cX6_laysVotes 113 = .ok (.ishl, 1) := dk_120 (dk_at dksX6_laysVotes_4 20 rfl rfl)
theorem dX6_laysVotes_114 : decode cX6_laysVotes 114 = .ok (.ior, 1) := dk_128 (dk_at dksX6_laysVotes_4 21 rfl rfl)
theorem dX6_laysVotes_115 : decode cX6_laysVotes 115 = .ok (.iastore, 1) := dk_79 (dk_at dksX6_laysVotes_4 22 rfl rfl)
theorem dX6_laysVotes_116 : decode cX6_laysVotes 116 = .ok (.iconst 0, 1) := dk_3 (dk_at dksX6_laysVotes_4 23 rfl rfl)
theorem dX6_laysVotes_117 : decode cX6_laysVotes 117 = .ok (.istore_n 3, 1) := dk_62 (dk_at dksX6_laysVotes_5 0 rfl rfl)
theorem dX6_laysVotes_118 : decode cX6_laysVotes 118 = .ok (.iload_n 3, 1) := dk_29 (dk_at dksX6_laysVotes_5 1 rfl rfl)
theorem dX6_laysVotes_119 : decode cX6_laysVotes 119 = .ok (.iload_n 1, 1) := dk_27 (dk_at dksX6_laysVotes_5 2 rfl rfl)
theorem dX6_laysVotes_120 : decode cX6_laysVotes 120 = .ok (.if_icmp .ge 51, 3) := dk_162 0 51 (dk_at dksX6_laysVotes_5 3 rfl rfl)
theorem dX6_laysVotes_123 : decode cX6_laysVotes 123 = .ok (.aload_n 0, 1) := dk_42 (dk_at dksX6_laysVotes_5 6 rfl rfl)
theorem dX6_laysVotes_124 : decode cX6_laysVotes 124 = .ok (.iload_n 3, 1) := dk_29 (dk_at dksX6_laysVotes_5 7 rfl rfl)
theorem dX6_laysVotes_125 : decode cX6_laysVotes 125 = .ok (.iload_n 1, 1) := dk_27 (dk_at dksX6_laysVotes_5 8 rfl rfl)
theorem dX6_laysVotes_126 : decode cX6_laysVotes 126 = .ok (.invokevirtual 279, 3) := dk_182 1 23 (dk_at dksX6_laysVotes_5 9 rfl rfl)
theorem dX6_laysVotes_129 : decode cX6_laysVotes 129 = .ok (.ifCond .ne 6, 3) := dk_154 0 6 (dk_at dksX6_laysVotes_5 12 rfl rfl)
theorem dX6_laysVotes_132 : decode cX6_laysVotes 132 = .ok (.goto 33, 3) := dk_167 0 33 (dk_at dksX6_laysVotes_5 15 rfl rfl)
theorem dX6_laysVotes_135 : decode cX6_laysVotes 135 = .ok (.aload_n 0, 1) := dk_42 (dk_at dksX6_laysVotes_5 18 rfl rfl)
theorem dX6_laysVotes_136 : decode cX6_laysVotes 136 = .ok (.dup, 1) := dk_89 (dk_at dksX6_laysVotes_5 19 rfl rfl)
theorem dX6_laysVotes_137 : decode cX6_laysVotes 137 = .ok (.getfield 270, 3) := dk_180 1 14 (dk_at dksX6_laysVotes_5 20 rfl rfl)
theorem dX6_laysVotes_140 : decode cX6_laysVotes 140 = .ok (.iconst 1, 1) := dk_4 (dk_at dksX6_laysVotes_5 23 rfl rfl)
theorem dX6_laysVotes_141 : decode cX6_laysVotes 141 = .ok (.aload_n 0, 1) := dk_42 (dk_at dksX6_laysVotes_6 0 rfl rfl)
theorem dX6_laysVotes_142 : decode cX6_laysVotes 142 = .ok (.getfield 33, 3) := dk_180 0 33 (dk_at dksX6_laysVotes_6 1 rfl rfl)
theorem dX6_laysVotes_145 : decode cX6_laysVotes 145 = .ok (.bipush 72, 2) := dk_16 72 (dk_at dksX6_laysVotes_6 4 rfl rfl)
theorem dX6_laysVotes_147 : decode cX6_laysVotes 147 = .ok (.iload_n 1, 1) := dk_27 (dk_at dksX6_laysVotes_6 6 rfl rfl)
theorem dX6_laysVotes_148 : decode cX6_laysVotes 148 = .ok (.iadd, 1) := dk_96 (dk_at dksX6_laysVotes_6 7 rfl rfl)
theorem dX6_laysVotes_149 : decode cX6_laysVotes 149 = .ok (.iaload, 1) := dk_46 (dk_at dksX6_laysVotes_6 8 rfl rfl)
theorem dX6_laysVotes_150 : decode cX6_laysVotes 150 = .ok (.ishl, 1) := dk_120 (dk_at dksX6_laysVotes_6 9 rfl rfl)
theorem dX6_laysVotes_151 : decode cX6_laysVotes 151 = .ok (.ior, 1) := dk_128 (dk_at dksX6_laysVotes_6 10 rfl rfl)
theorem dX6_laysVotes_152 : decode cX6_laysVotes 152 = .ok (.putfield 270, 3) := dk_181 1 14 (dk_at dksX6_laysVotes_6 11 rfl rfl)
theorem dX6_laysVotes_155 : decode cX6_laysVotes 155 = .ok (.aload_n 0, 1) := dk_42 (dk_at dksX6_laysVotes_6 14 rfl rfl)
theorem dX6_laysVotes_156 : decode cX6_laysVotes 156 = .ok (.dup, 1) := dk_89 (dk_at dksX6_laysVotes_6 15 rfl rfl)
theorem dX6_laysVotes_157 : decode cX6_laysVotes 157 = .ok (.getfield 273, 3) := dk_180 1 17 (dk_at dksX6_laysVotes_6 16 rfl rfl)
theorem dX6_laysVotes_160 : decode cX6_laysVotes 160 = .ok (.iconst 1, 1) := dk_4 (dk_at dksX6_laysVotes_6 19 rfl rfl)
theorem dX6_laysVotes_161 : decode cX6_laysVotes 161 = .ok (.iadd, 1) := dk_96 (dk_at dksX6_laysVotes_6 20 rfl rfl)
theorem dX6_laysVotes_162 : decode cX6_laysVotes 162 = .ok (.putfield 273, 3) := dk_181 1 17 (dk_at dksX6_laysVotes_6 21 rfl rfl)
theorem dX6_laysVotes_165 : decode cX6_laysVotes 165 = .ok (.iinc 3 1, 3) := dk_132 3 1 (dk_at dksX6_laysVotes_7 0 rfl rfl)
theorem dX6_laysVotes_168 : decode cX6_laysVotes 168 = .ok (.goto (-50), 3) := dk_167 255 206 (dk_at dksX6_laysVotes_7 3 rfl rfl)
theorem dX6_laysVotes_171 : decode cX6_laysVotes 171 = .ok (.iinc 1 1, 3) := dk_132 1 1 (dk_at dksX6_laysVotes_7 6 rfl rfl)
theorem dX6_laysVotes_174 : decode cX6_laysVotes 174 = .ok (.goto (-135), 3) := dk_167 255 121 (dk_at dksX6_laysVotes_7 9 rfl rfl)
theorem dX6_laysVotes_177 : decode cX6_laysVotes 177 = .ok (.return_, 1) := dk_177 (dk_at dksX6_laysVotes_7 12 rfl rfl)
abbrev cX6_offence : ByteArray := prog_25_method_41_code
def yX6_offence : MethodName := ⟨RX6, "offence", "(II)I"⟩
def dkwX6_offence_2 : List UInt8 := [28, 96, 46, 42, 180, 0, 33, 17, 0, 168, 28, 96, 46, 182, 1, 10, 167, 0, 4, 3, 172]
abbrev dktX6_offence_2 : List UInt8 := dkwX6_offence_2 ++ []
def dkwX6_offence_1 : List UInt8 := [180, 0, 33, 16, 120, 27, 96, 46, 42, 180, 0, 33, 17, 0, 168, 27, 96, 46, 42, 180, 0, 33, 16, 120]
abbrev dktX6_offence_1 : List UInt8 := dkwX6_offence_1 ++ dktX6_offence_2
def dkwX6_offence_0 : List UInt8 := [42, 180, 0, 33, 16, 72, 27, 96, 46, 42, 180, 0, 33, 16, 72, 28, 96, 46, 160, 0, 48, 42, 42]
abbrev dktX6_offence_0 : List UInt8 := dkwX6_offence_0 ++ dktX6_offence_1
theorem dksX6_offence_0 : cX6_offence.data.toList.drop 0 = dktX6_offence_0 := by decide +kernel
theorem dksX6_offence_1 : cX6_offence.data.toList.drop 23 = dktX6_offence_1 := dk_seg dksX6_offence_0 23 rfl rfl
theorem dksX6_offence_2 : cX6_offence.data.toList.drop 47 = dktX6_offence_2 := dk_seg dksX6_offence_1 24 rfl rfl
theorem dX6_offence_0 : decode cX6_offence 0 = .ok (.aload_n 0, 1) := dk_42 (dk_at dksX6_offence_0 0 rfl rfl)
theorem dX6_offence_1 : decode cX6_offence 1 = .ok (.getfield 33, 3) := dk_180 0 33 (dk_at dksX6_offence_0 1 rfl rfl)
theorem dX6_offence_4 : decode cX6_offence 4 = .ok (.bipush 72, 2) := dk_16 72 (dk_at dksX6_offence_0 4 rfl rfl)
theorem dX6_offence_6 : decode cX6_offence 6 = .ok (.iload_n 1, 1) := dk_27 (dk_at dksX6_offence_0 6 rfl rfl)
theorem dX6_offence_7 : decode cX6_offence 7 = .ok (.iadd, 1) := dk_96 (dk_at dksX6_offence_0 7 rfl rfl)
theorem dX6_offence_8 : decode cX6_offence 8 = .ok (.iaload, 1) := dk_46 (dk_at dksX6_offence_0 8 rfl rfl)
theorem dX6_offence_9 : decode cX6_offence 9 = .ok (.aload_n 0, 1) := dk_42 (dk_at dksX6_offence_0 9 rfl rfl)
theorem dX6_offence_10 : decode cX6_offence 10 = .ok (.getfield 33, 3) := dk_180 0 33 (dk_at dksX6_offence_0 10 rfl rfl)
theorem dX6_offence_13 : decode cX6_offence 13 = .ok (.bipush 72, 2) := dk_16 72 (dk_at dksX6_offence_0 13 rfl rfl)
theorem dX6_offence_15 : decode cX6_offence 15 = .ok (.iload_n 2, 1) := dk_28 (dk_at dksX6_offence_0 15 rfl rfl)
theorem dX6_offence_16 : decode cX6_offence 16 = .ok (.iadd, 1) := dk_96 (dk_at dksX6_offence_0 16 rfl rfl)
theorem dX6_offence_17 : decode cX6_offence 17 = .ok (.iaload, 1) := dk_46 (dk_at dksX6_offence_0 17 rfl rfl)
theorem dX6_offence_18 : decode cX6_offence 18 = .ok (.if_icmp .ne 48, 3) := dk_160 0 48 (dk_at dksX6_offence_0 18 rfl rfl)
theorem dX6_offence_21 : decode cX6_offence 21 = .ok (.aload_n 0, 1) := dk_42 (dk_at dksX6_offence_0 21 rfl rfl)
theorem dX6_offence_22 : decode cX6_offence 22 = .ok (.aload_n 0, 1) := dk_42 (dk_at dksX6_offence_0 22 rfl rfl)
theorem dX6_offence_23 : decode cX6_offence 23 = .ok (.getfield 33, 3) := dk_180 0 33 (dk_at dksX6_offence_1 0 rfl rfl)
theorem dX6_offence_26 : decode cX6_offence 26 = .ok (.bipush 120, 2) := dk_16 120 (dk_at dksX6_offence_1 3 rfl rfl)
theorem dX6_offence_28 : decode cX6_offence 28 = .ok (.iload_n 1, 1) := dk_27 (dk_at dksX6_offence_1 5 rfl rfl)
theorem dX6_offence_29 : decode cX6_offence 29 = .ok (.iadd, 1) := dk_96 (dk_at dksX6_offence_1 6 rfl rfl)
theorem dX6_offence_30 : decode cX6_offence 30 = .ok (.iaload, 1) := dk_46 (dk_at dksX6_offence_1 7 rfl rfl)
theorem dX6_offence_31 : decode cX6_offence 31 = .ok (.aload_n 0, 1) := dk_42 (dk_at dksX6_offence_1 8 rfl rfl)
theorem dX6_offence_32 : decode cX6_offence 32 = .ok (.getfield 33, 3) := dk_180 0 33 (dk_at dksX6_offence_1 9 rfl rfl)
theorem dX6_offence_35 : decode cX6_offence 35 = .ok (.sipush 168, 3) := dk_17 0 168 (dk_at dksX6_offence_1 12 rfl rfl)
theorem dX6_offence_38 : decode cX6_offence 38 = .ok (.iload_n 1, 1) := dk_27 (dk_at dksX6_offence_1 15 rfl rfl)
theorem dX6_offence_39 : decode cX6_offence 39 = .ok (.iadd, 1) := dk_96 (dk_at dksX6_offence_1 16 rfl rfl)
theorem dX6_offence_40 : decode cX6_offence 40 = .ok (.iaload, 1) := dk_46 (dk_at dksX6_offence_1 17 rfl rfl)
theorem dX6_offence_41 : decode cX6_offence 41 = .ok (.aload_n 0, 1) := dk_42 (dk_at dksX6_offence_1 18 rfl rfl)
theorem dX6_offence_42 : decode cX6_offence 42 = .ok (.getfield 33, 3) := dk_180 0 33 (dk_at dksX6_offence_1 19 rfl rfl)
theorem dX6_offence_45 : decode cX6_offence 45 = .ok (.bipush 120, 2) := dk_16 120 (dk_at dksX6_offence_1 22 rfl rfl)
theorem dX6_offence_47 : decode cX6_offence 47 = .ok (.iload_n 2, 1) := dk_28 (dk_at dksX6_offence_2 0 rfl rfl)
theorem dX6_offence_48 : decode cX6_offence 48 = .ok (.iadd, 1) := dk_96 (dk_at dksX6_offence_2 1 rfl rfl)
theorem dX6_offence_49 : decode cX6_offence 49 = .ok (.iaload, 1) := dk_46 (dk_at dksX6_offence_2 2 rfl rfl)
theorem dX6_offence_50 : decode cX6_offence 50 = .ok (.aload_n 0, 1) := dk_42 (dk_at dksX6_offence_2 3 rfl rfl)
theorem dX6_offence_51 : decode cX6_offence 51 = .ok (.getfield 33, 3) := dk_180 0 33 (dk_at dksX6_offence_2 4 rfl rfl)
theorem dX6_offence_54 : decode cX6_offence 54 = .ok (.sipush 168, 3) := dk_17 0 168 (dk_at dksX6_offence_2 7 rfl rfl)
theorem dX6_offence_57 : decode cX6_offence 57 = .ok (.iload_n 2, 1) := dk_28 (dk_at dksX6_offence_2 10 rfl rfl)
theorem dX6_offence_58 : decode cX6_offence 58 = .ok (.iadd, 1) := dk_96 (dk_at dksX6_offence_2 11 rfl rfl)
theorem dX6_offence_59 : decode cX6_offence 59 = .ok (.iaload, 1) := dk_46 (dk_at dksX6_offence_2 12 rfl rfl)
theorem dX6_offence_60 : decode cX6_offence 60 = .ok (.invokevirtual 266, 3) := dk_182 1 10 (dk_at dksX6_offence_2 13 rfl rfl)
theorem dX6_offence_63 : decode cX6_offence 63 = .ok (.goto 4, 3) := dk_167 0 4 (dk_at dksX6_offence_2 16 rfl rfl)
theorem dX6_offence_66 : decode cX6_offence 66 = .ok (.iconst 0, 1) := dk_3 (dk_at dksX6_offence_2 19 rfl rfl)
theorem dX6_offence_67 : decode cX6_offence 67 = .ok (.ireturn, 1) := dk_172 (dk_at dksX6_offence_2 20 rfl rfl)
abbrev cX6_offenceBy : ByteArray := prog_25_method_40_code
def yX6_offenceBy : MethodName := ⟨RX6, "offenceBy", "(IIII)I"⟩
def dkwX6_offenceBy_3 : List UInt8 := [164, 0, 7, 4, 167, 0, 4, 3, 54, 5, 21, 5, 153, 0, 7, 5, 167, 0, 4, 3, 172]
abbrev dktX6_offenceBy_3 : List UInt8 := dkwX6_offenceBy_3 ++ []
def dkwX6_offenceBy_2 : List UInt8 := [182, 0, 249, 42, 27, 182, 0, 249, 162, 0, 21, 42, 21, 4, 182, 0, 249, 42, 28, 182, 0, 249]
abbrev dktX6_offenceBy_2 : List UInt8 := dkwX6_offenceBy_2 ++ dktX6_offenceBy_3
def dkwX6_offenceBy_1 : List UInt8 := [182, 0, 249, 162, 0, 17, 42, 28, 182, 0, 249, 42, 21, 4, 182, 0, 249, 163, 0, 30, 42, 29]
abbrev dktX6_offenceBy_1 : List UInt8 := dkwX6_offenceBy_1 ++ dktX6_offenceBy_2
def dkwX6_offenceBy_0 : List UInt8 := [42, 28, 182, 0, 249, 42, 21, 4, 182, 0, 249, 160, 0, 5, 4, 172, 42, 27, 182, 0, 249, 42, 29]
abbrev dktX6_offenceBy_0 : List UInt8 := dkwX6_offenceBy_0 ++ dktX6_offenceBy_1
theorem dksX6_offenceBy_0 : cX6_offenceBy.data.toList.drop 0 = dktX6_offenceBy_0 := by decide +kernel
theorem dksX6_offenceBy_1 : cX6_offenceBy.data.toList.drop 23 = dktX6_offenceBy_1 := dk_seg dksX6_offenceBy_0 23 rfl rfl
theorem dksX6_offenceBy_2 : cX6_offenceBy.data.toList.drop 45 = dktX6_offenceBy_2 := dk_seg dksX6_offenceBy_1 22 rfl rfl
theorem dksX6_offenceBy_3 : cX6_offenceBy.data.toList.drop 67 = dktX6_offenceBy_3 := dk_seg dksX6_offenceBy_2 22 rfl rfl
theorem dX6_offenceBy_0 : decode cX6_offenceBy 0 = .ok (.aload_n 0, 1) := dk_42 (dk_at dksX6_offenceBy_0 0 rfl rfl)
theorem dX6_offenceBy_1 : decode cX6_offenceBy 1 = .ok (.iload_n 2, 1) := dk_28 (dk_at dksX6_offenceBy_0 1 rfl rfl)
theorem dX6_offenceBy_2 : decode cX6_offenceBy 2 = .ok (.invokevirtual 249, 3) := dk_182 0 249 (dk_at dksX6_offenceBy_0 2 rfl rfl)
theorem dX6_offenceBy_5 : decode cX6_offenceBy 5 = .ok (.aload_n 0, 1) := dk_42 (dk_at dksX6_offenceBy_0 5 rfl rfl)
theorem dX6_offenceBy_6 : decode cX6_offenceBy 6 = .ok (.iload 4, 2) := dk_21 4 (dk_at dksX6_offenceBy_0 6 rfl rfl)
theorem dX6_offenceBy_8 : decode cX6_offenceBy 8 = .ok (.invokevirtual 249, 3) := dk_182 0 249 (dk_at dksX6_offenceBy_0 8 rfl rfl)
theorem dX6_offenceBy_11 : decode cX6_offenceBy 11 = .ok (.if_icmp .ne 5, 3) := dk_160 0 5 (dk_at dksX6_offenceBy_0 11 rfl rfl)
theorem dX6_offenceBy_14 : decode cX6_offenceBy 14 = .ok (.iconst 1, 1) := dk_4 (dk_at dksX6_offenceBy_0 14 rfl rfl)
theorem dX6_offenceBy_15 : decode cX6_offenceBy 15 = .ok (.ireturn, 1) := dk_172 (dk_at dksX6_offenceBy_0 15 rfl rfl)
theorem dX6_offenceBy_16 : decode cX6_offenceBy 16 = .ok (.aload_n 0, 1) := dk_42 (dk_at dksX6_offenceBy_0 16 rfl rfl)
theorem dX6_offenceBy_17 : decode cX6_offenceBy 17 = .ok (.iload_n 1, 1) := dk_27 (dk_at dksX6_offenceBy_0 17 rfl rfl)
theorem dX6_offenceBy_18 : decode cX6_offenceBy 18 = .ok (.invokevirtual 249, 3) := dk_182 0 249 (dk_at dksX6_offenceBy_0 18 rfl rfl)
theorem dX6_offenceBy_21 : decode cX6_offenceBy 21 = .ok (.aload_n 0, 1) := dk_42 (dk_at dksX6_offenceBy_0 21 rfl rfl)
theorem dX6_offenceBy_22 : decode cX6_offenceBy 22 = .ok (.iload_n 3, 1) := dk_29 (dk_at dksX6_offenceBy_0 22 rfl rfl)
theorem dX6_offenceBy_23 : decode cX6_offenceBy 23 = .ok (.invokevirtual 249, 3) := dk_182 0 249 (dk_at dksX6_offenceBy_1 0 rfl rfl)
theorem dX6_offenceBy_26 : decode cX6_offenceBy 26 = .ok (.if_icmp .ge 17, 3) := dk_162 0 17 (dk_at dksX6_offenceBy_1 3 rfl rfl)
theorem dX6_offenceBy_29 : decode cX6_offenceBy 29 = .ok (.aload_n 0, 1) := dk_42 (dk_at dksX6_offenceBy_1 6 rfl rfl)
theorem dX6_offenceBy_30 : decode cX6_offenceBy 30 = .ok (.iload_n 2, 1) := dk_28 (dk_at dksX6_offenceBy_1 7 rfl rfl)
theorem dX6_offenceBy_31 : decode cX6_offenceBy 31 = .ok (.invokevirtual 249, 3) := dk_182 0 249 (dk_at dksX6_offenceBy_1 8 rfl rfl)
theorem dX6_offenceBy_34 : decode cX6_offenceBy 34 = .ok (.aload_n 0, 1) := dk_42 (dk_at dksX6_offenceBy_1 11 rfl rfl)
theorem dX6_offenceBy_35 : decode cX6_offenceBy 35 = .ok (.iload 4, 2) := dk_21 4 (dk_at dksX6_offenceBy_1 12 rfl rfl)
theorem dX6_offenceBy_37 : decode cX6_offenceBy 37 = .ok (.invokevirtual 249, 3) := dk_182 0 249 (dk_at dksX6_offenceBy_1 14 rfl rfl)
theorem dX6_offenceBy_40 : decode cX6_offenceBy 40 = .ok (.if_icmp .gt 30, 3) := dk_163 0 30 (dk_at dksX6_offenceBy_1 17 rfl rfl)
theorem dX6_offenceBy_43 : decode cX6_offenceBy 43 = .ok (.aload_n 0, 1) := dk_42 (dk_at dksX6_offenceBy_1 20 rfl rfl)
theorem dX6_offenceBy_44 : decode cX6_offenceBy 44 = .ok (.iload_n 3, 1) := dk_29 (dk_at dksX6_offenceBy_1 21 rfl rfl)
theorem dX6_offenceBy_45 : decode cX6_offenceBy 45 = .ok (.invokevirtual 249, 3) := dk_182 0 249 (dk_at dksX6_offenceBy_2 0 rfl rfl)
theorem dX6_offenceBy_48 : decode cX6_offenceBy 48 = .ok (.aload_n 0, 1) := dk_42 (dk_at dksX6_offenceBy_2 3 rfl rfl)
theorem dX6_offenceBy_49 : decode cX6_offenceBy 49 = .ok (.iload_n 1, 1) := dk_27 (dk_at dksX6_offenceBy_2 4 rfl rfl)
theorem dX6_offenceBy_50 : decode cX6_offenceBy 50 = .ok (.invokevirtual 249, 3) := dk_182 0 249 (dk_at dksX6_offenceBy_2 5 rfl rfl)
theorem dX6_offenceBy_53 : decode cX6_offenceBy 53 = .ok (.if_icmp .ge 21, 3) := dk_162 0 21 (dk_at dksX6_offenceBy_2 8 rfl rfl)
theorem dX6_offenceBy_56 : decode cX6_offenceBy 56 = .ok (.aload_n 0, 1) := dk_42 (dk_at dksX6_offenceBy_2 11 rfl rfl)
theorem dX6_offenceBy_57 : decode cX6_offenceBy 57 = .ok (.iload 4, 2) := dk_21 4 (dk_at dksX6_offenceBy_2 12 rfl rfl)
theorem dX6_offenceBy_59 : decode cX6_offenceBy 59 = .ok (.invokevirtual 249, 3) := dk_182 0 249 (dk_at dksX6_offenceBy_2 14 rfl rfl)
theorem dX6_offenceBy_62 : decode cX6_offenceBy 62 = .ok (.aload_n 0, 1) := dk_42 (dk_at dksX6_offenceBy_2 17 rfl rfl)
theorem dX6_offenceBy_63 : decode cX6_offenceBy 63 = .ok (.iload_n 2, 1) := dk_28 (dk_at dksX6_offenceBy_2 18 rfl rfl)
theorem dX6_offenceBy_64 : decode cX6_offenceBy 64 = .ok (.invokevirtual 249, 3) := dk_182 0 249 (dk_at dksX6_offenceBy_2 19 rfl rfl)
theorem dX6_offenceBy_67 : decode cX6_offenceBy 67 = .ok (.if_icmp .le 7, 3) := dk_164 0 7 (dk_at dksX6_offenceBy_3 0 rfl rfl)
theorem dX6_offenceBy_70 : decode cX6_offenceBy 70 = .ok (.iconst 1, 1) := dk_4 (dk_at dksX6_offenceBy_3 3 rfl rfl)
theorem dX6_offenceBy_71 : decode cX6_offenceBy 71 = .ok (.goto 4, 3) := dk_167 0 4 (dk_at dksX6_offenceBy_3 4 rfl rfl)
theorem dX6_offenceBy_74 : decode cX6_offenceBy 74 = .ok (.iconst 0, 1) := dk_3 (dk_at dksX6_offenceBy_3 7 rfl rfl)
theorem dX6_offenceBy_75 : decode cX6_offenceBy 75 = .ok (.istore 5, 2) := dk_54 5 (dk_at dksX6_offenceBy_3 8 rfl rfl)
theorem dX6_offenceBy_77 : decode cX6_offenceBy 77 = .ok (.iload 5, 2) := dk_21 5 (dk_at dksX6_offenceBy_3 10 rfl rfl)
theorem dX6_offenceBy_79 : decode cX6_offenceBy 79 = .ok (.ifCond .eq 7, 3) := dk_153 0 7 (dk_at dksX6_offenceBy_3 12 rfl rfl)
theorem dX6_offenceBy_82 : decode cX6_offenceBy 82 = .ok (.iconst 2, 1) := dk_5 (dk_at dksX6_offenceBy_3 15 rfl rfl)
theorem dX6_offenceBy_83 : decode cX6_offenceBy 83 = .ok (.goto 4, 3) := dk_167 0 4 (dk_at dksX6_offenceBy_3 16 rfl rfl)
theorem dX6_offenceBy_86 : decode cX6_offenceBy 86 = .ok (.iconst 0, 1) := dk_3 (dk_at dksX6_offenceBy_3 19 rfl rfl)
theorem dX6_offenceBy_87 : decode cX6_offenceBy 87 = .ok (.ireturn, 1) := dk_172 (dk_at dksX6_offenceBy_3 20 rfl rfl)
abbrev cX6_level : ByteArray := prog_25_method_32_code
def yX6_level : MethodName := ⟨RX6, "level", "(I)I"⟩
def dkwX6_level_0 : List UInt8 := [42, 180, 0, 53, 27, 46, 42, 180, 0, 33, 3, 46, 108, 172]
abbrev dktX6_level_0 : List UInt8 := dkwX6_level_0 ++ []
theorem dksX6_level_0 : cX6_level.data.toList.drop 0 = dktX6_level_0 := by decide +kernel
theorem dX6_level_0 : decode cX6_level 0 = .ok (.aload_n 0, 1) := dk_42 (dk_at dksX6_level_0 0 rfl rfl)
theorem dX6_level_1 : decode cX6_level 1 = .ok (.getfield 53, 3) := dk_180 0 53 (dk_at dksX6_level_0 1 rfl rfl)
theorem dX6_level_4 : decode cX6_level 4 = .ok (.iload_n 1, 1) := dk_27 (dk_at dksX6_level_0 4 rfl rfl)
theorem dX6_level_5 : decode cX6_level 5 = .ok (.iaload, 1) := dk_46 (dk_at dksX6_level_0 5 rfl rfl)
theorem dX6_level_6 : decode cX6_level 6 = .ok (.aload_n 0, 1) := dk_42 (dk_at dksX6_level_0 6 rfl rfl)
theorem dX6_level_7 : decode cX6_level 7 = .ok (.getfield 33, 3) := dk_180 0 33 (dk_at dksX6_level_0 7 rfl rfl)
theorem dX6_level_10 : decode cX6_level 10 = .ok (.iconst 0, 1) := dk_3 (dk_at dksX6_level_0 10 rfl rfl)
theorem dX6_level_11 : decode cX6_level 11 = .ok (.iaload, 1) := dk_46 (dk_at dksX6_level_0 11 rfl rfl)
theorem dX6_level_12 : decode cX6_level 12 = .ok (.idiv, 1) := dk_108 (dk_at dksX6_level_0 12 rfl rfl)
theorem dX6_level_13 : decode cX6_level 13 = .ok (.ireturn, 1) := dk_172 (dk_at dksX6_level_0 13 rfl rfl)
abbrev cX6_laysJust : ByteArray := prog_25_method_43_code
def yX6_laysJust : MethodName := ⟨RX6, "laysJust", "()V"⟩
def dkwX6_laysJust_9 : List UInt8 := [182, 0, 249, 164, 0, 8, 42, 27, 181, 1, 38, 132, 1, 1, 167, 255, 211, 177]
abbrev dktX6_laysJust_9 : List UInt8 := dkwX6_laysJust_9 ++ []
def dkwX6_laysJust_8 : List UInt8 := [162, 0, 41, 42, 180, 1, 26, 27, 184, 0, 246, 153, 0, 24, 42, 27, 182, 0, 249, 42, 42, 180, 1, 38]
abbrev dktX6_laysJust_8 : List UInt8 := dkwX6_laysJust_8 ++ dktX6_laysJust_9
def dkwX6_laysJust_7 : List UInt8 := [167, 255, 118, 132, 1, 1, 167, 255, 104, 42, 3, 181, 1, 38, 3, 60, 27, 42, 180, 0, 33, 5, 46]
abbrev dktX6_laysJust_7 : List UInt8 := dkwX6_laysJust_7 ++ dktX6_laysJust_8
def dkwX6_laysJust_6 : List UInt8 := [160, 0, 15, 42, 89, 180, 1, 29, 4, 29, 120, 128, 181, 1, 29, 132, 3, 1, 167, 255, 149, 132, 2, 1]
abbrev dktX6_laysJust_6 : List UInt8 := dkwX6_laysJust_6 ++ dktX6_laysJust_7
def dkwX6_laysJust_5 : List UInt8 := [180, 1, 26, 4, 28, 120, 128, 181, 1, 26, 42, 28, 182, 0, 249, 42, 29, 182, 0, 249, 4, 96]
abbrev dktX6_laysJust_5 : List UInt8 := dkwX6_laysJust_5 ++ dktX6_laysJust_6
def dkwX6_laysJust_4 : List UInt8 := [180, 1, 32, 4, 96, 181, 1, 32, 42, 180, 1, 26, 29, 184, 0, 246, 154, 0, 6, 167, 0, 42, 42, 89]
abbrev dktX6_laysJust_4 : List UInt8 := dkwX6_laysJust_4 ++ dktX6_laysJust_5
def dkwX6_laysJust_3 : List UInt8 := [54, 4, 21, 4, 153, 0, 79, 42, 21, 4, 28, 182, 1, 35, 154, 0, 6, 167, 0, 66, 42, 89]
abbrev dktX6_laysJust_3 : List UInt8 := dkwX6_laysJust_3 ++ dktX6_laysJust_4
def dkwX6_laysJust_2 : List UInt8 := [3, 62, 29, 42, 180, 0, 33, 5, 46, 162, 0, 103, 42, 180, 0, 59, 16, 20, 29, 104, 28, 96, 46]
abbrev dktX6_laysJust_2 : List UInt8 := dkwX6_laysJust_2 ++ dktX6_laysJust_3
def dkwX6_laysJust_1 : List UInt8 := [61, 28, 42, 180, 0, 33, 5, 46, 162, 0, 134, 42, 180, 0, 53, 28, 46, 27, 159, 0, 6, 167, 0, 115]
abbrev dktX6_laysJust_1 : List UInt8 := dkwX6_laysJust_1 ++ dktX6_laysJust_2
def dkwX6_laysJust_0 : List UInt8 := [42, 4, 181, 1, 26, 42, 4, 181, 1, 29, 42, 3, 181, 1, 32, 4, 60, 27, 16, 20, 162, 0, 152, 3]
abbrev dktX6_laysJust_0 : List UInt8 := dkwX6_laysJust_0 ++ dktX6_laysJust_1
theorem dksX6_laysJust_0 : cX6_laysJust.data.toList.drop 0 = dktX6_laysJust_0 := by decide +kernel
theorem dksX6_laysJust_1 : cX6_laysJust.data.toList.drop 24 = dktX6_laysJust_1 := dk_seg dksX6_laysJust_0 24 rfl rfl
theorem dksX6_laysJust_2 : cX6_laysJust.data.toList.drop 48 = dktX6_laysJust_2 := dk_seg dksX6_laysJust_1 24 rfl rfl
theorem dksX6_laysJust_3 : cX6_laysJust.data.toList.drop 71 = dktX6_laysJust_3 := dk_seg dksX6_laysJust_2 23 rfl rfl
theorem dksX6_laysJust_4 : cX6_laysJust.data.toList.drop 93 = dktX6_laysJust_4 := dk_seg dksX6_laysJust_3 22 rfl rfl
theorem dksX6_laysJust_5 : cX6_laysJust.data.toList.drop 117 = dktX6_laysJust_5 := dk_seg dksX6_laysJust_4 24 rfl rfl
theorem dksX6_laysJust_6 : cX6_laysJust.data.toList.drop 139 = dktX6_laysJust_6 := dk_seg dksX6_laysJust_5 22 rfl rfl
theorem dksX6_laysJust_7 : cX6_laysJust.data.toList.drop 163 = dktX6_laysJust_7 := dk_seg dksX6_laysJust_6 24 rfl rfl
theorem dksX6_laysJust_8 : cX6_laysJust.data.toList.drop 186 = dktX6_laysJust_8 := dk_seg dksX6_laysJust_7 23 rfl rfl
theorem dksX6_laysJust_9 : cX6_laysJust.data.toList.drop 210 = dktX6_laysJust_9 := dk_seg dksX6_laysJust_8 24 rfl rfl
theorem dX6_laysJust_0 : decode cX6_laysJust 0 = .ok (.aload_n 0, 1) := dk_42 (dk_at dksX6_laysJust_0 0 rfl rfl)
theorem dX6_laysJust_1 : decode cX6_laysJust 1 = .ok (.iconst 1, 1) := dk_4 (dk_at dksX6_laysJust_0 1 rfl rfl)
theorem dX6_laysJust_2 : decode cX6_laysJust 2 = .ok (.putfield 282, 3) := dk_181 1 26 (dk_at dksX6_laysJust_0 2 rfl rfl)
theorem dX6_laysJust_5 : decode cX6_laysJust 5 = .ok (.aload_n 0, 1) := dk_42 (dk_at dksX6_laysJust_0 5 rfl rfl)
theorem dX6_laysJust_6 : decode cX6_laysJust 6 = .ok (.iconst 1, 1) := dk_4 (dk_at dksX6_laysJust_0 6 rfl rfl)
theorem dX6_laysJust_7 : decode cX6_laysJust 7 = .ok (.putfield 285, 3) := dk_181 1 29 (dk_at dksX6_laysJust_0 7 rfl rfl)
theorem dX6_laysJust_10 : decode cX6_laysJust 10 = .ok (.aload_n 0, 1) := dk_42 (dk_at dksX6_laysJust_0 10 rfl rfl)
theorem dX6_laysJust_11 : decode cX6_laysJust 11 = .ok (.iconst 0, 1) := dk_3 (dk_at dksX6_laysJust_0 11 rfl rfl)
theorem dX6_laysJust_12 : decode cX6_laysJust 12 = .ok (.putfield 288, 3) := dk_181 1 32 (dk_at dksX6_laysJust_0 12 rfl rfl)
theorem dX6_laysJust_15 : decode cX6_laysJust 15 = .ok (.iconst 1, 1) := dk_4 (dk_at dksX6_laysJust_0 15 rfl rfl)
theorem dX6_laysJust_16 : decode cX6_laysJust 16 = .ok (.istore_n 1, 1) := dk_60 (dk_at dksX6_laysJust_0 16 rfl rfl)
theorem dX6_laysJust_17 : decode cX6_laysJust 17 = .ok (.iload_n 1, 1) := dk_27 (dk_at dksX6_laysJust_0 17 rfl rfl)
theorem dX6_laysJust_18 : decode cX6_laysJust 18 = .ok (.bipush 20, 2) := dk_16 20 (dk_at dksX6_laysJust_0 18 rfl rfl)
theorem dX6_laysJust_20 : decode cX6_laysJust 20 = .ok (.if_icmp .ge 152, 3) := dk_162 0 152 (dk_at dksX6_laysJust_0 20 rfl rfl)
theorem dX6_laysJust_23 : decode cX6_laysJust 23 = .ok (.iconst 0, 1) := dk_3 (dk_at dksX6_laysJust_0 23 rfl rfl)
theorem dX6_laysJust_24 : decode cX6_laysJust 24 = .ok (.istore_n 2, 1) := dk_61 (dk_at dksX6_laysJust_1 0 rfl rfl)
theorem dX6_laysJust_25 : decode cX6_laysJust 25 = .ok (.iload_n 2, 1) := dk_28 (dk_at dksX6_laysJust_1 1 rfl rfl)
theorem dX6_laysJust_26 : decode cX6_laysJust 26 = .ok (.aload_n 0, 1) := dk_42 (dk_at dksX6_laysJust_1 2 rfl rfl)
theorem dX6_laysJust_27 : decode cX6_laysJust 27 = .ok (.getfield 33, 3) := dk_180 0 33 (dk_at dksX6_laysJust_1 3 rfl rfl)
theorem dX6_laysJust_30 : decode cX6_laysJust 30 = .ok (.iconst 2, 1) := dk_5 (dk_at dksX6_laysJust_1 6 rfl rfl)
theorem dX6_laysJust_31 : decode cX6_laysJust 31 = .ok (.iaload, 1) := dk_46 (dk_at dksX6_laysJust_1 7 rfl rfl)
theorem dX6_laysJust_32 : decode cX6_laysJust 32 = .ok (.if_icmp .ge 134, 3) := dk_162 0 134 (dk_at dksX6_laysJust_1 8 rfl rfl)
theorem dX6_laysJust_35 : decode cX6_laysJust 35 = .ok (.aload_n 0, 1) := dk_42 (dk_at dksX6_laysJust_1 11 rfl rfl)
theorem dX6_laysJust_36 : decode cX6_laysJust 36 = .ok (.getfield 53, 3) := dk_180 0 53 (dk_at dksX6_laysJust_1 12 rfl rfl)
theorem dX6_laysJust_39 : decode cX6_laysJust 39 = .ok (.iload_n 2, 1) := dk_28 (dk_at dksX6_laysJust_1 15 rfl rfl)
theorem dX6_laysJust_40 : decode cX6_laysJust 40 = .ok (.iaload, 1) := dk_46 (dk_at dksX6_laysJust_1 16 rfl rfl)
theorem dX6_laysJust_41 : decode cX6_laysJust 41 = .ok (.iload_n 1, 1) := dk_27 (dk_at dksX6_laysJust_1 17 rfl rfl)
theorem dX6_laysJust_42 : decode cX6_laysJust 42 = .ok (.if_icmp .eq 6, 3) := dk_159 0 6 (dk_at dksX6_laysJust_1 18 rfl rfl)
theorem dX6_laysJust_45 : decode cX6_laysJust 45 = .ok (.goto 115, 3) := dk_167 0 115 (dk_at dksX6_laysJust_1 21 rfl rfl)
theorem dX6_laysJust_48 : decode cX6_laysJust 48 = .ok (.iconst 0, 1) := dk_3 (dk_at dksX6_laysJust_2 0 rfl rfl)
theorem dX6_laysJust_49 : decode cX6_laysJust 49 = .ok (.istore_n 3, 1) := dk_62 (dk_at dksX6_laysJust_2 1 rfl rfl)
theorem dX6_laysJust_50 : decode cX6_laysJust 50 = .ok (.iload_n 3, 1) := dk_29 (dk_at dksX6_laysJust_2 2 rfl rfl)
theorem dX6_laysJust_51 : decode cX6_laysJust 51 = .ok (.aload_n 0, 1) := dk_42 (dk_at dksX6_laysJust_2 3 rfl rfl)
theorem dX6_laysJust_52 : decode cX6_laysJust 52 = .ok (.getfield 33, 3) := dk_180 0 33 (dk_at dksX6_laysJust_2 4 rfl rfl)
theorem dX6_laysJust_55 : decode cX6_laysJust 55 = .ok (.iconst 2, 1) := dk_5 (dk_at dksX6_laysJust_2 7 rfl rfl)
theorem dX6_laysJust_56 : decode cX6_laysJust 56 = .ok (.iaload, 1) := dk_46 (dk_at dksX6_laysJust_2 8 rfl rfl)
theorem dX6_laysJust_57 : decode cX6_laysJust 57 = .ok (.if_icmp .ge 103, 3) := dk_162 0 103 (dk_at dksX6_laysJust_2 9 rfl rfl)
theorem dX6_laysJust_60 : decode cX6_laysJust 60 = .ok (.aload_n 0, 1) := dk_42 (dk_at dksX6_laysJust_2 12 rfl rfl)
theorem dX6_laysJust_61 : decode cX6_laysJust 61 = .ok (.getfield 59, 3) := dk_180 0 59 (dk_at dksX6_laysJust_2 13 rfl rfl)
theorem dX6_laysJust_64 : decode cX6_laysJust 64 = .ok (.bipush 20, 2) := dk_16 20 (dk_at dksX6_laysJust_2 16 rfl rfl)
theorem dX6_laysJust_66 : decode cX6_laysJust 66 = .ok (.iload_n 3, 1) := dk_29 (dk_at dksX6_laysJust_2 18 rfl rfl)
theorem dX6_laysJust_67 : decode cX6_laysJust 67 = .ok (.imul, 1) := dk_104 (dk_at dksX6_laysJust_2 19 rfl rfl)
theorem dX6_laysJust_68 : decode cX6_laysJust 68 = .ok (.iload_n 2, 1) := dk_28 (dk_at dksX6_laysJust_2 20 rfl rfl)
theorem dX6_laysJust_69 : decode cX6_laysJust 69 = .ok (.iadd, 1) := dk_96 (dk_at dksX6_laysJust_2 21 rfl rfl)
theorem dX6_laysJust_70 : decode cX6_laysJust 70 = .ok (.iaload, 1) := dk_46 (dk_at dksX6_laysJust_2 22 rfl rfl)
theorem dX6_laysJust_71 : decode cX6_laysJust 71 = .ok (.istore 4, 2) := dk_54 4 (dk_at dksX6_laysJust_3 0 rfl rfl)
theorem dX6_laysJust_73 : decode cX6_laysJust 73 = .ok (.iload 4, 2) := dk_21 4 (dk_at dksX6_laysJust_3 2 rfl rfl)
theorem dX6_laysJust_75 : decode cX6_laysJust 75 = .ok (.ifCond .eq 79, 3) := dk_153 0 79 (dk_at dksX6_laysJust_3 4 rfl rfl)
theorem dX6_laysJust_78 : decode cX6_laysJust 78 = .ok (.aload_n 0, 1) := dk_42 (dk_at dksX6_laysJust_3 7 rfl rfl)
theorem dX6_laysJust_79 : decode cX6_laysJust 79 = .ok (.iload 4, 2) := dk_21 4 (dk_at dksX6_laysJust_3 8 rfl rfl)
theorem dX6_laysJust_81 : decode cX6_laysJust 81 = .ok (.iload_n 2, 1) := dk_28 (dk_at dksX6_laysJust_3 10 rfl rfl)
theorem dX6_laysJust_82 : decode cX6_laysJust 82 = .ok (.invokevirtual 291, 3) := dk_182 1 35 (dk_at dksX6_laysJust_3 11 rfl rfl)
theorem dX6_laysJust_85 : decode cX6_laysJust 85 = .ok (.ifCond .ne 6, 3) := dk_154 0 6 (dk_at dksX6_laysJust_3 14 rfl rfl)
theorem dX6_laysJust_88 : decode cX6_laysJust 88 = .ok (.goto 66, 3) := dk_167 0 66 (dk_at dksX6_laysJust_3 17 rfl rfl)
theorem dX6_laysJust_91 : decode cX6_laysJust 91 = .ok (.aload_n 0, 1) := dk_42 (dk_at dksX6_laysJust_3 20 rfl rfl)
theorem dX6_laysJust_92 : decode cX6_laysJust 92 = .ok (.dup, 1) := dk_89 (dk_at dksX6_laysJust_3 21 rfl rfl)
theorem dX6_laysJust_93 : decode cX6_laysJust 93 = .ok (.getfield 288, 3) := dk_180 1 32 (dk_at dksX6_laysJust_4 0 rfl rfl)
theorem dX6_laysJust_96 : decode cX6_laysJust 96 = .ok (.iconst 1, 1) := dk_4 (dk_at dksX6_laysJust_4 3 rfl rfl)
theorem dX6_laysJust_97 : decode cX6_laysJust 97 = .ok (.iadd, 1) := dk_96 (dk_at dksX6_laysJust_4 4 rfl rfl)
theorem dX6_laysJust_98 : decode cX6_laysJust 98 = .ok (.putfield 288, 3) := dk_181 1 32 (dk_at dksX6_laysJust_4 5 rfl rfl)
theorem dX6_laysJust_101 : decode cX6_laysJust 101 = .ok (.aload_n 0, 1) := dk_42 (dk_at dksX6_laysJust_4 8 rfl rfl)
theorem dX6_laysJust_102 : decode cX6_laysJust 102 = .ok (.getfield 282, 3) := dk_180 1 26 (dk_at dksX6_laysJust_4 9 rfl rfl)
theorem dX6_laysJust_105 : decode cX6_laysJust 105 = .ok (.iload_n 3, 1) := dk_29 (dk_at dksX6_laysJust_4 12 rfl rfl)
theorem dX6_laysJust_106 : decode cX6_laysJust 106 = .ok (.invokestatic 246, 3) := dk_184 0 246 (dk_at dksX6_laysJust_4 13 rfl rfl)
theorem dX6_laysJust_109 : decode cX6_laysJust 109 = .ok (.ifCond .ne 6, 3) := dk_154 0 6 (dk_at dksX6_laysJust_4 16 rfl rfl)
theorem dX6_laysJust_112 : decode cX6_laysJust 112 = .ok (.goto 42, 3) := dk_167 0 42 (dk_at dksX6_laysJust_4 19 rfl rfl)
theorem dX6_laysJust_115 : decode cX6_laysJust 115 = .ok (.aload_n 0, 1) := dk_42 (dk_at dksX6_laysJust_4 22 rfl rfl)
theorem dX6_laysJust_116 : decode cX6_laysJust 116 = .ok (.dup, 1) := dk_89 (dk_at dksX6_laysJust_4 23 rfl rfl)
theorem dX6_laysJust_117 : decode cX6_laysJust 117 = .ok (.getfield 282, 3) := dk_180 1 26 (dk_at dksX6_laysJust_5 0 rfl rfl)
theorem dX6_laysJust_120 : decode cX6_laysJust 120 = .ok (.iconst 1, 1) := dk_4 (dk_at dksX6_laysJust_5 3 rfl rfl)
theorem dX6_laysJust_121 : decode cX6_laysJust 121 = .ok (.iload_n 2, 1) := dk_28 (dk_at dksX6_laysJust_5 4 rfl rfl)
theorem dX6_laysJust_122 : decode cX6_laysJust 122 = .ok (.ishl, 1) := dk_120 (dk_at dksX6_laysJust_5 5 rfl rfl)
theorem dX6_laysJust_123 : decode cX6_laysJust 123 = .ok (.ior, 1) := dk_128 (dk_at dksX6_laysJust_5 6 rfl rfl)
theorem dX6_laysJust_124 : decode cX6_laysJust 124 = .ok (.putfield 282, 3) := dk_181 1 26 (dk_at dksX6_laysJust_5 7 rfl rfl)
theorem dX6_laysJust_127 : decode cX6_laysJust 127 = .ok (.aload_n 0, 1) := dk_42 (dk_at dksX6_laysJust_5 10 rfl rfl)
theorem dX6_laysJust_128 : decode cX6_laysJust 128 = .ok (.iload_n 2, 1) := dk_28 (dk_at dksX6_laysJust_5 11 rfl rfl)
theorem dX6_laysJust_129 : decode cX6_laysJust 129 = .ok (.invokevirtual 249, 3) := dk_182 0 249 (dk_at dksX6_laysJust_5 12 rfl rfl)
theorem dX6_laysJust_132 : decode cX6_laysJust 132 = .ok (.aload_n 0, 1) := dk_42 (dk_at dksX6_laysJust_5 15 rfl rfl)
theorem dX6_laysJust_133 : decode cX6_laysJust 133 = .ok (.iload_n 3, 1) := dk_29 (dk_at dksX6_laysJust_5 16 rfl rfl)
theorem dX6_laysJust_134 : decode cX6_laysJust 134 = .ok (.invokevirtual 249, 3) := dk_182 0 249 (dk_at dksX6_laysJust_5 17 rfl rfl)
theorem dX6_laysJust_137 : decode cX6_laysJust 137 = .ok (.iconst 1, 1) := dk_4 (dk_at dksX6_laysJust_5 20 rfl rfl)
theorem dX6_laysJust_138 : decode cX6_laysJust 138 = .ok (.iadd, 1) := dk_96 (dk_at dksX6_laysJust_5 21 rfl rfl)
theorem dX6_laysJust_139 : decode cX6_laysJust 139 = .ok (.if_icmp .ne 15, 3) := dk_160 0 15 (dk_at dksX6_laysJust_6 0 rfl rfl)
theorem dX6_laysJust_142 : decode cX6_laysJust 142 = .ok (.aload_n 0, 1) := dk_42 (dk_at dksX6_laysJust_6 3 rfl rfl)
theorem dX6_laysJust_143 : decode cX6_laysJust 143 = .ok (.dup, 1) := dk_89 (dk_at dksX6_laysJust_6 4 rfl rfl)
theorem dX6_laysJust_144 : decode cX6_laysJust 144 = .ok (.getfield 285, 3) := dk_180 1 29 (dk_at dksX6_laysJust_6 5 rfl rfl)
theorem dX6_laysJust_147 : decode cX6_laysJust 147 = .ok (.iconst 1, 1) := dk_4 (dk_at dksX6_laysJust_6 8 rfl rfl)
theorem dX6_laysJust_148 : decode cX6_laysJust 148 = .ok (.iload_n 3, 1) := dk_29 (dk_at dksX6_laysJust_6 9 rfl rfl)
theorem dX6_laysJust_149 : decode cX6_laysJust 149 = .ok (.ishl, 1) := dk_120 (dk_at dksX6_laysJust_6 10 rfl rfl)
theorem dX6_laysJust_150 : decode cX6_laysJust 150 = .ok (.ior, 1) := dk_128 (dk_at dksX6_laysJust_6 11 rfl rfl)
theorem dX6_laysJust_151 : decode cX6_laysJust 151 = .ok (.putfield 285, 3) := dk_181 1 29 (dk_at dksX6_laysJust_6 12 rfl rfl)
theorem dX6_laysJust_154 : decode cX6_laysJust 154 = .ok (.iinc 3 1, 3) := dk_132 3 1 (dk_at dksX6_laysJust_6 15 rfl rfl)
theorem dX6_laysJust_157 : decode cX6_laysJust 157 = .ok (.goto (-107), 3) := dk_167 255 149 (dk_at dksX6_laysJust_6 18 rfl rfl)
theorem dX6_laysJust_160 : decode cX6_laysJust 160 = .ok (.iinc 2 1, 3) := dk_132 2 1 (dk_at dksX6_laysJust_6 21 rfl rfl)
theorem dX6_laysJust_163 : decode cX6_laysJust 163 = .ok (.goto (-138), 3) := dk_167 255 118 (dk_at dksX6_laysJust_7 0 rfl rfl)
theorem dX6_laysJust_166 : decode cX6_laysJust 166 = .ok (.iinc 1 1, 3) := dk_132 1 1 (dk_at dksX6_laysJust_7 3 rfl rfl)
theorem dX6_laysJust_169 : decode cX6_laysJust 169 = .ok (.goto (-152), 3) := dk_167 255 104 (dk_at dksX6_laysJust_7 6 rfl rfl)
theorem dX6_laysJust_172 : decode cX6_laysJust 172 = .ok (.aload_n 0, 1) := dk_42 (dk_at dksX6_laysJust_7 9 rfl rfl)
theorem dX6_laysJust_173 : decode cX6_laysJust 173 = .ok (.iconst 0, 1) := dk_3 (dk_at dksX6_laysJust_7 10 rfl rfl)
theorem dX6_laysJust_174 : decode cX6_laysJust 174 = .ok (.putfield 294, 3) := dk_181 1 38 (dk_at dksX6_laysJust_7 11 rfl rfl)
theorem dX6_laysJust_177 : decode cX6_laysJust 177 = .ok (.iconst 0, 1) := dk_3 (dk_at dksX6_laysJust_7 14 rfl rfl)
theorem dX6_laysJust_178 : decode cX6_laysJust 178 = .ok (.istore_n 1, 1) := dk_60 (dk_at dksX6_laysJust_7 15 rfl rfl)
theorem dX6_laysJust_179 : decode cX6_laysJust 179 = .ok (.iload_n 1, 1) := dk_27 (dk_at dksX6_laysJust_7 16 rfl rfl)
theorem dX6_laysJust_180 : decode cX6_laysJust 180 = .ok (.aload_n 0, 1) := dk_42 (dk_at dksX6_laysJust_7 17 rfl rfl)
theorem dX6_laysJust_181 : decode cX6_laysJust 181 = .ok (.getfield 33, 3) := dk_180 0 33 (dk_at dksX6_laysJust_7 18 rfl rfl)
theorem dX6_laysJust_184 : decode cX6_laysJust 184 = .ok (.iconst 2, 1) := dk_5 (dk_at dksX6_laysJust_7 21 rfl rfl)
theorem dX6_laysJust_185 : decode cX6_laysJust 185 = .ok (.iaload, 1) := dk_46 (dk_at dksX6_laysJust_7 22 rfl rfl)
theorem dX6_laysJust_186 : decode cX6_laysJust 186 = .ok (.if_icmp .ge 41, 3) := dk_162 0 41 (dk_at dksX6_laysJust_8 0 rfl rfl)
theorem dX6_laysJust_189 : decode cX6_laysJust 189 = .ok (.aload_n 0, 1) := dk_42 (dk_at dksX6_laysJust_8 3 rfl rfl)
theorem dX6_laysJust_190 : decode cX6_laysJust 190 = .ok (.getfield 282, 3) := dk_180 1 26 (dk_at dksX6_laysJust_8 4 rfl rfl)
theorem dX6_laysJust_193 : decode cX6_laysJust 193 = .ok (.iload_n 1, 1) := dk_27 (dk_at dksX6_laysJust_8 7 rfl rfl)
theorem dX6_laysJust_194 : decode cX6_laysJust 194 = .ok (.invokestatic 246, 3) := dk_184 0 246 (dk_at dksX6_laysJust_8 8 rfl rfl)
theorem dX6_laysJust_197 : decode cX6_laysJust 197 = .ok (.ifCond .eq 24, 3) := dk_153 0 24 (dk_at dksX6_laysJust_8 11 rfl rfl)
theorem dX6_laysJust_200 : decode cX6_laysJust 200 = .ok (.aload_n 0, 1) := dk_42 (dk_at dksX6_laysJust_8 14 rfl rfl)
theorem dX6_laysJust_201 : decode cX6_laysJust 201 = .ok (.iload_n 1, 1) := dk_27 (dk_at dksX6_laysJust_8 15 rfl rfl)
theorem dX6_laysJust_202 : decode cX6_laysJust 202 = .ok (.invokevirtual 249, 3) := dk_182 0 249 (dk_at dksX6_laysJust_8 16 rfl rfl)
theorem dX6_laysJust_205 : decode cX6_laysJust 205 = .ok (.aload_n 0, 1) := dk_42 (dk_at dksX6_laysJust_8 19 rfl rfl)
theorem dX6_laysJust_206 : decode cX6_laysJust 206 = .ok (.aload_n 0, 1) := dk_42 (dk_at dksX6_laysJust_8 20 rfl rfl)
theorem dX6_laysJust_207 : decode cX6_laysJust 207 = .ok (.getfield 294, 3) := dk_180 1 38 (dk_at dksX6_laysJust_8 21 rfl rfl)
theorem dX6_laysJust_210 : decode cX6_laysJust 210 = .ok (.invokevirtual 249, 3) := dk_182 0 249 (dk_at dksX6_laysJust_9 0 rfl rfl)
theorem dX6_laysJust_213 : decode cX6_laysJust 213 = .ok (.if_icmp .le 8, 3) := dk_164 0 8 (dk_at dksX6_laysJust_9 3 rfl rfl)
theorem dX6_laysJust_216 : decode cX6_laysJust 216 = .ok (.aload_n 0, 1) := dk_42 (dk_at dksX6_laysJust_9 6 rfl rfl)
theorem dX6_laysJust_217 : decode cX6_laysJust 217 = .ok (.iload_n 1, 1) := dk_27 (dk_at dksX6_laysJust_9 7 rfl rfl)
theorem dX6_laysJust_218 : decode cX6_laysJust 218 = .ok (.putfield 294, 3) := dk_181 1 38 (dk_at dksX6_laysJust_9 8 rfl rfl)
theorem dX6_laysJust_221 : decode cX6_laysJust 221 = .ok (.iinc 1 1, 3) := dk_132 1 1 (dk_at dksX6_laysJust_9 11 rfl rfl)
theorem dX6_laysJust_224 : decode cX6_laysJust 224 = .ok (.goto (-45), 3) := dk_167 255 211 (dk_at dksX6_laysJust_9 14 rfl rfl)
theorem dX6_laysJust_227 : decode cX6_laysJust 227 = .ok (.return_, 1) := dk_177 (dk_at dksX6_laysJust_9 17 rfl rfl)
abbrev cX6_counts : ByteArray := prog_25_method_39_code
def yX6_counts : MethodName := ⟨RX6, "counts", "(II)Z"⟩
def dkwX6_counts_1 : List UInt8 := [3, 172]
abbrev dktX6_counts_1 : List UInt8 := dkwX6_counts_1 ++ []
def dkwX6_counts_0 : List UInt8 := [42, 27, 28, 4, 182, 1, 7, 153, 0, 17, 42, 27, 28, 5, 182, 1, 7, 153, 0, 7, 4, 167, 0, 4]
abbrev dktX6_counts_0 : List UInt8 := dkwX6_counts_0 ++ dktX6_counts_1
theorem dksX6_counts_0 : cX6_counts.data.toList.drop 0 = dktX6_counts_0 := by decide +kernel
theorem dksX6_counts_1 : cX6_counts.data.toList.drop 24 = dktX6_counts_1 := dk_seg dksX6_counts_0 24 rfl rfl
theorem dX6_counts_0 : decode cX6_counts 0 = .ok (.aload_n 0, 1) := dk_42 (dk_at dksX6_counts_0 0 rfl rfl)
theorem dX6_counts_1 : decode cX6_counts 1 = .ok (.iload_n 1, 1) := dk_27 (dk_at dksX6_counts_0 1 rfl rfl)
theorem dX6_counts_2 : decode cX6_counts 2 = .ok (.iload_n 2, 1) := dk_28 (dk_at dksX6_counts_0 2 rfl rfl)
theorem dX6_counts_3 : decode cX6_counts 3 = .ok (.iconst 1, 1) := dk_4 (dk_at dksX6_counts_0 3 rfl rfl)
theorem dX6_counts_4 : decode cX6_counts 4 = .ok (.invokevirtual 263, 3) := dk_182 1 7 (dk_at dksX6_counts_0 4 rfl rfl)
theorem dX6_counts_7 : decode cX6_counts 7 = .ok (.ifCond .eq 17, 3) := dk_153 0 17 (dk_at dksX6_counts_0 7 rfl rfl)
theorem dX6_counts_10 : decode cX6_counts 10 = .ok (.aload_n 0, 1) := dk_42 (dk_at dksX6_counts_0 10 rfl rfl)
theorem dX6_counts_11 : decode cX6_counts 11 = .ok (.iload_n 1, 1) := dk_27 (dk_at dksX6_counts_0 11 rfl rfl)
theorem dX6_counts_12 : decode cX6_counts 12 = .ok (.iload_n 2, 1) := dk_28 (dk_at dksX6_counts_0 12 rfl rfl)
theorem dX6_counts_13 : decode cX6_counts 13 = .ok (.iconst 2, 1) := dk_5 (dk_at dksX6_counts_0 13 rfl rfl)
theorem dX6_counts_14 : decode cX6_counts 14 = .ok (.invokevirtual 263, 3) := dk_182 1 7 (dk_at dksX6_counts_0 14 rfl rfl)
theorem dX6_counts_17 : decode cX6_counts 17 = .ok (.ifCond .eq 7, 3) := dk_153 0 7 (dk_at dksX6_counts_0 17 rfl rfl)
theorem dX6_counts_20 : decode cX6_counts 20 = .ok (.iconst 1, 1) := dk_4 (dk_at dksX6_counts_0 20 rfl rfl)
theorem dX6_counts_21 : decode cX6_counts 21 = .ok (.goto 4, 3) := dk_167 0 4 (dk_at dksX6_counts_0 21 rfl rfl)
theorem dX6_counts_24 : decode cX6_counts 24 = .ok (.iconst 0, 1) := dk_3 (dk_at dksX6_counts_1 0 rfl rfl)
theorem dX6_counts_25 : decode cX6_counts 25 = .ok (.ireturn, 1) := dk_172 (dk_at dksX6_counts_1 1 rfl rfl)
abbrev cX6_isEnough : ByteArray := prog_25_method_38_code
def yX6_isEnough : MethodName := ⟨RX6, "isEnough", "(III)Z"⟩
def dkwX6_isEnough_1 : List UInt8 := [104, 5, 21, 4, 104, 161, 0, 7, 4, 167, 0, 4, 3, 172]
abbrev dktX6_isEnough_1 : List UInt8 := dkwX6_isEnough_1 ++ []
def dkwX6_isEnough_0 : List UInt8 := [42, 17, 0, 255, 28, 29, 182, 1, 4, 54, 4, 21, 4, 158, 0, 23, 6, 42, 27, 28, 29, 182, 1, 4]
abbrev dktX6_isEnough_0 : List UInt8 := dkwX6_isEnough_0 ++ dktX6_isEnough_1
theorem dksX6_isEnough_0 : cX6_isEnough.data.toList.drop 0 = dktX6_isEnough_0 := by decide +kernel
theorem dksX6_isEnough_1 : cX6_isEnough.data.toList.drop 24 = dktX6_isEnough_1 := dk_seg dksX6_isEnough_0 24 rfl rfl
theorem dX6_isEnough_0 : decode cX6_isEnough 0 = .ok (.aload_n 0, 1) := dk_42 (dk_at dksX6_isEnough_0 0 rfl rfl)
theorem dX6_isEnough_1 : decode cX6_isEnough 1 = .ok (.sipush 255, 3) := dk_17 0 255 (dk_at dksX6_isEnough_0 1 rfl rfl)
theorem dX6_isEnough_4 : decode cX6_isEnough 4 = .ok (.iload_n 2, 1) := dk_28 (dk_at dksX6_isEnough_0 4 rfl rfl)
theorem dX6_isEnough_5 : decode cX6_isEnough 5 = .ok (.iload_n 3, 1) := dk_29 (dk_at dksX6_isEnough_0 5 rfl rfl)
theorem dX6_isEnough_6 : decode cX6_isEnough 6 = .ok (.invokevirtual 260, 3) := dk_182 1 4 (dk_at dksX6_isEnough_0 6 rfl rfl)
theorem dX6_isEnough_9 : decode cX6_isEnough 9 = .ok (.istore 4, 2) := dk_54 4 (dk_at dksX6_isEnough_0 9 rfl rfl)
theorem dX6_isEnough_11 : decode cX6_isEnough 11 = .ok (.iload 4, 2) := dk_21 4 (dk_at dksX6_isEnough_0 11 rfl rfl)
theorem dX6_isEnough_13 : decode cX6_isEnough 13 = .ok (.ifCond .le 23, 3) := dk_158 0 23 (dk_at dksX6_isEnough_0 13 rfl rfl)
theorem dX6_isEnough_16 : decode cX6_isEnough 16 = .ok (.iconst 3, 1) := dk_6 (dk_at dksX6_isEnough_0 16 rfl rfl)
theorem dX6_isEnough_17 : decode cX6_isEnough 17 = .ok (.aload_n 0, 1) := dk_42 (dk_at dksX6_isEnough_0 17 rfl rfl)
theorem dX6_isEnough_18 : decode cX6_isEnough 18 = .ok (.iload_n 1, 1) := dk_27 (dk_at dksX6_isEnough_0 18 rfl rfl)
theorem dX6_isEnough_19 : decode cX6_isEnough 19 = .ok (.iload_n 2, 1) := dk_28 (dk_at dksX6_isEnough_0 19 rfl rfl)
theorem dX6_isEnough_20 : decode cX6_isEnough 20 = .ok (.iload_n 3, 1) := dk_29 (dk_at dksX6_isEnough_0 20 rfl rfl)
theorem dX6_isEnough_21 : decode cX6_isEnough 21 = .ok (.invokevirtual 260, 3) := dk_182 1 4 (dk_at dksX6_isEnough_0 21 rfl rfl)
theorem dX6_isEnough_24 : decode cX6_isEnough 24 = .ok (.imul, 1) := dk_104 (dk_at dksX6_isEnough_1 0 rfl rfl)
theorem dX6_isEnough_25 : decode cX6_isEnough 25 = .ok (.iconst 2, 1) := dk_5 (dk_at dksX6_isEnough_1 1 rfl rfl)
theorem dX6_isEnough_26 : decode cX6_isEnough 26 = .ok (.iload 4, 2) := dk_21 4 (dk_at dksX6_isEnough_1 2 rfl rfl)
theorem dX6_isEnough_28 : decode cX6_isEnough 28 = .ok (.imul, 1) := dk_104 (dk_at dksX6_isEnough_1 4 rfl rfl)
theorem dX6_isEnough_29 : decode cX6_isEnough 29 = .ok (.if_icmp .lt 7, 3) := dk_161 0 7 (dk_at dksX6_isEnough_1 5 rfl rfl)
theorem dX6_isEnough_32 : decode cX6_isEnough 32 = .ok (.iconst 1, 1) := dk_4 (dk_at dksX6_isEnough_1 8 rfl rfl)
theorem dX6_isEnough_33 : decode cX6_isEnough 33 = .ok (.goto 4, 3) := dk_167 0 4 (dk_at dksX6_isEnough_1 9 rfl rfl)
theorem dX6_isEnough_36 : decode cX6_isEnough 36 = .ok (.iconst 0, 1) := dk_3 (dk_at dksX6_isEnough_1 12 rfl rfl)
theorem dX6_isEnough_37 : decode cX6_isEnough 37 = .ok (.ireturn, 1) := dk_172 (dk_at dksX6_isEnough_1 13 rfl rfl)
abbrev cX6_sum : ByteArray := prog_25_method_37_code
def yX6_sum : MethodName := ⟨RX6, "sum", "(III)I"⟩
def dkwX6_sum_2 : List UInt8 := [172]
abbrev dktX6_sum_2 : List UInt8 := dkwX6_sum_2 ++ []
def dkwX6_sum_1 : List UInt8 := [153, 0, 16, 21, 4, 42, 28, 29, 21, 5, 182, 1, 0, 96, 54, 4, 132, 5, 1, 167, 255, 220, 21, 4]
abbrev dktX6_sum_1 : List UInt8 := dkwX6_sum_1 ++ dktX6_sum_2
def dkwX6_sum_0 : List UInt8 := [3, 54, 4, 3, 54, 5, 21, 5, 42, 180, 0, 33, 4, 46, 162, 0, 31, 27, 21, 5, 184, 0, 246]
abbrev dktX6_sum_0 : List UInt8 := dkwX6_sum_0 ++ dktX6_sum_1
theorem dksX6_sum_0 : cX6_sum.data.toList.drop 0 = dktX6_sum_0 := by decide +kernel
theorem dksX6_sum_1 : cX6_sum.data.toList.drop 23 = dktX6_sum_1 := dk_seg dksX6_sum_0 23 rfl rfl
theorem dksX6_sum_2 : cX6_sum.data.toList.drop 47 = dktX6_sum_2 := dk_seg dksX6_sum_1 24 rfl rfl
theorem dX6_sum_0 : decode cX6_sum 0 = .ok (.iconst 0, 1) := dk_3 (dk_at dksX6_sum_0 0 rfl rfl)
theorem dX6_sum_1 : decode cX6_sum 1 = .ok (.istore 4, 2) := dk_54 4 (dk_at dksX6_sum_0 1 rfl rfl)
theorem dX6_sum_3 : decode cX6_sum 3 = .ok (.iconst 0, 1) := dk_3 (dk_at dksX6_sum_0 3 rfl rfl)
theorem dX6_sum_4 : decode cX6_sum 4 = .ok (.istore 5, 2) := dk_54 5 (dk_at dksX6_sum_0 4 rfl rfl)
theorem dX6_sum_6 : decode cX6_sum 6 = .ok (.iload 5, 2) := dk_21 5 (dk_at dksX6_sum_0 6 rfl rfl)
theorem dX6_sum_8 : decode cX6_sum 8 = .ok (.aload_n 0, 1) := dk_42 (dk_at dksX6_sum_0 8 rfl rfl)
theorem dX6_sum_9 : decode cX6_sum 9 = .ok (.getfield 33, 3) := dk_180 0 33 (dk_at dksX6_sum_0 9 rfl rfl)
theorem dX6_sum_12 : decode cX6_sum 12 = .ok (.iconst 1, 1) := dk_4 (dk_at dksX6_sum_0 12 rfl rfl)
theorem dX6_sum_13 : decode cX6_sum 13 = .ok (.iaload, 1) := dk_46 (dk_at dksX6_sum_0 13 rfl rfl)
theorem dX6_sum_14 : decode cX6_sum 14 = .ok (.if_icmp .ge 31, 3) := dk_162 0 31 (dk_at dksX6_sum_0 14 rfl rfl)
theorem dX6_sum_17 : decode cX6_sum 17 = .ok (.iload_n 1, 1) := dk_27 (dk_at dksX6_sum_0 17 rfl rfl)
theorem dX6_sum_18 : decode cX6_sum 18 = .ok (.iload 5, 2) := dk_21 5 (dk_at dksX6_sum_0 18 rfl rfl)
theorem dX6_sum_20 : decode cX6_sum 20 = .ok (.invokestatic 246, 3) := dk_184 0 246 (dk_at dksX6_sum_0 20 rfl rfl)
theorem dX6_sum_23 : decode cX6_sum 23 = .ok (.ifCond .eq 16, 3) := dk_153 0 16 (dk_at dksX6_sum_1 0 rfl rfl)
theorem dX6_sum_26 : decode cX6_sum 26 = .ok (.iload 4, 2) := dk_21 4 (dk_at dksX6_sum_1 3 rfl rfl)
theorem dX6_sum_28 : decode cX6_sum 28 = .ok (.aload_n 0, 1) := dk_42 (dk_at dksX6_sum_1 5 rfl rfl)
theorem dX6_sum_29 : decode cX6_sum 29 = .ok (.iload_n 2, 1) := dk_28 (dk_at dksX6_sum_1 6 rfl rfl)
theorem dX6_sum_30 : decode cX6_sum 30 = .ok (.iload_n 3, 1) := dk_29 (dk_at dksX6_sum_1 7 rfl rfl)
theorem dX6_sum_31 : decode cX6_sum 31 = .ok (.iload 5, 2) := dk_21 5 (dk_at dksX6_sum_1 8 rfl rfl)
theorem dX6_sum_33 : decode cX6_sum 33 = .ok (.invokevirtual 256, 3) := dk_182 1 0 (dk_at dksX6_sum_1 10 rfl rfl)
theorem dX6_sum_36 : decode cX6_sum 36 = .ok (.iadd, 1) := dk_96 (dk_at dksX6_sum_1 13 rfl rfl)
theorem dX6_sum_37 : decode cX6_sum 37 = .ok (.istore 4, 2) := dk_54 4 (dk_at dksX6_sum_1 14 rfl rfl)
theorem dX6_sum_39 : decode cX6_sum 39 = .ok (.iinc 5 1, 3) := dk_132 5 1 (dk_at dksX6_sum_1 16 rfl rfl)
theorem dX6_sum_42 : decode cX6_sum 42 = .ok (.goto (-36), 3) := dk_167 255 220 (dk_at dksX6_sum_1 19 rfl rfl)
theorem dX6_sum_45 : decode cX6_sum 45 = .ok (.iload 4, 2) := dk_21 4 (dk_at dksX6_sum_1 22 rfl rfl)
theorem dX6_sum_47 : decode cX6_sum 47 = .ok (.ireturn, 1) := dk_172 (dk_at dksX6_sum_2 0 rfl rfl)
abbrev cX6_bitOf : ByteArray := prog_25_method_8_code
def yX6_bitOf : MethodName := ⟨RX6, "bitOf", "(II)Z"⟩
def dkwX6_bitOf_0 : List UInt8 := [26, 27, 122, 4, 126, 4, 160, 0, 7, 4, 167, 0, 4, 3, 172]
abbrev dktX6_bitOf_0 : List UInt8 := dkwX6_bitOf_0 ++ []
theorem dksX6_bitOf_0 : cX6_bitOf.data.toList.drop 0 = dktX6_bitOf_0 := by decide +kernel
theorem dX6_bitOf_0 : decode cX6_bitOf 0 = .ok (.iload_n 0, 1) := dk_26 (dk_at dksX6_bitOf_0 0 rfl rfl)
theorem dX6_bitOf_1 : decode cX6_bitOf 1 = .ok (.iload_n 1, 1) := dk_27 (dk_at dksX6_bitOf_0 1 rfl rfl)
theorem dX6_bitOf_2 : decode cX6_bitOf 2 = .ok (.ishr, 1) := dk_122 (dk_at dksX6_bitOf_0 2 rfl rfl)
theorem dX6_bitOf_3 : decode cX6_bitOf 3 = .ok (.iconst 1, 1) := dk_4 (dk_at dksX6_bitOf_0 3 rfl rfl)
theorem dX6_bitOf_4 : decode cX6_bitOf 4 = .ok (.iand, 1) := dk_126 (dk_at dksX6_bitOf_0 4 rfl rfl)
theorem dX6_bitOf_5 : decode cX6_bitOf 5 = .ok (.iconst 1, 1) := dk_4 (dk_at dksX6_bitOf_0 5 rfl rfl)
theorem dX6_bitOf_6 : decode cX6_bitOf 6 = .ok (.if_icmp .ne 7, 3) := dk_160 0 7 (dk_at dksX6_bitOf_0 6 rfl rfl)
theorem dX6_bitOf_9 : decode cX6_bitOf 9 = .ok (.iconst 1, 1) := dk_4 (dk_at dksX6_bitOf_0 9 rfl rfl)
theorem dX6_bitOf_10 : decode cX6_bitOf 10 = .ok (.goto 4, 3) := dk_167 0 4 (dk_at dksX6_bitOf_0 10 rfl rfl)
theorem dX6_bitOf_13 : decode cX6_bitOf 13 = .ok (.iconst 0, 1) := dk_3 (dk_at dksX6_bitOf_0 13 rfl rfl)
theorem dX6_bitOf_14 : decode cX6_bitOf 14 = .ok (.ireturn, 1) := dk_172 (dk_at dksX6_bitOf_0 14 rfl rfl)
abbrev cX6_weightFor : ByteArray := prog_25_method_36_code
def yX6_weightFor : MethodName := ⟨RX6, "weightFor", "(III)I"⟩
def dkwX6_weightFor_2 : List UInt8 := [180, 0, 33, 16, 12, 21, 5, 96, 46, 54, 5, 167, 255, 232, 42, 21, 5, 29, 182, 0, 253, 172]
abbrev dktX6_weightFor_2 : List UInt8 := dkwX6_weightFor_2 ++ []
def dkwX6_weightFor_1 : List UInt8 := [180, 0, 33, 7, 29, 96, 46, 172, 27, 54, 5, 42, 180, 0, 53, 21, 5, 46, 21, 4, 164, 0, 18, 42]
abbrev dktX6_weightFor_1 : List UInt8 := dkwX6_weightFor_1 ++ dktX6_weightFor_2
def dkwX6_weightFor_0 : List UInt8 := [42, 27, 182, 0, 249, 28, 100, 42, 180, 0, 33, 3, 46, 104, 54, 4, 21, 4, 156, 0, 12, 42]
abbrev dktX6_weightFor_0 : List UInt8 := dkwX6_weightFor_0 ++ dktX6_weightFor_1
theorem dksX6_weightFor_0 : cX6_weightFor.data.toList.drop 0 = dktX6_weightFor_0 := by decide +kernel
theorem dksX6_weightFor_1 : cX6_weightFor.data.toList.drop 22 = dktX6_weightFor_1 := dk_seg dksX6_weightFor_0 22 rfl rfl
theorem dksX6_weightFor_2 : cX6_weightFor.data.toList.drop 46 = dktX6_weightFor_2 := dk_seg dksX6_weightFor_1 24 rfl rfl
theorem dX6_weightFor_0 : decode cX6_weightFor 0 = .ok (.aload_n 0, 1) := dk_42 (dk_at dksX6_weightFor_0 0 rfl rfl)
theorem dX6_weightFor_1 : decode cX6_weightFor 1 = .ok (.iload_n 1, 1) := dk_27 (dk_at dksX6_weightFor_0 1 rfl rfl)
theorem dX6_weightFor_2 : decode cX6_weightFor 2 = .ok (.invokevirtual 249, 3) := dk_182 0 249 (dk_at dksX6_weightFor_0 2 rfl rfl)
theorem dX6_weightFor_5 : decode cX6_weightFor 5 = .ok (.iload_n 2, 1) := dk_28 (dk_at dksX6_weightFor_0 5 rfl rfl)
theorem dX6_weightFor_6 : decode cX6_weightFor 6 = .ok (.isub, 1) := dk_100 (dk_at dksX6_weightFor_0 6 rfl rfl)
theorem dX6_weightFor_7 : decode cX6_weightFor 7 = .ok (.aload_n 0, 1) := dk_42 (dk_at dksX6_weightFor_0 7 rfl rfl)
theorem dX6_weightFor_8 : decode cX6_weightFor 8 = .ok (.getfield 33, 3) := dk_180 0 33 (dk_at dksX6_weightFor_0 8 rfl rfl)
theorem dX6_weightFor_11 : decode cX6_weightFor 11 = .ok (.iconst 0, 1) := dk_3 (dk_at dksX6_weightFor_0 11 rfl rfl)
theorem dX6_weightFor_12 : decode cX6_weightFor 12 = .ok (.iaload, 1) := dk_46 (dk_at dksX6_weightFor_0 12 rfl rfl)
theorem dX6_weightFor_13 : decode cX6_weightFor 13 = .ok (.imul, 1) := dk_104 (dk_at dksX6_weightFor_0 13 rfl rfl)
theorem dX6_weightFor_14 : decode cX6_weightFor 14 = .ok (.istore 4, 2) := dk_54 4 (dk_at dksX6_weightFor_0 14 rfl rfl)
theorem dX6_weightFor_16 : decode cX6_weightFor 16 = .ok (.iload 4, 2) := dk_21 4 (dk_at dksX6_weightFor_0 16 rfl rfl)
theorem dX6_weightFor_18 : decode cX6_weightFor 18 = .ok (.ifCond .ge 12, 3) := dk_156 0 12 (dk_at dksX6_weightFor_0 18 rfl rfl)
theorem dX6_weightFor_21 : decode cX6_weightFor 21 = .ok (.aload_n 0, 1) := dk_42 (dk_at dksX6_weightFor_0 21 rfl rfl)
theorem dX6_weightFor_22 : decode cX6_weightFor 22 = .ok (.getfield 33, 3) := dk_180 0 33 (dk_at dksX6_weightFor_1 0 rfl rfl)
theorem dX6_weightFor_25 : decode cX6_weightFor 25 = .ok (.iconst 4, 1) := dk_7 (dk_at dksX6_weightFor_1 3 rfl rfl)
theorem dX6_weightFor_26 : decode cX6_weightFor 26 = .ok (.iload_n 3, 1) := dk_29 (dk_at dksX6_weightFor_1 4 rfl rfl)
theorem dX6_weightFor_27 : decode cX6_weightFor 27 = .ok (.iadd, 1) := dk_96 (dk_at dksX6_weightFor_1 5 rfl rfl)
theorem dX6_weightFor_28 : decode cX6_weightFor 28 = .ok (.iaload, 1) := dk_46 (dk_at dksX6_weightFor_1 6 rfl rfl)
theorem dX6_weightFor_29 : decode cX6_weightFor 29 = .ok (.ireturn, 1) := dk_172 (dk_at dksX6_weightFor_1 7 rfl rfl)
theorem dX6_weightFor_30 : decode cX6_weightFor 30 = .ok (.iload_n 1, 1) := dk_27 (dk_at dksX6_weightFor_1 8 rfl rfl)
theorem dX6_weightFor_31 : decode cX6_weightFor 31 = .ok (.istore 5, 2) := dk_54 5 (dk_at dksX6_weightFor_1 9 rfl rfl)
theorem dX6_weightFor_33 : decode cX6_weightFor 33 = .ok (.aload_n 0, 1) := dk_42 (dk_at dksX6_weightFor_1 11 rfl rfl)
theorem dX6_weightFor_34 : decode cX6_weightFor 34 = .ok (.getfield 53, 3) := dk_180 0 53 (dk_at dksX6_weightFor_1 12 rfl rfl)
theorem dX6_weightFor_37 : decode cX6_weightFor 37 = .ok (.iload 5, 2) := dk_21 5 (dk_at dksX6_weightFor_1 15 rfl rfl)
theorem dX6_weightFor_39 : decode cX6_weightFor 39 = .ok (.iaload, 1) := dk_46 (dk_at dksX6_weightFor_1 17 rfl rfl)
theorem dX6_weightFor_40 : decode cX6_weightFor 40 = .ok (.iload 4, 2) := dk_21 4 (dk_at dksX6_weightFor_1 18 rfl rfl)
theorem dX6_weightFor_42 : decode cX6_weightFor 42 = .ok (.if_icmp .le 18, 3) := dk_164 0 18 (dk_at dksX6_weightFor_1 20 rfl rfl)
theorem dX6_weightFor_45 : decode cX6_weightFor 45 = .ok (.aload_n 0, 1) := dk_42 (dk_at dksX6_weightFor_1 23 rfl rfl)
theorem dX6_weightFor_46 : decode cX6_weightFor 46 = .ok (.getfield 33, 3) := dk_180 0 33 (dk_at dksX6_weightFor_2 0 rfl rfl)
theorem dX6_weightFor_49 : decode cX6_weightFor 49 = .ok (.bipush 12, 2) := dk_16 12 (dk_at dksX6_weightFor_2 3 rfl rfl)
theorem dX6_weightFor_51 : decode cX6_weightFor 51 = .ok (.iload 5, 2) := dk_21 5 (dk_at dksX6_weightFor_2 5 rfl rfl)
theorem dX6_weightFor_53 : decode cX6_weightFor 53 = .ok (.iadd, 1) := dk_96 (dk_at dksX6_weightFor_2 7 rfl rfl)
theorem dX6_weightFor_54 : decode cX6_weightFor 54 = .ok (.iaload, 1) := dk_46 (dk_at dksX6_weightFor_2 8 rfl rfl)
theorem dX6_weightFor_55 : decode cX6_weightFor 55 = .ok (.istore 5, 2) := dk_54 5 (dk_at dksX6_weightFor_2 9 rfl rfl)
theorem dX6_weightFor_57 : decode cX6_weightFor 57 = .ok (.goto (-24), 3) := dk_167 255 232 (dk_at dksX6_weightFor_2 11 rfl rfl)
theorem dX6_weightFor_60 : decode cX6_weightFor 60 = .ok (.aload_n 0, 1) := dk_42 (dk_at dksX6_weightFor_2 14 rfl rfl)
theorem dX6_weightFor_61 : decode cX6_weightFor 61 = .ok (.iload 5, 2) := dk_21 5 (dk_at dksX6_weightFor_2 15 rfl rfl)
theorem dX6_weightFor_63 : decode cX6_weightFor 63 = .ok (.iload_n 3, 1) := dk_29 (dk_at dksX6_weightFor_2 17 rfl rfl)
theorem dX6_weightFor_64 : decode cX6_weightFor 64 = .ok (.invokevirtual 253, 3) := dk_182 0 253 (dk_at dksX6_weightFor_2 18 rfl rfl)
theorem dX6_weightFor_67 : decode cX6_weightFor 67 = .ok (.ireturn, 1) := dk_172 (dk_at dksX6_weightFor_2 21 rfl rfl)
abbrev cX6_weightBy : ByteArray := prog_25_method_35_code
def yX6_weightBy : MethodName := ⟨RX6, "weightBy", "(II)I"⟩
def dkwX6_weightBy_2 : List UInt8 := [28, 96, 46, 172]
abbrev dktX6_weightBy_2 : List UInt8 := dkwX6_weightBy_2 ++ []
def dkwX6_weightBy_1 : List UInt8 := [16, 52, 29, 96, 46, 172, 42, 180, 0, 33, 16, 12, 29, 96, 46, 62, 167, 255, 219, 42, 180, 0, 33, 7]
abbrev dktX6_weightBy_1 : List UInt8 := dkwX6_weightBy_1 ++ dktX6_weightBy_2
def dkwX6_weightBy_0 : List UInt8 := [27, 62, 29, 155, 0, 39, 42, 180, 0, 33, 16, 32, 29, 96, 46, 28, 160, 0, 13, 42, 180, 0, 33]
abbrev dktX6_weightBy_0 : List UInt8 := dkwX6_weightBy_0 ++ dktX6_weightBy_1
theorem dksX6_weightBy_0 : cX6_weightBy.data.toList.drop 0 = dktX6_weightBy_0 := by decide +kernel
theorem dksX6_weightBy_1 : cX6_weightBy.data.toList.drop 23 = dktX6_weightBy_1 := dk_seg dksX6_weightBy_0 23 rfl rfl
theorem dksX6_weightBy_2 : cX6_weightBy.data.toList.drop 47 = dktX6_weightBy_2 := dk_seg dksX6_weightBy_1 24 rfl rfl
theorem dX6_weightBy_0 : decode cX6_weightBy 0 = .ok (.iload_n 1, 1) := dk_27 (dk_at dksX6_weightBy_0 0 rfl rfl)
theorem dX6_weightBy_1 : decode cX6_weightBy 1 = .ok (.istore_n 3, 1) := dk_62 (dk_at dksX6_weightBy_0 1 rfl rfl)
theorem dX6_weightBy_2 : decode cX6_weightBy 2 = .ok (.iload_n 3, 1) := dk_29 (dk_at dksX6_weightBy_0 2 rfl rfl)
theorem dX6_weightBy_3 : decode cX6_weightBy 3 = .ok (.ifCond .lt 39, 3) := dk_155 0 39 (dk_at dksX6_weightBy_0 3 rfl rfl)
theorem dX6_weightBy_6 : decode cX6_weightBy 6 = .ok (.aload_n 0, 1) := dk_42 (dk_at dksX6_weightBy_0 6 rfl rfl)
theorem dX6_weightBy_7 : decode cX6_weightBy 7 = .ok (.getfield 33, 3) := dk_180 0 33 (dk_at dksX6_weightBy_0 7 rfl rfl)
theorem dX6_weightBy_10 : decode cX6_weightBy 10 = .ok (.bipush 32, 2) := dk_16 32 (dk_at dksX6_weightBy_0 10 rfl rfl)
theorem dX6_weightBy_12 : decode cX6_weightBy 12 = .ok (.iload_n 3, 1) := dk_29 (dk_at dksX6_weightBy_0 12 rfl rfl)
theorem dX6_weightBy_13 : decode cX6_weightBy 13 = .ok (.iadd, 1) := dk_96 (dk_at dksX6_weightBy_0 13 rfl rfl)
theorem dX6_weightBy_14 : decode cX6_weightBy 14 = .ok (.iaload, 1) := dk_46 (dk_at dksX6_weightBy_0 14 rfl rfl)
theorem dX6_weightBy_15 : decode cX6_weightBy 15 = .ok (.iload_n 2, 1) := dk_28 (dk_at dksX6_weightBy_0 15 rfl rfl)
theorem dX6_weightBy_16 : decode cX6_weightBy 16 = .ok (.if_icmp .ne 13, 3) := dk_160 0 13 (dk_at dksX6_weightBy_0 16 rfl rfl)
theorem dX6_weightBy_19 : decode cX6_weightBy 19 = .ok (.aload_n 0, 1) := dk_42 (dk_at dksX6_weightBy_0 19 rfl rfl)
theorem dX6_weightBy_20 : decode cX6_weightBy 20 = .ok (.getfield 33, 3) := dk_180 0 33 (dk_at dksX6_weightBy_0 20 rfl rfl)
theorem dX6_weightBy_23 : decode cX6_weightBy 23 = .ok (.bipush 52, 2) := dk_16 52 (dk_at dksX6_weightBy_1 0 rfl rfl)
theorem dX6_weightBy_25 : decode cX6_weightBy 25 = .ok (.iload_n 3, 1) := dk_29 (dk_at dksX6_weightBy_1 2 rfl rfl)
theorem dX6_weightBy_26 : decode cX6_weightBy 26 = .ok (.iadd, 1) := dk_96 (dk_at dksX6_weightBy_1 3 rfl rfl)
theorem dX6_weightBy_27 : decode cX6_weightBy 27 = .ok (.iaload, 1) := dk_46 (dk_at dksX6_weightBy_1 4 rfl rfl)
theorem dX6_weightBy_28 : decode cX6_weightBy 28 = .ok (.ireturn, 1) := dk_172 (dk_at dksX6_weightBy_1 5 rfl rfl)
theorem dX6_weightBy_29 : decode cX6_weightBy 29 = .ok (.aload_n 0, 1) := dk_42 (dk_at dksX6_weightBy_1 6 rfl rfl)
theorem dX6_weightBy_30 : decode cX6_weightBy 30 = .ok (.getfield 33, 3) := dk_180 0 33 (dk_at dksX6_weightBy_1 7 rfl rfl)
theorem dX6_weightBy_33 : decode cX6_weightBy 33 = .ok (.bipush 12, 2) := dk_16 12 (dk_at dksX6_weightBy_1 10 rfl rfl)
theorem dX6_weightBy_35 : decode cX6_weightBy 35 = .ok (.iload_n 3, 1) := dk_29 (dk_at dksX6_weightBy_1 12 rfl rfl)
theorem dX6_weightBy_36 : decode cX6_weightBy 36 = .ok (.iadd, 1) := dk_96 (dk_at dksX6_weightBy_1 13 rfl rfl)
theorem dX6_weightBy_37 : decode cX6_weightBy 37 = .ok (.iaload, 1) := dk_46 (dk_at dksX6_weightBy_1 14 rfl rfl)
theorem dX6_weightBy_38 : decode cX6_weightBy 38 = .ok (.istore_n 3, 1) := dk_62 (dk_at dksX6_weightBy_1 15 rfl rfl)
theorem dX6_weightBy_39 : decode cX6_weightBy 39 = .ok (.goto (-37), 3) := dk_167 255 219 (dk_at dksX6_weightBy_1 16 rfl rfl)
theorem dX6_weightBy_42 : decode cX6_weightBy 42 = .ok (.aload_n 0, 1) := dk_42 (dk_at dksX6_weightBy_1 19 rfl rfl)
theorem dX6_weightBy_43 : decode cX6_weightBy 43 = .ok (.getfield 33, 3) := dk_180 0 33 (dk_at dksX6_weightBy_1 20 rfl rfl)
theorem dX6_weightBy_46 : decode cX6_weightBy 46 = .ok (.iconst 4, 1) := dk_7 (dk_at dksX6_weightBy_1 23 rfl rfl)
theorem dX6_weightBy_47 : decode cX6_weightBy 47 = .ok (.iload_n 2, 1) := dk_28 (dk_at dksX6_weightBy_2 0 rfl rfl)
theorem dX6_weightBy_48 : decode cX6_weightBy 48 = .ok (.iadd, 1) := dk_96 (dk_at dksX6_weightBy_2 1 rfl rfl)
theorem dX6_weightBy_49 : decode cX6_weightBy 49 = .ok (.iaload, 1) := dk_46 (dk_at dksX6_weightBy_2 2 rfl rfl)
theorem dX6_weightBy_50 : decode cX6_weightBy 50 = .ok (.ireturn, 1) := dk_172 (dk_at dksX6_weightBy_2 3 rfl rfl)
abbrev cX6_laysWay : ByteArray := prog_25_method_44_code
def yX6_laysWay : MethodName := ⟨RX6, "laysWay", "()V"⟩
def dkwX6_laysWay_7 : List UInt8 := [177]
abbrev dktX6_laysWay_7 : List UInt8 := dkwX6_laysWay_7 ++ []
def dkwX6_laysWay_6 : List UInt8 := [180, 1, 41, 27, 79, 42, 89, 180, 1, 41, 4, 96, 181, 1, 41, 42, 27, 182, 1, 44, 60, 167, 255, 226]
abbrev dktX6_laysWay_6 : List UInt8 := dkwX6_laysWay_6 ++ dktX6_laysWay_7
def dkwX6_laysWay_5 : List UInt8 := [4, 181, 1, 41, 42, 42, 180, 1, 38, 182, 1, 44, 60, 27, 155, 0, 32, 42, 180, 0, 65, 42]
abbrev dktX6_laysWay_5 : List UInt8 := dkwX6_laysWay_5 ++ dktX6_laysWay_6
def dkwX6_laysWay_4 : List UInt8 := [28, 96, 46, 61, 167, 255, 232, 132, 1, 1, 167, 255, 180, 42, 180, 0, 65, 3, 42, 180, 1, 38, 79, 42]
abbrev dktX6_laysWay_4 : List UInt8 := dkwX6_laysWay_4 ++ dktX6_laysWay_5
def dkwX6_laysWay_3 : List UInt8 := [182, 0, 253, 62, 28, 155, 0, 26, 42, 180, 0, 62, 28, 92, 46, 29, 96, 79, 42, 180, 0, 33, 16, 12]
abbrev dktX6_laysWay_3 : List UInt8 := dkwX6_laysWay_3 ++ dktX6_laysWay_4
def dkwX6_laysWay_2 : List UInt8 := [153, 0, 7, 2, 167, 0, 13, 42, 180, 0, 33, 17, 0, 216, 27, 96, 46, 61, 42, 42, 180, 1, 38, 27]
abbrev dktX6_laysWay_2 : List UInt8 := dkwX6_laysWay_2 ++ dktX6_laysWay_3
def dkwX6_laysWay_1 : List UInt8 := [167, 255, 236, 3, 60, 27, 42, 180, 0, 33, 4, 46, 162, 0, 72, 42, 180, 1, 14, 27, 184, 0, 246]
abbrev dktX6_laysWay_1 : List UInt8 := dkwX6_laysWay_1 ++ dktX6_laysWay_2
def dkwX6_laysWay_0 : List UInt8 := [3, 60, 27, 42, 180, 0, 33, 5, 46, 162, 0, 16, 42, 180, 0, 62, 27, 3, 79, 132, 1, 1]
abbrev dktX6_laysWay_0 : List UInt8 := dkwX6_laysWay_0 ++ dktX6_laysWay_1
theorem dksX6_laysWay_0 : cX6_laysWay.data.toList.drop 0 = dktX6_laysWay_0 := by decide +kernel
theorem dksX6_laysWay_1 : cX6_laysWay.data.toList.drop 22 = dktX6_laysWay_1 := dk_seg dksX6_laysWay_0 22 rfl rfl
theorem dksX6_laysWay_2 : cX6_laysWay.data.toList.drop 45 = dktX6_laysWay_2 := dk_seg dksX6_laysWay_1 23 rfl rfl
theorem dksX6_laysWay_3 : cX6_laysWay.data.toList.drop 69 = dktX6_laysWay_3 := dk_seg dksX6_laysWay_2 24 rfl rfl
theorem dksX6_laysWay_4 : cX6_laysWay.data.toList.drop 93 = dktX6_laysWay_4 := dk_seg dksX6_laysWay_3 24 rfl rfl
theorem dksX6_laysWay_5 : cX6_laysWay.data.toList.drop 117 = dktX6_laysWay_5 := dk_seg dksX6_laysWay_4 24 rfl rfl
theorem dksX6_laysWay_6 : cX6_laysWay.data.toList.drop 139 = dktX6_laysWay_6 := dk_seg dksX6_laysWay_5 22 rfl rfl
theorem dksX6_laysWay_7 : cX6_laysWay.data.toList.drop 163 = dktX6_laysWay_7 := dk_seg dksX6_laysWay_6 24 rfl rfl
theorem dX6_laysWay_0 : decode cX6_laysWay 0 = .ok (.iconst 0, 1) := dk_3 (dk_at dksX6_laysWay_0 0 rfl rfl)
theorem dX6_laysWay_1 : decode cX6_laysWay 1 = .ok (.istore_n 1, 1) := dk_60 (dk_at dksX6_laysWay_0 1 rfl rfl)
theorem dX6_laysWay_2 : decode cX6_laysWay 2 = .ok (.iload_n 1, 1) := dk_27 (dk_at dksX6_laysWay_0 2 rfl rfl)
theorem dX6_laysWay_3 : decode cX6_laysWay 3 = .ok (.aload_n 0, 1) := dk_42 (dk_at dksX6_laysWay_0 3 rfl rfl)
theorem dX6_laysWay_4 : decode cX6_laysWay 4 = .ok (.getfield 33, 3) := dk_180 0 33 (dk_at dksX6_laysWay_0 4 rfl rfl)
theorem dX6_laysWay_7 : decode cX6_laysWay 7 = .ok (.iconst 2, 1) := dk_5 (dk_at dksX6_laysWay_0 7 rfl rfl)
theorem dX6_laysWay_8 : decode cX6_laysWay 8 = .ok (.iaload, 1) := dk_46 (dk_at dksX6_laysWay_0 8 rfl rfl)
theorem dX6_laysWay_9 : decode cX6_laysWay 9 = .ok (.if_icmp .ge 16, 3) := dk_162 0 16 (dk_at dksX6_laysWay_0 9 rfl rfl)
theorem dX6_laysWay_12 : decode cX6_laysWay 12 = .ok (.aload_n 0, 1) := dk_42 (dk_at dksX6_laysWay_0 12 rfl rfl)
theorem dX6_laysWay_13 : decode cX6_laysWay 13 = .ok (.getfield 62, 3) := dk_180 0 62 (dk_at dksX6_laysWay_0 13 rfl rfl)
theorem dX6_laysWay_16 : decode cX6_laysWay 16 = .ok (.iload_n 1, 1) := dk_27 (dk_at dksX6_laysWay_0 16 rfl rfl)
theorem dX6_laysWay_17 : decode cX6_laysWay 17 = .ok (.iconst 0, 1) := dk_3 (dk_at dksX6_laysWay_0 17 rfl rfl)
theorem dX6_laysWay_18 : decode cX6_laysWay 18 = .ok (.iastore, 1) := dk_79 (dk_at dksX6_laysWay_0 18 rfl rfl)
theorem dX6_laysWay_19 : decode cX6_laysWay 19 = .ok (.iinc 1 1, 3) := dk_132 1 1 (dk_at dksX6_laysWay_0 19 rfl rfl)
theorem dX6_laysWay_22 : decode cX6_laysWay 22 = .ok (.goto (-20), 3) := dk_167 255 236 (dk_at dksX6_laysWay_1 0 rfl rfl)
theorem dX6_laysWay_25 : decode cX6_laysWay 25 = .ok (.iconst 0, 1) := dk_3 (dk_at dksX6_laysWay_1 3 rfl rfl)
theorem dX6_laysWay_26 : decode cX6_laysWay 26 = .ok (.istore_n 1, 1) := dk_60 (dk_at dksX6_laysWay_1 4 rfl rfl)
theorem dX6_laysWay_27 : decode cX6_laysWay 27 = .ok (.iload_n 1, 1) := dk_27 (dk_at dksX6_laysWay_1 5 rfl rfl)
theorem dX6_laysWay_28 : decode cX6_laysWay 28 = .ok (.aload_n 0, 1) := dk_42 (dk_at dksX6_laysWay_1 6 rfl rfl)
theorem dX6_laysWay_29 : decode cX6_laysWay 29 = .ok (.getfield 33, 3) := dk_180 0 33 (dk_at dksX6_laysWay_1 7 rfl rfl)
theorem dX6_laysWay_32 : decode cX6_laysWay 32 = .ok (.iconst 1, 1) := dk_4 (dk_at dksX6_laysWay_1 10 rfl rfl)
theorem dX6_laysWay_33 : decode cX6_laysWay 33 = .ok (.iaload, 1) := dk_46 (dk_at dksX6_laysWay_1 11 rfl rfl)
theorem dX6_laysWay_34 : decode cX6_laysWay 34 = .ok (.if_icmp .ge 72, 3) := dk_162 0 72 (dk_at dksX6_laysWay_1 12 rfl rfl)
theorem dX6_laysWay_37 : decode cX6_laysWay 37 = .ok (.aload_n 0, 1) := dk_42 (dk_at dksX6_laysWay_1 15 rfl rfl)
theorem dX6_laysWay_38 : decode cX6_laysWay 38 = .ok (.getfield 270, 3) := dk_180 1 14 (dk_at dksX6_laysWay_1 16 rfl rfl)
theorem dX6_laysWay_41 : decode cX6_laysWay 41 = .ok (.iload_n 1, 1) := dk_27 (dk_at dksX6_laysWay_1 19 rfl rfl)
theorem dX6_laysWay_42 : decode cX6_laysWay 42 = .ok (.invokestatic 246, 3) := dk_184 0 246 (dk_at dksX6_laysWay_1 20 rfl rfl)
theorem dX6_laysWay_45 : decode cX6_laysWay 45 = .ok (.ifCond .eq 7, 3) := dk_153 0 7 (dk_at dksX6_laysWay_2 0 rfl rfl)
theorem dX6_laysWay_48 : decode cX6_laysWay 48 = .ok (.iconst (-1), 1) := dk_2 (dk_at dksX6_laysWay_2 3 rfl rfl)
theorem dX6_laysWay_49 : decode cX6_laysWay 49 = .ok (.goto 13, 3) := dk_167 0 13 (dk_at dksX6_laysWay_2 4 rfl rfl)
theorem dX6_laysWay_52 : decode cX6_laysWay 52 = .ok (.aload_n 0, 1) := dk_42 (dk_at dksX6_laysWay_2 7 rfl rfl)
theorem dX6_laysWay_53 : decode cX6_laysWay 53 = .ok (.getfield 33, 3) := dk_180 0 33 (dk_at dksX6_laysWay_2 8 rfl rfl)
theorem dX6_laysWay_56 : decode cX6_laysWay 56 = .ok (.sipush 216, 3) := dk_17 0 216 (dk_at dksX6_laysWay_2 11 rfl rfl)
theorem dX6_laysWay_59 : decode cX6_laysWay 59 = .ok (.iload_n 1, 1) := dk_27 (dk_at dksX6_laysWay_2 14 rfl rfl)
theorem dX6_laysWay_60 : decode cX6_laysWay 60 = .ok (.iadd, 1) := dk_96 (dk_at dksX6_laysWay_2 15 rfl rfl)
theorem dX6_laysWay_61 : decode cX6_laysWay 61 = .ok (.iaload, 1) := dk_46 (dk_at dksX6_laysWay_2 16 rfl rfl)
theorem dX6_laysWay_62 : decode cX6_laysWay 62 = .ok (.istore_n 2, 1) := dk_61 (dk_at dksX6_laysWay_2 17 rfl rfl)
theorem dX6_laysWay_63 : decode cX6_laysWay 63 = .ok (.aload_n 0, 1) := dk_42 (dk_at dksX6_laysWay_2 18 rfl rfl)
theorem dX6_laysWay_64 : decode cX6_laysWay 64 = .ok (.aload_n 0, 1) := dk_42 (dk_at dksX6_laysWay_2 19 rfl rfl)
theorem dX6_laysWay_65 : decode cX6_laysWay 65 = .ok (.getfield 294, 3) := dk_180 1 38 (dk_at dksX6_laysWay_2 20 rfl rfl)
theorem dX6_laysWay_68 : decode cX6_laysWay 68 = .ok (.iload_n 1, 1) := dk_27 (dk_at dksX6_laysWay_2 23 rfl rfl)
theorem dX6_laysWay_69 : decode cX6_laysWay 69 = .ok (.invokevirtual 253, 3) := dk_182 0 253 (dk_at dksX6_laysWay_3 0 rfl rfl)
theorem dX6_laysWay_72 : decode cX6_laysWay 72 = .ok (.istore_n 3, 1) := dk_62 (dk_at dksX6_laysWay_3 3 rfl rfl)
theorem dX6_laysWay_73 : decode cX6_laysWay 73 = .ok (.iload_n 2, 1) := dk_28 (dk_at dksX6_laysWay_3 4 rfl rfl)
theorem dX6_laysWay_74 : decode cX6_laysWay 74 = .ok (.ifCond .lt 26, 3) := dk_155 0 26 (dk_at dksX6_laysWay_3 5 rfl rfl)
theorem dX6_laysWay_77 : decode cX6_laysWay 77 = .ok (.aload_n 0, 1) := dk_42 (dk_at dksX6_laysWay_3 8 rfl rfl)
theorem dX6_laysWay_78 : decode cX6_laysWay 78 = .ok (.getfield 62, 3) := dk_180 0 62 (dk_at dksX6_laysWay_3 9 rfl rfl)
theorem dX6_laysWay_81 : decode cX6_laysWay 81 = .ok (.iload_n 2, 1) := dk_28 (dk_at dksX6_laysWay_3 12 rfl rfl)
theorem dX6_laysWay_82 : decode cX6_laysWay 82 = .ok (.dup2, 1) := dk_92 (dk_at dksX6_laysWay_3 13 rfl rfl)
theorem dX6_laysWay_83 : decode cX6_laysWay 83 = .ok (.iaload, 1) := dk_46 (dk_at dksX6_laysWay_3 14 rfl rfl)
theorem dX6_laysWay_84 : decode cX6_laysWay 84 = .ok (.iload_n 3, 1) := dk_29 (dk_at dksX6_laysWay_3 15 rfl rfl)
theorem dX6_laysWay_85 : decode cX6_laysWay 85 = .ok (.iadd, 1) := dk_96 (dk_at dksX6_laysWay_3 16 rfl rfl)
theorem dX6_laysWay_86 : decode cX6_laysWay 86 = .ok (.iastore, 1) := dk_79 (dk_at dksX6_laysWay_3 17 rfl rfl)
theorem dX6_laysWay_87 : decode cX6_laysWay 87 = .ok (.aload_n 0, 1) := dk_42 (dk_at dksX6_laysWay_3 18 rfl rfl)
theorem dX6_laysWay_88 : decode cX6_laysWay 88 = .ok (.getfield 33, 3) := dk_180 0 33 (dk_at dksX6_laysWay_3 19 rfl rfl)
theorem dX6_laysWay_91 : decode cX6_laysWay 91 = .ok (.bipush 12, 2) := dk_16 12 (dk_at dksX6_laysWay_3 22 rfl rfl)
theorem dX6_laysWay_93 : decode cX6_laysWay 93 = .ok (.iload_n 2, 1) := dk_28 (dk_at dksX6_laysWay_4 0 rfl rfl)
theorem dX6_laysWay_94 : decode cX6_laysWay 94 = .ok (.iadd, 1) := dk_96 (dk_at dksX6_laysWay_4 1 rfl rfl)
theorem dX6_laysWay_95 : decode cX6_laysWay 95 = .ok (.iaload, 1) := dk_46 (dk_at dksX6_laysWay_4 2 rfl rfl)
theorem dX6_laysWay_96 : decode cX6_laysWay 96 = .ok (.istore_n 2, 1) := dk_61 (dk_at dksX6_laysWay_4 3 rfl rfl)
theorem dX6_laysWay_97 : decode cX6_laysWay 97 = .ok (.goto (-24), 3) := dk_167 255 232 (dk_at dksX6_laysWay_4 4 rfl rfl)
theorem dX6_laysWay_100 : decode cX6_laysWay 100 = .ok (.iinc 1 1, 3) := dk_132 1 1 (dk_at dksX6_laysWay_4 7 rfl rfl)
theorem dX6_laysWay_103 : decode cX6_laysWay 103 = .ok (.goto (-76), 3) := dk_167 255 180 (dk_at dksX6_laysWay_4 10 rfl rfl)
theorem dX6_laysWay_106 : decode cX6_laysWay 106 = .ok (.aload_n 0, 1) := dk_42 (dk_at dksX6_laysWay_4 13 rfl rfl)
theorem dX6_laysWay_107 : decode cX6_laysWay 107 = .ok (.getfield 65, 3) := dk_180 0 65 (dk_at dksX6_laysWay_4 14 rfl rfl)
theorem dX6_laysWay_110 : decode cX6_laysWay 110 = .ok (.iconst 0, 1) := dk_3 (dk_at dksX6_laysWay_4 17 rfl rfl)
theorem dX6_laysWay_111 : decode cX6_laysWay 111 = .ok (.aload_n 0, 1) := dk_42 (dk_at dksX6_laysWay_4 18 rfl rfl)
theorem dX6_laysWay_112 : decode cX6_laysWay 112 = .ok (.getfield 294, 3) := dk_180 1 38 (dk_at dksX6_laysWay_4 19 rfl rfl)
theorem dX6_laysWay_115 : decode cX6_laysWay 115 = .ok (.iastore, 1) := dk_79 (dk_at dksX6_laysWay_4 22 rfl rfl)
theorem dX6_laysWay_116 : decode cX6_laysWay 116 = .ok (.aload_n 0, 1) := dk_42 (dk_at dksX6_laysWay_4 23 rfl rfl)
theorem dX6_laysWay_117 : decode cX6_laysWay 117 = .ok (.iconst 1, 1) := dk_4 (dk_at dksX6_laysWay_5 0 rfl rfl)
theorem dX6_laysWay_118 : decode cX6_laysWay 118 = .ok (.putfield 297, 3) := dk_181 1 41 (dk_at dksX6_laysWay_5 1 rfl rfl)
theorem dX6_laysWay_121 : decode cX6_laysWay 121 = .ok (.aload_n 0, 1) := dk_42 (dk_at dksX6_laysWay_5 4 rfl rfl)
theorem dX6_laysWay_122 : decode cX6_laysWay 122 = .ok (.aload_n 0, 1) := dk_42 (dk_at dksX6_laysWay_5 5 rfl rfl)
theorem dX6_laysWay_123 : decode cX6_laysWay 123 = .ok (.getfield 294, 3) := dk_180 1 38 (dk_at dksX6_laysWay_5 6 rfl rfl)
theorem dX6_laysWay_126 : decode cX6_laysWay 126 = .ok (.invokevirtual 300, 3) := dk_182 1 44 (dk_at dksX6_laysWay_5 9 rfl rfl)
theorem dX6_laysWay_129 : decode cX6_laysWay 129 = .ok (.istore_n 1, 1) := dk_60 (dk_at dksX6_laysWay_5 12 rfl rfl)
theorem dX6_laysWay_130 : decode cX6_laysWay 130 = .ok (.iload_n 1, 1) := dk_27 (dk_at dksX6_laysWay_5 13 rfl rfl)
theorem dX6_laysWay_131 : decode cX6_laysWay 131 = .ok (.ifCond .lt 32, 3) := dk_155 0 32 (dk_at dksX6_laysWay_5 14 rfl rfl)
theorem dX6_laysWay_134 : decode cX6_laysWay 134 = .ok (.aload_n 0, 1) := dk_42 (dk_at dksX6_laysWay_5 17 rfl rfl)
theorem dX6_laysWay_135 : decode cX6_laysWay 135 = .ok (.getfield 65, 3) := dk_180 0 65 (dk_at dksX6_laysWay_5 18 rfl rfl)
theorem dX6_laysWay_138 : decode cX6_laysWay 138 = .ok (.aload_n 0, 1) := dk_42 (dk_at dksX6_laysWay_5 21 rfl rfl)
theorem dX6_laysWay_139 : decode cX6_laysWay 139 = .ok (.getfield 297, 3) := dk_180 1 41 (dk_at dksX6_laysWay_6 0 rfl rfl)
theorem dX6_laysWay_142 : decode cX6_laysWay 142 = .ok (.iload_n 1, 1) := dk_27 (dk_at dksX6_laysWay_6 3 rfl rfl)
theorem dX6_laysWay_143 : decode cX6_laysWay 143 = .ok (.iastore, 1) := dk_79 (dk_at dksX6_laysWay_6 4 rfl rfl)
theorem dX6_laysWay_144 : decode cX6_laysWay 144 = .ok (.aload_n 0, 1) := dk_42 (dk_at dksX6_laysWay_6 5 rfl rfl)
theorem dX6_laysWay_145 : decode cX6_laysWay 145 = .ok (.dup, 1) := dk_89 (dk_at dksX6_laysWay_6 6 rfl rfl)
theorem dX6_laysWay_146 : decode cX6_laysWay 146 = .ok (.getfield 297, 3) := dk_180 1 41 (dk_at dksX6_laysWay_6 7 rfl rfl)
theorem dX6_laysWay_149 : decode cX6_laysWay 149 = .ok (.iconst 1, 1) := dk_4 (dk_at dksX6_laysWay_6 10 rfl rfl)
theorem dX6_laysWay_150 : decode cX6_laysWay 150 = .ok (.iadd, 1) := dk_96 (dk_at dksX6_laysWay_6 11 rfl rfl)
theorem dX6_laysWay_151 : decode cX6_laysWay 151 = .ok (.putfield 297, 3) := dk_181 1 41 (dk_at dksX6_laysWay_6 12 rfl rfl)
theorem dX6_laysWay_154 : decode cX6_laysWay 154 = .ok (.aload_n 0, 1) := dk_42 (dk_at dksX6_laysWay_6 15 rfl rfl)
theorem dX6_laysWay_155 : decode cX6_laysWay 155 = .ok (.iload_n 1, 1) := dk_27 (dk_at dksX6_laysWay_6 16 rfl rfl)
theorem dX6_laysWay_156 : decode cX6_laysWay 156 = .ok (.invokevirtual 300, 3) := dk_182 1 44 (dk_at dksX6_laysWay_6 17 rfl rfl)
theorem dX6_laysWay_159 : decode cX6_laysWay 159 = .ok (.istore_n 1, 1) := dk_60 (dk_at dksX6_laysWay_6 20 rfl rfl)
theorem dX6_laysWay_160 : decode cX6_laysWay 160 = .ok (.goto (-30), 3) := dk_167 255 226 (dk_at dksX6_laysWay_6 21 rfl rfl)
theorem dX6_laysWay_163 : decode cX6_laysWay 163 = .ok (.return_, 1) := dk_177 (dk_at dksX6_laysWay_7 0 rfl rfl)
abbrev cX6_bestOn : ByteArray := prog_25_method_45_code
def yX6_bestOn : MethodName := ⟨RX6, "bestOn", "(I)I"⟩
def dkwX6_bestOn_2 : List UInt8 := [132, 3, 1, 167, 255, 209, 28, 172]
abbrev dktX6_bestOn_2 : List UInt8 := dkwX6_bestOn_2 ++ []
def dkwX6_bestOn_1 : List UInt8 := [160, 0, 24, 28, 155, 0, 18, 42, 180, 0, 62, 29, 46, 42, 180, 0, 62, 28, 46, 164, 0, 5, 29, 61]
abbrev dktX6_bestOn_1 : List UInt8 := dkwX6_bestOn_1 ++ dktX6_bestOn_2
def dkwX6_bestOn_0 : List UInt8 := [2, 61, 3, 62, 29, 42, 180, 0, 33, 5, 46, 162, 0, 43, 42, 180, 0, 33, 16, 12, 29, 96, 46, 27]
abbrev dktX6_bestOn_0 : List UInt8 := dkwX6_bestOn_0 ++ dktX6_bestOn_1
theorem dksX6_bestOn_0 : cX6_bestOn.data.toList.drop 0 = dktX6_bestOn_0 := by decide +kernel
theorem dksX6_bestOn_1 : cX6_bestOn.data.toList.drop 24 = dktX6_bestOn_1 := dk_seg dksX6_bestOn_0 24 rfl rfl
theorem dksX6_bestOn_2 : cX6_bestOn.data.toList.drop 48 = dktX6_bestOn_2 := dk_seg dksX6_bestOn_1 24 rfl rfl
theorem dX6_bestOn_0 : decode cX6_bestOn 0 = .ok (.iconst (-1), 1) := dk_2 (dk_at dksX6_bestOn_0 0 rfl rfl)
theorem dX6_bestOn_1 : decode cX6_bestOn 1 = .ok (.istore_n 2, 1) := dk_61 (dk_at dksX6_bestOn_0 1 rfl rfl)
theorem dX6_bestOn_2 : decode cX6_bestOn 2 = .ok (.iconst 0, 1) := dk_3 (dk_at dksX6_bestOn_0 2 rfl rfl)
theorem dX6_bestOn_3 : decode cX6_bestOn 3 = .ok (.istore_n 3, 1) := dk_62 (dk_at dksX6_bestOn_0 3 rfl rfl)
theorem dX6_bestOn_4 : decode cX6_bestOn 4 = .ok (.iload_n 3, 1) := dk_29 (dk_at dksX6_bestOn_0 4 rfl rfl)
theorem dX6_bestOn_5 : decode cX6_bestOn 5 = .ok (.aload_n 0, 1) := dk_42 (dk_at dksX6_bestOn_0 5 rfl rfl)
theorem dX6_bestOn_6 : decode cX6_bestOn 6 = .ok (.getfield 33, 3) := dk_180 0 33 (dk_at dksX6_bestOn_0 6 rfl rfl)
theorem dX6_bestOn_9 : decode cX6_bestOn 9 = .ok (.iconst 2, 1) := dk_5 (dk_at dksX6_bestOn_0 9 rfl rfl)
theorem dX6_bestOn_10 : decode cX6_bestOn 10 = .ok (.iaload, 1) := dk_46 (dk_at dksX6_bestOn_0 10 rfl rfl)
theorem dX6_bestOn_11 : decode cX6_bestOn 11 = .ok (.if_icmp .ge 43, 3) := dk_162 0 43 (dk_at dksX6_bestOn_0 11 rfl rfl)
theorem dX6_bestOn_14 : decode cX6_bestOn 14 = .ok (.aload_n 0, 1) := dk_42 (dk_at dksX6_bestOn_0 14 rfl rfl)
theorem dX6_bestOn_15 : decode cX6_bestOn 15 = .ok (.getfield 33, 3) := dk_180 0 33 (dk_at dksX6_bestOn_0 15 rfl rfl)
theorem dX6_bestOn_18 : decode cX6_bestOn 18 = .ok (.bipush 12, 2) := dk_16 12 (dk_at dksX6_bestOn_0 18 rfl rfl)
theorem dX6_bestOn_20 : decode cX6_bestOn 20 = .ok (.iload_n 3, 1) := dk_29 (dk_at dksX6_bestOn_0 20 rfl rfl)
theorem dX6_bestOn_21 : decode cX6_bestOn 21 = .ok (.iadd, 1) := dk_96 (dk_at dksX6_bestOn_0 21 rfl rfl)
theorem dX6_bestOn_22 : decode cX6_bestOn 22 = .ok (.iaload, 1) := dk_46 (dk_at dksX6_bestOn_0 22 rfl rfl)
theorem dX6_bestOn_23 : decode cX6_bestOn 23 = .ok (.iload_n 1, 1) := dk_27 (dk_at dksX6_bestOn_0 23 rfl rfl)
theorem dX6_bestOn_24 : decode cX6_bestOn 24 = .ok (.if_icmp .ne 24, 3) := dk_160 0 24 (dk_at dksX6_bestOn_1 0 rfl rfl)
theorem dX6_bestOn_27 : decode cX6_bestOn 27 = .ok (.iload_n 2, 1) := dk_28 (dk_at dksX6_bestOn_1 3 rfl rfl)
theorem dX6_bestOn_28 : decode cX6_bestOn 28 = .ok (.ifCond .lt 18, 3) := dk_155 0 18 (dk_at dksX6_bestOn_1 4 rfl rfl)
theorem dX6_bestOn_31 : decode cX6_bestOn 31 = .ok (.aload_n 0, 1) := dk_42 (dk_at dksX6_bestOn_1 7 rfl rfl)
theorem dX6_bestOn_32 : decode cX6_bestOn 32 = .ok (.getfield 62, 3) := dk_180 0 62 (dk_at dksX6_bestOn_1 8 rfl rfl)
theorem dX6_bestOn_35 : decode cX6_bestOn 35 = .ok (.iload_n 3, 1) := dk_29 (dk_at dksX6_bestOn_1 11 rfl rfl)
theorem dX6_bestOn_36 : decode cX6_bestOn 36 = .ok (.iaload, 1) := dk_46 (dk_at dksX6_bestOn_1 12 rfl rfl)
theorem dX6_bestOn_37 : decode cX6_bestOn 37 = .ok (.aload_n 0, 1) := dk_42 (dk_at dksX6_bestOn_1 13 rfl rfl)
theorem dX6_bestOn_38 : decode cX6_bestOn 38 = .ok (.getfield 62, 3) := dk_180 0 62 (dk_at dksX6_bestOn_1 14 rfl rfl)
theorem dX6_bestOn_41 : decode cX6_bestOn 41 = .ok (.iload_n 2, 1) := dk_28 (dk_at dksX6_bestOn_1 17 rfl rfl)
theorem dX6_bestOn_42 : decode cX6_bestOn 42 = .ok (.iaload, 1) := dk_46 (dk_at dksX6_bestOn_1 18 rfl rfl)
theorem dX6_bestOn_43 : decode cX6_bestOn 43 = .ok (.if_icmp .le 5, 3) := dk_164 0 5 (dk_at dksX6_bestOn_1 19 rfl rfl)
theorem dX6_bestOn_46 : decode cX6_bestOn 46 = .ok (.iload_n 3, 1) := dk_29 (dk_at dksX6_bestOn_1 22 rfl rfl)
theorem dX6_bestOn_47 : decode cX6_bestOn 47 = .ok (.istore_n 2, 1) := dk_61 (dk_at dksX6_bestOn_1 23 rfl rfl)
theorem dX6_bestOn_48 : decode cX6_bestOn 48 = .ok (.iinc 3 1, 3) := dk_132 3 1 (dk_at dksX6_bestOn_2 0 rfl rfl)
theorem dX6_bestOn_51 : decode cX6_bestOn 51 = .ok (.goto (-47), 3) := dk_167 255 209 (dk_at dksX6_bestOn_2 3 rfl rfl)
theorem dX6_bestOn_54 : decode cX6_bestOn 54 = .ok (.iload_n 2, 1) := dk_28 (dk_at dksX6_bestOn_2 6 rfl rfl)
theorem dX6_bestOn_55 : decode cX6_bestOn 55 = .ok (.ireturn, 1) := dk_172 (dk_at dksX6_bestOn_2 7 rfl rfl)
abbrev cX6_isPoint : ByteArray := prog_25_method_31_code
def yX6_isPoint : MethodName := ⟨RX6, "isPoint", "(I)Z"⟩
def dkwX6_isPoint_0 : List UInt8 := [42, 180, 0, 53, 27, 46, 42, 180, 0, 33, 3, 46, 112, 154, 0, 7, 4, 167, 0, 4, 3, 172]
abbrev dktX6_isPoint_0 : List UInt8 := dkwX6_isPoint_0 ++ []
theorem dksX6_isPoint_0 : cX6_isPoint.data.toList.drop 0 = dktX6_isPoint_0 := by decide +kernel
theorem dX6_isPoint_0 : decode cX6_isPoint 0 = .ok (.aload_n 0, 1) := dk_42 (dk_at dksX6_isPoint_0 0 rfl rfl)
theorem dX6_isPoint_1 : decode cX6_isPoint 1 = .ok (.getfield 53, 3) := dk_180 0 53 (dk_at dksX6_isPoint_0 1 rfl rfl)
theorem dX6_isPoint_4 : decode cX6_isPoint 4 = .ok (.iload_n 1, 1) := dk_27 (dk_at dksX6_isPoint_0 4 rfl rfl)
theorem dX6_isPoint_5 : decode cX6_isPoint 5 = .ok (.iaload, 1) := dk_46 (dk_at dksX6_isPoint_0 5 rfl rfl)
theorem dX6_isPoint_6 : decode cX6_isPoint 6 = .ok (.aload_n 0, 1) := dk_42 (dk_at dksX6_isPoint_0 6 rfl rfl)
theorem dX6_isPoint_7 : decode cX6_isPoint 7 = .ok (.getfield 33, 3) := dk_180 0 33 (dk_at dksX6_isPoint_0 7 rfl rfl)
theorem dX6_isPoint_10 : decode cX6_isPoint 10 = .ok (.iconst 0, 1) := dk_3 (dk_at dksX6_isPoint_0 10 rfl rfl)
theorem dX6_isPoint_11 : decode cX6_isPoint 11 = .ok (.iaload, 1) := dk_46 (dk_at dksX6_isPoint_0 11 rfl rfl)
theorem dX6_isPoint_12 : decode cX6_isPoint 12 = .ok (.irem, 1) := dk_112 (dk_at dksX6_isPoint_0 12 rfl rfl)
theorem dX6_isPoint_13 : decode cX6_isPoint 13 = .ok (.ifCond .ne 7, 3) := dk_154 0 7 (dk_at dksX6_isPoint_0 13 rfl rfl)
theorem dX6_isPoint_16 : decode cX6_isPoint 16 = .ok (.iconst 1, 1) := dk_4 (dk_at dksX6_isPoint_0 16 rfl rfl)
theorem dX6_isPoint_17 : decode cX6_isPoint 17 = .ok (.goto 4, 3) := dk_167 0 4 (dk_at dksX6_isPoint_0 17 rfl rfl)
theorem dX6_isPoint_20 : decode cX6_isPoint 20 = .ok (.iconst 0, 1) := dk_3 (dk_at dksX6_isPoint_0 20 rfl rfl)
theorem dX6_isPoint_21 : decode cX6_isPoint 21 = .ok (.ireturn, 1) := dk_172 (dk_at dksX6_isPoint_0 21 rfl rfl)
abbrev cX6_on : ByteArray := prog_25_method_47_code
def yX6_on : MethodName := ⟨RX6, "on", "(I)I"⟩
def dkwX6_on_1 : List UInt8 := [160, 0, 9, 28, 4, 29, 120, 128, 61, 132, 3, 1, 167, 255, 224, 28, 172]
abbrev dktX6_on_1 : List UInt8 := dkwX6_on_1 ++ []
def dkwX6_on_0 : List UInt8 := [3, 61, 3, 62, 29, 42, 180, 0, 33, 5, 46, 162, 0, 28, 42, 180, 0, 33, 16, 12, 29, 96, 46, 27]
abbrev dktX6_on_0 : List UInt8 := dkwX6_on_0 ++ dktX6_on_1
theorem dksX6_on_0 : cX6_on.data.toList.drop 0 = dktX6_on_0 := by decide +kernel
theorem dksX6_on_1 : cX6_on.data.toList.drop 24 = dktX6_on_1 := dk_seg dksX6_on_0 24 rfl rfl
theorem dX6_on_0 : decode cX6_on 0 = .ok (.iconst 0, 1) := dk_3 (dk_at dksX6_on_0 0 rfl rfl)
theorem dX6_on_1 : decode cX6_on 1 = .ok (.istore_n 2, 1) := dk_61 (dk_at dksX6_on_0 1 rfl rfl)
theorem dX6_on_2 : decode cX6_on 2 = .ok (.iconst 0, 1) := dk_3 (dk_at dksX6_on_0 2 rfl rfl)
theorem dX6_on_3 : decode cX6_on 3 = .ok (.istore_n 3, 1) := dk_62 (dk_at dksX6_on_0 3 rfl rfl)
theorem dX6_on_4 : decode cX6_on 4 = .ok (.iload_n 3, 1) := dk_29 (dk_at dksX6_on_0 4 rfl rfl)
theorem dX6_on_5 : decode cX6_on 5 = .ok (.aload_n 0, 1) := dk_42 (dk_at dksX6_on_0 5 rfl rfl)
theorem dX6_on_6 : decode cX6_on 6 = .ok (.getfield 33, 3) := dk_180 0 33 (dk_at dksX6_on_0 6 rfl rfl)
theorem dX6_on_9 : decode cX6_on 9 = .ok (.iconst 2, 1) := dk_5 (dk_at dksX6_on_0 9 rfl rfl)
theorem dX6_on_10 : decode cX6_on 10 = .ok (.iaload, 1) := dk_46 (dk_at dksX6_on_0 10 rfl rfl)
theorem dX6_on_11 : decode cX6_on 11 = .ok (.if_icmp .ge 28, 3) := dk_162 0 28 (dk_at dksX6_on_0 11 rfl rfl)
theorem dX6_on_14 : decode cX6_on 14 = .ok (.aload_n 0, 1) := dk_42 (dk_at dksX6_on_0 14 rfl rfl)
theorem dX6_on_15 : decode cX6_on 15 = .ok (.getfield 33, 3) := dk_180 0 33 (dk_at dksX6_on_0 15 rfl rfl)
theorem dX6_on_18 : decode cX6_on 18 = .ok (.bipush 12, 2) := dk_16 12 (dk_at dksX6_on_0 18 rfl rfl)
theorem dX6_on_20 : decode cX6_on 20 = .ok (.iload_n 3, 1) := dk_29 (dk_at dksX6_on_0 20 rfl rfl)
theorem dX6_on_21 : decode cX6_on 21 = .ok (.iadd, 1) := dk_96 (dk_at dksX6_on_0 21 rfl rfl)
theorem dX6_on_22 : decode cX6_on 22 = .ok (.iaload, 1) := dk_46 (dk_at dksX6_on_0 22 rfl rfl)
theorem dX6_on_23 : decode cX6_on 23 = .ok (.iload_n 1, 1) := dk_27 (dk_at dksX6_on_0 23 rfl rfl)
theorem dX6_on_24 : decode cX6_on 24 = .ok (.if_icmp .ne 9, 3) := dk_160 0 9 (dk_at dksX6_on_1 0 rfl rfl)
theorem dX6_on_27 : decode cX6_on 27 = .ok (.iload_n 2, 1) := dk_28 (dk_at dksX6_on_1 3 rfl rfl)
theorem dX6_on_28 : decode cX6_on 28 = .ok (.iconst 1, 1) := dk_4 (dk_at dksX6_on_1 4 rfl rfl)
theorem dX6_on_29 : decode cX6_on 29 = .ok (.iload_n 3, 1) := dk_29 (dk_at dksX6_on_1 5 rfl rfl)
theorem dX6_on_30 : decode cX6_on 30 = .ok (.ishl, 1) := dk_120 (dk_at dksX6_on_1 6 rfl rfl)
theorem dX6_on_31 : decode cX6_on 31 = .ok (.ior, 1) := dk_128 (dk_at dksX6_on_1 7 rfl rfl)
theorem dX6_on_32 : decode cX6_on 32 = .ok (.istore_n 2, 1) := dk_61 (dk_at dksX6_on_1 8 rfl rfl)
theorem dX6_on_33 : decode cX6_on 33 = .ok (.iinc 3 1, 3) := dk_132 3 1 (dk_at dksX6_on_1 9 rfl rfl)
theorem dX6_on_36 : decode cX6_on 36 = .ok (.goto (-32), 3) := dk_167 255 224 (dk_at dksX6_on_1 12 rfl rfl)
theorem dX6_on_39 : decode cX6_on 39 = .ok (.iload_n 2, 1) := dk_28 (dk_at dksX6_on_1 15 rfl rfl)
theorem dX6_on_40 : decode cX6_on 40 = .ok (.ireturn, 1) := dk_172 (dk_at dksX6_on_1 16 rfl rfl)
abbrev cX6_truth : ByteArray := prog_25_method_48_code
def yX6_truth : MethodName := ⟨RX6, "truth", "(Z)I"⟩
def dkwX6_truth_0 : List UInt8 := [26, 153, 0, 7, 4, 167, 0, 4, 3, 172]
abbrev dktX6_truth_0 : List UInt8 := dkwX6_truth_0 ++ []
theorem dksX6_truth_0 : cX6_truth.data.toList.drop 0 = dktX6_truth_0 := by decide +kernel
theorem dX6_truth_0 : decode cX6_truth 0 = .ok (.iload_n 0, 1) := dk_26 (dk_at dksX6_truth_0 0 rfl rfl)
theorem dX6_truth_1 : decode cX6_truth 1 = .ok (.ifCond .eq 7, 3) := dk_153 0 7 (dk_at dksX6_truth_0 1 rfl rfl)
theorem dX6_truth_4 : decode cX6_truth 4 = .ok (.iconst 1, 1) := dk_4 (dk_at dksX6_truth_0 4 rfl rfl)
theorem dX6_truth_5 : decode cX6_truth 5 = .ok (.goto 4, 3) := dk_167 0 4 (dk_at dksX6_truth_0 5 rfl rfl)
theorem dX6_truth_8 : decode cX6_truth 8 = .ok (.iconst 0, 1) := dk_3 (dk_at dksX6_truth_0 8 rfl rfl)
theorem dX6_truth_9 : decode cX6_truth 9 = .ok (.ireturn, 1) := dk_172 (dk_at dksX6_truth_0 9 rfl rfl)
abbrev cX6_ahead : ByteArray := prog_25_method_50_code
def yX6_ahead : MethodName := ⟨RX6, "ahead", "(II)I"⟩
def dkwX6_ahead_1 : List UInt8 := [182, 1, 66, 42, 27, 28, 182, 1, 79, 184, 1, 75, 172]
abbrev dktX6_ahead_1 : List UInt8 := dkwX6_ahead_1 ++ []
def dkwX6_ahead_0 : List UInt8 := [42, 3, 181, 0, 1, 42, 27, 182, 1, 59, 153, 0, 11, 42, 28, 182, 1, 59, 154, 0, 5, 2, 172, 42]
abbrev dktX6_ahead_0 : List UInt8 := dkwX6_ahead_0 ++ dktX6_ahead_1
theorem dksX6_ahead_0 : cX6_ahead.data.toList.drop 0 = dktX6_ahead_0 := by decide +kernel
theorem dksX6_ahead_1 : cX6_ahead.data.toList.drop 24 = dktX6_ahead_1 := dk_seg dksX6_ahead_0 24 rfl rfl
theorem dX6_ahead_0 : decode cX6_ahead 0 = .ok (.aload_n 0, 1) := dk_42 (dk_at dksX6_ahead_0 0 rfl rfl)
theorem dX6_ahead_1 : decode cX6_ahead 1 = .ok (.iconst 0, 1) := dk_3 (dk_at dksX6_ahead_0 1 rfl rfl)
theorem dX6_ahead_2 : decode cX6_ahead 2 = .ok (.putfield 1, 3) := dk_181 0 1 (dk_at dksX6_ahead_0 2 rfl rfl)
theorem dX6_ahead_5 : decode cX6_ahead 5 = .ok (.aload_n 0, 1) := dk_42 (dk_at dksX6_ahead_0 5 rfl rfl)
theorem dX6_ahead_6 : decode cX6_ahead 6 = .ok (.iload_n 1, 1) := dk_27 (dk_at dksX6_ahead_0 6 rfl rfl)
theorem dX6_ahead_7 : decode cX6_ahead 7 = .ok (.invokevirtual 315, 3) := dk_182 1 59 (dk_at dksX6_ahead_0 7 rfl rfl)
theorem dX6_ahead_10 : decode cX6_ahead 10 = .ok (.ifCond .eq 11, 3) := dk_153 0 11 (dk_at dksX6_ahead_0 10 rfl rfl)
theorem dX6_ahead_13 : decode cX6_ahead 13 = .ok (.aload_n 0, 1) := dk_42 (dk_at dksX6_ahead_0 13 rfl rfl)
theorem dX6_ahead_14 : decode cX6_ahead 14 = .ok (.iload_n 2, 1) := dk_28 (dk_at dksX6_ahead_0 14 rfl rfl)
theorem dX6_ahead_15 : decode cX6_ahead 15 = .ok (.invokevirtual 315, 3) := dk_182 1 59 (dk_at dksX6_ahead_0 15 rfl rfl)
theorem dX6_ahead_18 : decode cX6_ahead 18 = .ok (.ifCond .ne 5, 3) := dk_154 0 5 (dk_at dksX6_ahead_0 18 rfl rfl)
theorem dX6_ahead_21 : decode cX6_ahead 21 = .ok (.iconst (-1), 1) := dk_2 (dk_at dksX6_ahead_0 21 rfl rfl)
theorem dX6_ahead_22 : decode cX6_ahead 22 = .ok (.ireturn, 1) := dk_172 (dk_at dksX6_ahead_0 22 rfl rfl)
theorem dX6_ahead_23 : decode cX6_ahead 23 = .ok (.aload_n 0, 1) := dk_42 (dk_at dksX6_ahead_0 23 rfl rfl)
theorem dX6_ahead_24 : decode cX6_ahead 24 = .ok (.invokevirtual 322, 3) := dk_182 1 66 (dk_at dksX6_ahead_1 0 rfl rfl)
theorem dX6_ahead_27 : decode cX6_ahead 27 = .ok (.aload_n 0, 1) := dk_42 (dk_at dksX6_ahead_1 3 rfl rfl)
theorem dX6_ahead_28 : decode cX6_ahead 28 = .ok (.iload_n 1, 1) := dk_27 (dk_at dksX6_ahead_1 4 rfl rfl)
theorem dX6_ahead_29 : decode cX6_ahead 29 = .ok (.iload_n 2, 1) := dk_28 (dk_at dksX6_ahead_1 5 rfl rfl)
theorem dX6_ahead_30 : decode cX6_ahead 30 = .ok (.invokevirtual 335, 3) := dk_182 1 79 (dk_at dksX6_ahead_1 6 rfl rfl)
theorem dX6_ahead_33 : decode cX6_ahead 33 = .ok (.invokestatic 331, 3) := dk_184 1 75 (dk_at dksX6_ahead_1 9 rfl rfl)
theorem dX6_ahead_36 : decode cX6_ahead 36 = .ok (.ireturn, 1) := dk_172 (dk_at dksX6_ahead_1 12 rfl rfl)
abbrev cX6_isAhead : ByteArray := prog_25_method_33_code
def yX6_isAhead : MethodName := ⟨RX6, "isAhead", "(II)Z"⟩
def dkwX6_isAhead_0 : List UInt8 := [42, 180, 0, 56, 28, 46, 27, 184, 0, 246, 172]
abbrev dktX6_isAhead_0 : List UInt8 := dkwX6_isAhead_0 ++ []
theorem dksX6_isAhead_0 : cX6_isAhead.data.toList.drop 0 = dktX6_isAhead_0 := by decide +kernel
theorem dX6_isAhead_0 : decode cX6_isAhead 0 = .ok (.aload_n 0, 1) := dk_42 (dk_at dksX6_isAhead_0 0 rfl rfl)
theorem dX6_isAhead_1 : decode cX6_isAhead 1 = .ok (.getfield 56, 3) := dk_180 0 56 (dk_at dksX6_isAhead_0 1 rfl rfl)
theorem dX6_isAhead_4 : decode cX6_isAhead 4 = .ok (.iload_n 2, 1) := dk_28 (dk_at dksX6_isAhead_0 4 rfl rfl)
theorem dX6_isAhead_5 : decode cX6_isAhead 5 = .ok (.iaload, 1) := dk_46 (dk_at dksX6_isAhead_0 5 rfl rfl)
theorem dX6_isAhead_6 : decode cX6_isAhead 6 = .ok (.iload_n 1, 1) := dk_27 (dk_at dksX6_isAhead_0 6 rfl rfl)
theorem dX6_isAhead_7 : decode cX6_isAhead 7 = .ok (.invokestatic 246, 3) := dk_184 0 246 (dk_at dksX6_isAhead_0 7 rfl rfl)
theorem dX6_isAhead_10 : decode cX6_isAhead 10 = .ok (.ireturn, 1) := dk_172 (dk_at dksX6_isAhead_0 10 rfl rfl)
abbrev cX6_fork : ByteArray := prog_25_method_51_code
def yX6_fork : MethodName := ⟨RX6, "fork", "(II)I"⟩
def dkwX6_fork_4 : List UInt8 := [132, 5, 1, 167, 255, 212, 21, 4, 172]
abbrev dktX6_fork_4 : List UInt8 := dkwX6_fork_4 ++ []
def dkwX6_fork_3 : List UInt8 := [153, 0, 24, 42, 180, 0, 53, 21, 5, 46, 42, 180, 0, 53, 21, 4, 46, 164, 0, 7, 21, 5, 54, 4]
abbrev dktX6_fork_3 : List UInt8 := dkwX6_fork_3 ++ dktX6_fork_4
def dkwX6_fork_2 : List UInt8 := [62, 3, 54, 4, 3, 54, 5, 21, 5, 42, 180, 0, 33, 5, 46, 162, 0, 39, 29, 21, 5, 184, 0, 246]
abbrev dktX6_fork_2 : List UInt8 := dkwX6_fork_2 ++ dktX6_fork_3
def dkwX6_fork_1 : List UInt8 := [182, 1, 66, 42, 180, 0, 56, 27, 46, 4, 27, 120, 128, 42, 180, 0, 56, 28, 46, 4, 28, 120, 128, 126]
abbrev dktX6_fork_1 : List UInt8 := dkwX6_fork_1 ++ dktX6_fork_2
def dkwX6_fork_0 : List UInt8 := [42, 3, 181, 0, 1, 42, 27, 182, 1, 59, 153, 0, 11, 42, 28, 182, 1, 59, 154, 0, 5, 2, 172, 42]
abbrev dktX6_fork_0 : List UInt8 := dkwX6_fork_0 ++ dktX6_fork_1
theorem dksX6_fork_0 : cX6_fork.data.toList.drop 0 = dktX6_fork_0 := by decide +kernel
theorem dksX6_fork_1 : cX6_fork.data.toList.drop 24 = dktX6_fork_1 := dk_seg dksX6_fork_0 24 rfl rfl
theorem dksX6_fork_2 : cX6_fork.data.toList.drop 48 = dktX6_fork_2 := dk_seg dksX6_fork_1 24 rfl rfl
theorem dksX6_fork_3 : cX6_fork.data.toList.drop 72 = dktX6_fork_3 := dk_seg dksX6_fork_2 24 rfl rfl
theorem dksX6_fork_4 : cX6_fork.data.toList.drop 96 = dktX6_fork_4 := dk_seg dksX6_fork_3 24 rfl rfl
theorem dX6_fork_0 : decode cX6_fork 0 = .ok (.aload_n 0, 1) := dk_42 (dk_at dksX6_fork_0 0 rfl rfl)
theorem dX6_fork_1 : decode cX6_fork 1 = .ok (.iconst 0, 1) := dk_3 (dk_at dksX6_fork_0 1 rfl rfl)
theorem dX6_fork_2 : decode cX6_fork 2 = .ok (.putfield 1, 3) := dk_181 0 1 (dk_at dksX6_fork_0 2 rfl rfl)
theorem dX6_fork_5 : decode cX6_fork 5 = .ok (.aload_n 0, 1) := dk_42 (dk_at dksX6_fork_0 5 rfl rfl)
theorem dX6_fork_6 : decode cX6_fork 6 = .ok (.iload_n 1, 1) := dk_27 (dk_at dksX6_fork_0 6 rfl rfl)
theorem dX6_fork_7 : decode cX6_fork 7 = .ok (.invokevirtual 315, 3) := dk_182 1 59 (dk_at dksX6_fork_0 7 rfl rfl)
theorem dX6_fork_10 : decode cX6_fork 10 = .ok (.ifCond .eq 11, 3) := dk_153 0 11 (dk_at dksX6_fork_0 10 rfl rfl)
theorem dX6_fork_13 : decode cX6_fork 13 = .ok (.aload_n 0, 1) := dk_42 (dk_at dksX6_fork_0 13 rfl rfl)
theorem dX6_fork_14 : decode cX6_fork 14 = .ok (.iload_n 2, 1) := dk_28 (dk_at dksX6_fork_0 14 rfl rfl)
theorem dX6_fork_15 : decode cX6_fork 15 = .ok (.invokevirtual 315, 3) := dk_182 1 59 (dk_at dksX6_fork_0 15 rfl rfl)
theorem dX6_fork_18 : decode cX6_fork 18 = .ok (.ifCond .ne 5, 3) := dk_154 0 5 (dk_at dksX6_fork_0 18 rfl rfl)
theorem dX6_fork_21 : decode cX6_fork 21 = .ok (.iconst (-1), 1) := dk_2 (dk_at dksX6_fork_0 21 rfl rfl)
theorem dX6_fork_22 : decode cX6_fork 22 = .ok (.ireturn, 1) := dk_172 (dk_at dksX6_fork_0 22 rfl rfl)
theorem dX6_fork_23 : decode cX6_fork 23 = .ok (.aload_n 0, 1) := dk_42 (dk_at dksX6_fork_0 23 rfl rfl)
theorem dX6_fork_24 : decode cX6_fork 24 = .ok (.invokevirtual 322, 3) := dk_182 1 66 (dk_at dksX6_fork_1 0 rfl rfl)
theorem dX6_fork_27 : decode cX6_fork 27 = .ok (.aload_n 0, 1) := dk_42 (dk_at dksX6_fork_1 3 rfl rfl)
theorem dX6_fork_28 : decode cX6_fork 28 = .ok (.getfield 56, 3) := dk_180 0 56 (dk_at dksX6_fork_1 4 rfl rfl)
theorem dX6_fork_31 : decode cX6_fork 31 = .ok (.iload_n 1, 1) := dk_27 (dk_at dksX6_fork_1 7 rfl rfl)
theorem dX6_fork_32 : decode cX6_fork 32 = .ok (.iaload, 1) := dk_46 (dk_at dksX6_fork_1 8 rfl rfl)
theorem dX6_fork_33 : decode cX6_fork 33 = .ok (.iconst 1, 1) := dk_4 (dk_at dksX6_fork_1 9 rfl rfl)
theorem dX6_fork_34 : decode cX6_fork 34 = .ok (.iload_n 1, 1) := dk_27 (dk_at dksX6_fork_1 10 rfl rfl)
theorem dX6_fork_35 : decode cX6_fork 35 = .ok (.ishl, 1) := dk_120 (dk_at dksX6_fork_1 11 rfl rfl)
theorem dX6_fork_36 : decode cX6_fork 36 = .ok (.ior, 1) := dk_128 (dk_at dksX6_fork_1 12 rfl rfl)
theorem dX6_fork_37 : decode cX6_fork 37 = .ok (.aload_n 0, 1) := dk_42 (dk_at dksX6_fork_1 13 rfl rfl)
theorem dX6_fork_38 : decode cX6_fork 38 = .ok (.getfield 56, 3) := dk_180 0 56 (dk_at dksX6_fork_1 14 rfl rfl)
theorem dX6_fork_41 : decode cX6_fork 41 = .ok (.iload_n 2, 1) := dk_28 (dk_at dksX6_fork_1 17 rfl rfl)
theorem dX6_fork_42 : decode cX6_fork 42 = .ok (.iaload, 1) := dk_46 (dk_at dksX6_fork_1 18 rfl rfl)
theorem dX6_fork_43 : decode cX6_fork 43 = .ok (.iconst 1, 1) := dk_4 (dk_at dksX6_fork_1 19 rfl rfl)
theorem dX6_fork_44 : decode cX6_fork 44 = .ok (.iload_n 2, 1) := dk_28 (dk_at dksX6_fork_1 20 rfl rfl)
theorem dX6_fork_45 : decode cX6_fork 45 = .ok (.ishl, 1) := dk_120 (dk_at dksX6_fork_1 21 rfl rfl)
theorem dX6_fork_46 : decode cX6_fork 46 = .ok (.ior, 1) := dk_128 (dk_at dksX6_fork_1 22 rfl rfl)
theorem dX6_fork_47 : decode cX6_fork 47 = .ok (.iand, 1) := dk_126 (dk_at dksX6_fork_1 23 rfl rfl)
theorem dX6_fork_48 : decode cX6_fork 48 = .ok (.istore_n 3, 1) := dk_62 (dk_at dksX6_fork_2 0 rfl rfl)
theorem dX6_fork_49 : decode cX6_fork 49 = .ok (.iconst 0, 1) := dk_3 (dk_at dksX6_fork_2 1 rfl rfl)
theorem dX6_fork_50 : decode cX6_fork 50 = .ok (.istore 4, 2) := dk_54 4 (dk_at dksX6_fork_2 2 rfl rfl)
theorem dX6_fork_52 : decode cX6_fork 52 = .ok (.iconst 0, 1) := dk_3 (dk_at dksX6_fork_2 4 rfl rfl)
theorem dX6_fork_53 : decode cX6_fork 53 = .ok (.istore 5, 2) := dk_54 5 (dk_at dksX6_fork_2 5 rfl rfl)
theorem dX6_fork_55 : decode cX6_fork 55 = .ok (.iload 5, 2) := dk_21 5 (dk_at dksX6_fork_2 7 rfl rfl)
theorem dX6_fork_57 : decode cX6_fork 57 = .ok (.aload_n 0, 1) := dk_42 (dk_at dksX6_fork_2 9 rfl rfl)
theorem dX6_fork_58 : decode cX6_fork 58 = .ok (.getfield 33, 3) := dk_180 0 33 (dk_at dksX6_fork_2 10 rfl rfl)
theorem dX6_fork_61 : decode cX6_fork 61 = .ok (.iconst 2, 1) := dk_5 (dk_at dksX6_fork_2 13 rfl rfl)
theorem dX6_fork_62 : decode cX6_fork 62 = .ok (.iaload, 1) := dk_46 (dk_at dksX6_fork_2 14 rfl rfl)
theorem dX6_fork_63 : decode cX6_fork 63 = .ok (.if_icmp .ge 39, 3) := dk_162 0 39 (dk_at dksX6_fork_2 15 rfl rfl)
theorem dX6_fork_66 : decode cX6_fork 66 = .ok (.iload_n 3, 1) := dk_29 (dk_at dksX6_fork_2 18 rfl rfl)
theorem dX6_fork_67 : decode cX6_fork 67 = .ok (.iload 5, 2) := dk_21 5 (dk_at dksX6_fork_2 19 rfl rfl)
theorem dX6_fork_69 : decode cX6_fork 69 = .ok (.invokestatic 246, 3) := dk_184 0 246 (dk_at dksX6_fork_2 21 rfl rfl)
theorem dX6_fork_72 : decode cX6_fork 72 = .ok (.ifCond .eq 24, 3) := dk_153 0 24 (dk_at dksX6_fork_3 0 rfl rfl)
theorem dX6_fork_75 : decode cX6_fork 75 = .ok (.aload_n 0, 1) := dk_42 (dk_at dksX6_fork_3 3 rfl rfl)
theorem dX6_fork_76 : decode cX6_fork 76 = .ok (.getfield 53, 3) := dk_180 0 53 (dk_at dksX6_fork_3 4 rfl rfl)
theorem dX6_fork_79 : decode cX6_fork 79 = .ok (.iload 5, 2) := dk_21 5 (dk_at dksX6_fork_3 7 rfl rfl)
theorem dX6_fork_81 : decode cX6_fork 81 = .ok (.iaload, 1) := dk_46 (dk_at dksX6_fork_3 9 rfl rfl)
theorem dX6_fork_82 : decode cX6_fork 82 = .ok (.aload_n 0, 1) := dk_42 (dk_at dksX6_fork_3 10 rfl rfl)
theorem dX6_fork_83 : decode cX6_fork 83 = .ok (.getfield 53, 3) := dk_180 0 53 (dk_at dksX6_fork_3 11 rfl rfl)
theorem dX6_fork_86 : decode cX6_fork 86 = .ok (.iload 4, 2) := dk_21 4 (dk_at dksX6_fork_3 14 rfl rfl)
theorem dX6_fork_88 : decode cX6_fork 88 = .ok (.iaload, 1) := dk_46 (dk_at dksX6_fork_3 16 rfl rfl)
theorem dX6_fork_89 : decode cX6_fork 89 = .ok (.if_icmp .le 7, 3) := dk_164 0 7 (dk_at dksX6_fork_3 17 rfl rfl)
theorem dX6_fork_92 : decode cX6_fork 92 = .ok (.iload 5, 2) := dk_21 5 (dk_at dksX6_fork_3 20 rfl rfl)
theorem dX6_fork_94 : decode cX6_fork 94 = .ok (.istore 4, 2) := dk_54 4 (dk_at dksX6_fork_3 22 rfl rfl)
theorem dX6_fork_96 : decode cX6_fork 96 = .ok (.iinc 5 1, 3) := dk_132 5 1 (dk_at dksX6_fork_4 0 rfl rfl)
theorem dX6_fork_99 : decode cX6_fork 99 = .ok (.goto (-44), 3) := dk_167 255 212 (dk_at dksX6_fork_4 3 rfl rfl)
theorem dX6_fork_102 : decode cX6_fork 102 = .ok (.iload 4, 2) := dk_21 4 (dk_at dksX6_fork_4 6 rfl rfl)
theorem dX6_fork_104 : decode cX6_fork 104 = .ok (.ireturn, 1) := dk_172 (dk_at dksX6_fork_4 8 rfl rfl)
abbrev cX6_weight : ByteArray := prog_25_method_52_code
def yX6_weight : MethodName := ⟨RX6, "weight", "(II)I"⟩
def dkwX6_weight_1 : List UInt8 := [182, 1, 66, 42, 27, 182, 1, 69, 153, 0, 12, 42, 27, 28, 182, 0, 253, 167, 0, 4, 2, 172]
abbrev dktX6_weight_1 : List UInt8 := dkwX6_weight_1 ++ []
def dkwX6_weight_0 : List UInt8 := [42, 3, 181, 0, 1, 42, 27, 182, 1, 59, 153, 0, 11, 42, 28, 182, 1, 82, 154, 0, 5, 2, 172, 42]
abbrev dktX6_weight_0 : List UInt8 := dkwX6_weight_0 ++ dktX6_weight_1
theorem dksX6_weight_0 : cX6_weight.data.toList.drop 0 = dktX6_weight_0 := by decide +kernel
theorem dksX6_weight_1 : cX6_weight.data.toList.drop 24 = dktX6_weight_1 := dk_seg dksX6_weight_0 24 rfl rfl
theorem dX6_weight_0 : decode cX6_weight 0 = .ok (.aload_n 0, 1) := dk_42 (dk_at dksX6_weight_0 0 rfl rfl)
theorem dX6_weight_1 : decode cX6_weight 1 = .ok (.iconst 0, 1) := dk_3 (dk_at dksX6_weight_0 1 rfl rfl)
theorem dX6_weight_2 : decode cX6_weight 2 = .ok (.putfield 1, 3) := dk_181 0 1 (dk_at dksX6_weight_0 2 rfl rfl)
theorem dX6_weight_5 : decode cX6_weight 5 = .ok (.aload_n 0, 1) := dk_42 (dk_at dksX6_weight_0 5 rfl rfl)
theorem dX6_weight_6 : decode cX6_weight 6 = .ok (.iload_n 1, 1) := dk_27 (dk_at dksX6_weight_0 6 rfl rfl)
theorem dX6_weight_7 : decode cX6_weight 7 = .ok (.invokevirtual 315, 3) := dk_182 1 59 (dk_at dksX6_weight_0 7 rfl rfl)
theorem dX6_weight_10 : decode cX6_weight 10 = .ok (.ifCond .eq 11, 3) := dk_153 0 11 (dk_at dksX6_weight_0 10 rfl rfl)
theorem dX6_weight_13 : decode cX6_weight 13 = .ok (.aload_n 0, 1) := dk_42 (dk_at dksX6_weight_0 13 rfl rfl)
theorem dX6_weight_14 : decode cX6_weight 14 = .ok (.iload_n 2, 1) := dk_28 (dk_at dksX6_weight_0 14 rfl rfl)
theorem dX6_weight_15 : decode cX6_weight 15 = .ok (.invokevirtual 338, 3) := dk_182 1 82 (dk_at dksX6_weight_0 15 rfl rfl)
theorem dX6_weight_18 : decode cX6_weight 18 = .ok (.ifCond .ne 5, 3) := dk_154 0 5 (dk_at dksX6_weight_0 18 rfl rfl)
theorem dX6_weight_21 : decode cX6_weight 21 = .ok (.iconst (-1), 1) := dk_2 (dk_at dksX6_weight_0 21 rfl rfl)
theorem dX6_weight_22 : decode cX6_weight 22 = .ok (.ireturn, 1) := dk_172 (dk_at dksX6_weight_0 22 rfl rfl)
theorem dX6_weight_23 : decode cX6_weight 23 = .ok (.aload_n 0, 1) := dk_42 (dk_at dksX6_weight_0 23 rfl rfl)
theorem dX6_weight_24 : decode cX6_weight 24 = .ok (.invokevirtual 322, 3) := dk_182 1 66 (dk_at dksX6_weight_1 0 rfl rfl)
theorem dX6_weight_27 : decode cX6_weight 27 = .ok (.aload_n 0, 1) := dk_42 (dk_at dksX6_weight_1 3 rfl rfl)
theorem dX6_weight_28 : decode cX6_weight 28 = .ok (.iload_n 1, 1) := dk_27 (dk_at dksX6_weight_1 4 rfl rfl)
theorem dX6_weight_29 : decode cX6_weight 29 = .ok (.invokevirtual 325, 3) := dk_182 1 69 (dk_at dksX6_weight_1 5 rfl rfl)
theorem dX6_weight_32 : decode cX6_weight 32 = .ok (.ifCond .eq 12, 3) := dk_153 0 12 (dk_at dksX6_weight_1 8 rfl rfl)
theorem dX6_weight_35 : decode cX6_weight 35 = .ok (.aload_n 0, 1) := dk_42 (dk_at dksX6_weight_1 11 rfl rfl)
theorem dX6_weight_36 : decode cX6_weight 36 = .ok (.iload_n 1, 1) := dk_27 (dk_at dksX6_weight_1 12 rfl rfl)
theorem dX6_weight_37 : decode cX6_weight 37 = .ok (.iload_n 2, 1) := dk_28 (dk_at dksX6_weight_1 13 rfl rfl)
theorem dX6_weight_38 : decode cX6_weight 38 = .ok (.invokevirtual 253, 3) := dk_182 0 253 (dk_at dksX6_weight_1 14 rfl rfl)
theorem dX6_weight_41 : decode cX6_weight 41 = .ok (.goto 4, 3) := dk_167 0 4 (dk_at dksX6_weight_1 17 rfl rfl)
theorem dX6_weight_44 : decode cX6_weight 44 = .ok (.iconst (-1), 1) := dk_2 (dk_at dksX6_weight_1 20 rfl rfl)
theorem dX6_weight_45 : decode cX6_weight 45 = .ok (.ireturn, 1) := dk_172 (dk_at dksX6_weight_1 21 rfl rfl)
abbrev cX6_isVoter : ByteArray := prog_25_method_30_code
def yX6_isVoter : MethodName := ⟨RX6, "isVoter", "(I)Z"⟩
def dkwX6_isVoter_0 : List UInt8 := [27, 3, 42, 180, 0, 33, 4, 46, 4, 100, 184, 0, 189, 172]
abbrev dktX6_isVoter_0 : List UInt8 := dkwX6_isVoter_0 ++ []
theorem dksX6_isVoter_0 : cX6_isVoter.data.toList.drop 0 = dktX6_isVoter_0 := by decide +kernel
theorem dX6_isVoter_0 : decode cX6_isVoter 0 = .ok (.iload_n 1, 1) := dk_27 (dk_at dksX6_isVoter_0 0 rfl rfl)
theorem dX6_isVoter_1 : decode cX6_isVoter 1 = .ok (.iconst 0, 1) := dk_3 (dk_at dksX6_isVoter_0 1 rfl rfl)
theorem dX6_isVoter_2 : decode cX6_isVoter 2 = .ok (.aload_n 0, 1) := dk_42 (dk_at dksX6_isVoter_0 2 rfl rfl)
theorem dX6_isVoter_3 : decode cX6_isVoter 3 = .ok (.getfield 33, 3) := dk_180 0 33 (dk_at dksX6_isVoter_0 3 rfl rfl)
theorem dX6_isVoter_6 : decode cX6_isVoter 6 = .ok (.iconst 1, 1) := dk_4 (dk_at dksX6_isVoter_0 6 rfl rfl)
theorem dX6_isVoter_7 : decode cX6_isVoter 7 = .ok (.iaload, 1) := dk_46 (dk_at dksX6_isVoter_0 7 rfl rfl)
theorem dX6_isVoter_8 : decode cX6_isVoter 8 = .ok (.iconst 1, 1) := dk_4 (dk_at dksX6_isVoter_0 8 rfl rfl)
theorem dX6_isVoter_9 : decode cX6_isVoter 9 = .ok (.isub, 1) := dk_100 (dk_at dksX6_isVoter_0 9 rfl rfl)
theorem dX6_isVoter_10 : decode cX6_isVoter 10 = .ok (.invokestatic 189, 3) := dk_184 0 189 (dk_at dksX6_isVoter_0 10 rfl rfl)
theorem dX6_isVoter_13 : decode cX6_isVoter 13 = .ok (.ireturn, 1) := dk_172 (dk_at dksX6_isVoter_0 13 rfl rfl)
abbrev cX6_voter : ByteArray := prog_25_method_54_code
def yX6_voter : MethodName := ⟨RX6, "voter", "(II)I"⟩
def dkwX6_voter_3 : List UInt8 := [46, 172, 42, 180, 1, 14, 27, 184, 0, 246, 184, 1, 75, 172, 2, 172]
abbrev dktX6_voter_3 : List UInt8 := dkwX6_voter_3 ++ []
def dkwX6_voter_2 : List UInt8 := [42, 180, 0, 33, 7, 27, 96, 46, 172, 42, 27, 182, 1, 85, 172, 42, 180, 0, 33, 17, 0, 216, 27, 96]
abbrev dktX6_voter_2 : List UInt8 := dkwX6_voter_2 ++ dktX6_voter_3
def dkwX6_voter_1 : List UInt8 := [170, 0, 0, 0, 0, 0, 0, 70, 0, 0, 0, 0, 0, 0, 0, 3, 0, 0, 0, 32, 0, 0, 0, 41, 0, 0, 0, 47, 0, 0, 0, 58]
abbrev dktX6_voter_1 : List UInt8 := dkwX6_voter_1 ++ dktX6_voter_2
def dkwX6_voter_0 : List UInt8 := [42, 3, 181, 0, 1, 42, 27, 182, 1, 82, 154, 0, 5, 2, 172, 42, 182, 1, 66, 28]
abbrev dktX6_voter_0 : List UInt8 := dkwX6_voter_0 ++ dktX6_voter_1
theorem dksX6_voter_0 : cX6_voter.data.toList.drop 0 = dktX6_voter_0 := by decide +kernel
theorem dksX6_voter_1 : cX6_voter.data.toList.drop 20 = dktX6_voter_1 := dk_seg dksX6_voter_0 20 rfl rfl
theorem dksX6_voter_2 : cX6_voter.data.toList.drop 52 = dktX6_voter_2 := dk_seg dksX6_voter_1 32 rfl rfl
theorem dksX6_voter_3 : cX6_voter.data.toList.drop 76 = dktX6_voter_3 := dk_seg dksX6_voter_2 24 rfl rfl
theorem dX6_voter_0 : decode cX6_voter 0 = .ok (.aload_n 0, 1) := dk_42 (dk_at dksX6_voter_0 0 rfl rfl)
theorem dX6_voter_1 : decode cX6_voter 1 = .ok (.iconst 0, 1) := dk_3 (dk_at dksX6_voter_0 1 rfl rfl)
theorem dX6_voter_2 : decode cX6_voter 2 = .ok (.putfield 1, 3) := dk_181 0 1 (dk_at dksX6_voter_0 2 rfl rfl)
theorem dX6_voter_5 : decode cX6_voter 5 = .ok (.aload_n 0, 1) := dk_42 (dk_at dksX6_voter_0 5 rfl rfl)
theorem dX6_voter_6 : decode cX6_voter 6 = .ok (.iload_n 1, 1) := dk_27 (dk_at dksX6_voter_0 6 rfl rfl)
theorem dX6_voter_7 : decode cX6_voter 7 = .ok (.invokevirtual 338, 3) := dk_182 1 82 (dk_at dksX6_voter_0 7 rfl rfl)
theorem dX6_voter_10 : decode cX6_voter 10 = .ok (.ifCond .ne 5, 3) := dk_154 0 5 (dk_at dksX6_voter_0 10 rfl rfl)
theorem dX6_voter_13 : decode cX6_voter 13 = .ok (.iconst (-1), 1) := dk_2 (dk_at dksX6_voter_0 13 rfl rfl)
theorem dX6_voter_14 : decode cX6_voter 14 = .ok (.ireturn, 1) := dk_172 (dk_at dksX6_voter_0 14 rfl rfl)
theorem dX6_voter_15 : decode cX6_voter 15 = .ok (.aload_n 0, 1) := dk_42 (dk_at dksX6_voter_0 15 rfl rfl)
theorem dX6_voter_16 : decode cX6_voter 16 = .ok (.invokevirtual 322, 3) := dk_182 1 66 (dk_at dksX6_voter_0 16 rfl rfl)
theorem dX6_voter_19 : decode cX6_voter 19 = .ok (.iload_n 2, 1) := dk_28 (dk_at dksX6_voter_0 19 rfl rfl)
theorem dX6_voter_20 : decode cX6_voter 20 = .ok (.tableswitch 70 0 3 #[32, 41, 47, 58], 32) := by decide +kernel
theorem dX6_voter_52 : decode cX6_voter 52 = .ok (.aload_n 0, 1) := dk_42 (dk_at dksX6_voter_2 0 rfl rfl)
theorem dX6_voter_53 : decode cX6_voter 53 = .ok (.getfield 33, 3) := dk_180 0 33 (dk_at dksX6_voter_2 1 rfl rfl)
theorem dX6_voter_56 : decode cX6_voter 56 = .ok (.iconst 4, 1) := dk_7 (dk_at dksX6_voter_2 4 rfl rfl)
theorem dX6_voter_57 : decode cX6_voter 57 = .ok (.iload_n 1, 1) := dk_27 (dk_at dksX6_voter_2 5 rfl rfl)
theorem dX6_voter_58 : decode cX6_voter 58 = .ok (.iadd, 1) := dk_96 (dk_at dksX6_voter_2 6 rfl rfl)
theorem dX6_voter_59 : decode cX6_voter 59 = .ok (.iaload, 1) := dk_46 (dk_at dksX6_voter_2 7 rfl rfl)
theorem dX6_voter_60 : decode cX6_voter 60 = .ok (.ireturn, 1) := dk_172 (dk_at dksX6_voter_2 8 rfl rfl)
theorem dX6_voter_61 : decode cX6_voter 61 = .ok (.aload_n 0, 1) := dk_42 (dk_at dksX6_voter_2 9 rfl rfl)
theorem dX6_voter_62 : decode cX6_voter 62 = .ok (.iload_n 1, 1) := dk_27 (dk_at dksX6_voter_2 10 rfl rfl)
theorem dX6_voter_63 : decode cX6_voter 63 = .ok (.invokevirtual 341, 3) := dk_182 1 85 (dk_at dksX6_voter_2 11 rfl rfl)
theorem dX6_voter_66 : decode cX6_voter 66 = .ok (.ireturn, 1) := dk_172 (dk_at dksX6_voter_2 14 rfl rfl)
theorem dX6_voter_67 : decode cX6_voter 67 = .ok (.aload_n 0, 1) := dk_42 (dk_at dksX6_voter_2 15 rfl rfl)
theorem dX6_voter_68 : decode cX6_voter 68 = .ok (.getfield 33, 3) := dk_180 0 33 (dk_at dksX6_voter_2 16 rfl rfl)
theorem dX6_voter_71 : decode cX6_voter 71 = .ok (.sipush 216, 3) := dk_17 0 216 (dk_at dksX6_voter_2 19 rfl rfl)
theorem dX6_voter_74 : decode cX6_voter 74 = .ok (.iload_n 1, 1) := dk_27 (dk_at dksX6_voter_2 22 rfl rfl)
theorem dX6_voter_75 : decode cX6_voter 75 = .ok (.iadd, 1) := dk_96 (dk_at dksX6_voter_2 23 rfl rfl)
theorem dX6_voter_76 : decode cX6_voter 76 = .ok (.iaload, 1) := dk_46 (dk_at dksX6_voter_3 0 rfl rfl)
theorem dX6_voter_77 : decode cX6_voter 77 = .ok (.ireturn, 1) := dk_172 (dk_at dksX6_voter_3 1 rfl rfl)
theorem dX6_voter_78 : decode cX6_voter 78 = .ok (.aload_n 0, 1) := dk_42 (dk_at dksX6_voter_3 2 rfl rfl)
theorem dX6_voter_79 : decode cX6_voter 79 = .ok (.getfield 270, 3) := dk_180 1 14 (dk_at dksX6_voter_3 3 rfl rfl)
theorem dX6_voter_82 : decode cX6_voter 82 = .ok (.iload_n 1, 1) := dk_27 (dk_at dksX6_voter_3 6 rfl rfl)
theorem dX6_voter_83 : decode cX6_voter 83 = .ok (.invokestatic 246, 3) := dk_184 0 246 (dk_at dksX6_voter_3 7 rfl rfl)
theorem dX6_voter_86 : decode cX6_voter 86 = .ok (.invokestatic 331, 3) := dk_184 1 75 (dk_at dksX6_voter_3 10 rfl rfl)
theorem dX6_voter_89 : decode cX6_voter 89 = .ok (.ireturn, 1) := dk_172 (dk_at dksX6_voter_3 13 rfl rfl)
theorem dX6_voter_90 : decode cX6_voter 90 = .ok (.iconst (-1), 1) := dk_2 (dk_at dksX6_voter_3 14 rfl rfl)
theorem dX6_voter_91 : decode cX6_voter 91 = .ok (.ireturn, 1) := dk_172 (dk_at dksX6_voter_3 15 rfl rfl)
abbrev cX6_votesOf : ByteArray := prog_25_method_53_code
def yX6_votesOf : MethodName := ⟨RX6, "votesOf", "(I)I"⟩
def dkwX6_votesOf_1 : List UInt8 := [27, 160, 0, 7, 4, 167, 0, 4, 3, 96, 61, 132, 3, 1, 167, 255, 222, 28, 172]
abbrev dktX6_votesOf_1 : List UInt8 := dkwX6_votesOf_1 ++ []
def dkwX6_votesOf_0 : List UInt8 := [3, 61, 3, 62, 29, 42, 180, 0, 33, 6, 46, 162, 0, 30, 28, 42, 180, 0, 33, 16, 72, 29, 96, 46]
abbrev dktX6_votesOf_0 : List UInt8 := dkwX6_votesOf_0 ++ dktX6_votesOf_1
theorem dksX6_votesOf_0 : cX6_votesOf.data.toList.drop 0 = dktX6_votesOf_0 := by decide +kernel
theorem dksX6_votesOf_1 : cX6_votesOf.data.toList.drop 24 = dktX6_votesOf_1 := dk_seg dksX6_votesOf_0 24 rfl rfl
theorem dX6_votesOf_0 : decode cX6_votesOf 0 = .ok (.iconst 0, 1) := dk_3 (dk_at dksX6_votesOf_0 0 rfl rfl)
theorem dX6_votesOf_1 : decode cX6_votesOf 1 = .ok (.istore_n 2, 1) := dk_61 (dk_at dksX6_votesOf_0 1 rfl rfl)
theorem dX6_votesOf_2 : decode cX6_votesOf 2 = .ok (.iconst 0, 1) := dk_3 (dk_at dksX6_votesOf_0 2 rfl rfl)
theorem dX6_votesOf_3 : decode cX6_votesOf 3 = .ok (.istore_n 3, 1) := dk_62 (dk_at dksX6_votesOf_0 3 rfl rfl)
theorem dX6_votesOf_4 : decode cX6_votesOf 4 = .ok (.iload_n 3, 1) := dk_29 (dk_at dksX6_votesOf_0 4 rfl rfl)
theorem dX6_votesOf_5 : decode cX6_votesOf 5 = .ok (.aload_n 0, 1) := dk_42 (dk_at dksX6_votesOf_0 5 rfl rfl)
theorem dX6_votesOf_6 : decode cX6_votesOf 6 = .ok (.getfield 33, 3) := dk_180 0 33 (dk_at dksX6_votesOf_0 6 rfl rfl)
theorem dX6_votesOf_9 : decode cX6_votesOf 9 = .ok (.iconst 3, 1) := dk_6 (dk_at dksX6_votesOf_0 9 rfl rfl)
theorem dX6_votesOf_10 : decode cX6_votesOf 10 = .ok (.iaload, 1) := dk_46 (dk_at dksX6_votesOf_0 10 rfl rfl)
theorem dX6_votesOf_11 : decode cX6_votesOf 11 = .ok (.if_icmp .ge 30, 3) := dk_162 0 30 (dk_at dksX6_votesOf_0 11 rfl rfl)
theorem dX6_votesOf_14 : decode cX6_votesOf 14 = .ok (.iload_n 2, 1) := dk_28 (dk_at dksX6_votesOf_0 14 rfl rfl)
theorem dX6_votesOf_15 : decode cX6_votesOf 15 = .ok (.aload_n 0, 1) := dk_42 (dk_at dksX6_votesOf_0 15 rfl rfl)
theorem dX6_votesOf_16 : decode cX6_votesOf 16 = .ok (.getfield 33, 3) := dk_180 0 33 (dk_at dksX6_votesOf_0 16 rfl rfl)
theorem dX6_votesOf_19 : decode cX6_votesOf 19 = .ok (.bipush 72, 2) := dk_16 72 (dk_at dksX6_votesOf_0 19 rfl rfl)
theorem dX6_votesOf_21 : decode cX6_votesOf 21 = .ok (.iload_n 3, 1) := dk_29 (dk_at dksX6_votesOf_0 21 rfl rfl)
theorem dX6_votesOf_22 : decode cX6_votesOf 22 = .ok (.iadd, 1) := dk_96 (dk_at dksX6_votesOf_0 22 rfl rfl)
theorem dX6_votesOf_23 : decode cX6_votesOf 23 = .ok (.iaload, 1) := dk_46 (dk_at dksX6_votesOf_0 23 rfl rfl)
theorem dX6_votesOf_24 : decode cX6_votesOf 24 = .ok (.iload_n 1, 1) := dk_27 (dk_at dksX6_votesOf_1 0 rfl rfl)
theorem dX6_votesOf_25 : decode cX6_votesOf 25 = .ok (.if_icmp .ne 7, 3) := dk_160 0 7 (dk_at dksX6_votesOf_1 1 rfl rfl)
theorem dX6_votesOf_28 : decode cX6_votesOf 28 = .ok (.iconst 1, 1) := dk_4 (dk_at dksX6_votesOf_1 4 rfl rfl)
theorem dX6_votesOf_29 : decode cX6_votesOf 29 = .ok (.goto 4, 3) := dk_167 0 4 (dk_at dksX6_votesOf_1 5 rfl rfl)
theorem dX6_votesOf_32 : decode cX6_votesOf 32 = .ok (.iconst 0, 1) := dk_3 (dk_at dksX6_votesOf_1 8 rfl rfl)
theorem dX6_votesOf_33 : decode cX6_votesOf 33 = .ok (.iadd, 1) := dk_96 (dk_at dksX6_votesOf_1 9 rfl rfl)
theorem dX6_votesOf_34 : decode cX6_votesOf 34 = .ok (.istore_n 2, 1) := dk_61 (dk_at dksX6_votesOf_1 10 rfl rfl)
theorem dX6_votesOf_35 : decode cX6_votesOf 35 = .ok (.iinc 3 1, 3) := dk_132 3 1 (dk_at dksX6_votesOf_1 11 rfl rfl)
theorem dX6_votesOf_38 : decode cX6_votesOf 38 = .ok (.goto (-34), 3) := dk_167 255 222 (dk_at dksX6_votesOf_1 14 rfl rfl)
theorem dX6_votesOf_41 : decode cX6_votesOf 41 = .ok (.iload_n 2, 1) := dk_28 (dk_at dksX6_votesOf_1 17 rfl rfl)
theorem dX6_votesOf_42 : decode cX6_votesOf 42 = .ok (.ireturn, 1) := dk_172 (dk_at dksX6_votesOf_1 18 rfl rfl)
abbrev cX6_vote : ByteArray := prog_25_method_55_code
def yX6_vote : MethodName := ⟨RX6, "vote", "(II)I"⟩
def dkwX6_vote_3 : List UInt8 := [167, 0, 4, 2, 172]
abbrev dktX6_vote_3 : List UInt8 := dkwX6_vote_3 ++ []
def dkwX6_vote_2 : List UInt8 := [16, 120, 27, 96, 46, 167, 0, 22, 28, 5, 160, 0, 16, 42, 180, 0, 33, 17, 0, 168, 27, 96, 46]
abbrev dktX6_vote_2 : List UInt8 := dkwX6_vote_2 ++ dktX6_vote_3
def dkwX6_vote_1 : List UInt8 := [154, 0, 15, 42, 180, 0, 33, 16, 72, 27, 96, 46, 167, 0, 39, 28, 4, 160, 0, 15, 42, 180, 0, 33]
abbrev dktX6_vote_1 : List UInt8 := dkwX6_vote_1 ++ dktX6_vote_2
def dkwX6_vote_0 : List UInt8 := [42, 3, 181, 0, 1, 27, 3, 42, 180, 0, 33, 6, 46, 4, 100, 184, 0, 189, 154, 0, 5, 2, 172, 28]
abbrev dktX6_vote_0 : List UInt8 := dkwX6_vote_0 ++ dktX6_vote_1
theorem dksX6_vote_0 : cX6_vote.data.toList.drop 0 = dktX6_vote_0 := by decide +kernel
theorem dksX6_vote_1 : cX6_vote.data.toList.drop 24 = dktX6_vote_1 := dk_seg dksX6_vote_0 24 rfl rfl
theorem dksX6_vote_2 : cX6_vote.data.toList.drop 48 = dktX6_vote_2 := dk_seg dksX6_vote_1 24 rfl rfl
theorem dksX6_vote_3 : cX6_vote.data.toList.drop 71 = dktX6_vote_3 := dk_seg dksX6_vote_2 23 rfl rfl
theorem dX6_vote_0 : decode cX6_vote 0 = .ok (.aload_n 0, 1) := dk_42 (dk_at dksX6_vote_0 0 rfl rfl)
theorem dX6_vote_1 : decode cX6_vote 1 = .ok (.iconst 0, 1) := dk_3 (dk_at dksX6_vote_0 1 rfl rfl)
theorem dX6_vote_2 : decode cX6_vote 2 = .ok (.putfield 1, 3) := dk_181 0 1 (dk_at dksX6_vote_0 2 rfl rfl)
theorem dX6_vote_5 : decode cX6_vote 5 = .ok (.iload_n 1, 1) := dk_27 (dk_at dksX6_vote_0 5 rfl rfl)
theorem dX6_vote_6 : decode cX6_vote 6 = .ok (.iconst 0, 1) := dk_3 (dk_at dksX6_vote_0 6 rfl rfl)
theorem dX6_vote_7 : decode cX6_vote 7 = .ok (.aload_n 0, 1) := dk_42 (dk_at dksX6_vote_0 7 rfl rfl)
theorem dX6_vote_8 : decode cX6_vote 8 = .ok (.getfield 33, 3) := dk_180 0 33 (dk_at dksX6_vote_0 8 rfl rfl)
theorem dX6_vote_11 : decode cX6_vote 11 = .ok (.iconst 3, 1) := dk_6 (dk_at dksX6_vote_0 11 rfl rfl)
theorem dX6_vote_12 : decode cX6_vote 12 = .ok (.iaload, 1) := dk_46 (dk_at dksX6_vote_0 12 rfl rfl)
theorem dX6_vote_13 : decode cX6_vote 13 = .ok (.iconst 1, 1) := dk_4 (dk_at dksX6_vote_0 13 rfl rfl)
theorem dX6_vote_14 : decode cX6_vote 14 = .ok (.isub, 1) := dk_100 (dk_at dksX6_vote_0 14 rfl rfl)
theorem dX6_vote_15 : decode cX6_vote 15 = .ok (.invokestatic 189, 3) := dk_184 0 189 (dk_at dksX6_vote_0 15 rfl rfl)
theorem dX6_vote_18 : decode cX6_vote 18 = .ok (.ifCond .ne 5, 3) := dk_154 0 5 (dk_at dksX6_vote_0 18 rfl rfl)
theorem dX6_vote_21 : decode cX6_vote 21 = .ok (.iconst (-1), 1) := dk_2 (dk_at dksX6_vote_0 21 rfl rfl)
theorem dX6_vote_22 : decode cX6_vote 22 = .ok (.ireturn, 1) := dk_172 (dk_at dksX6_vote_0 22 rfl rfl)
theorem dX6_vote_23 : decode cX6_vote 23 = .ok (.iload_n 2, 1) := dk_28 (dk_at dksX6_vote_0 23 rfl rfl)
theorem dX6_vote_24 : decode cX6_vote 24 = .ok (.ifCond .ne 15, 3) := dk_154 0 15 (dk_at dksX6_vote_1 0 rfl rfl)
theorem dX6_vote_27 : decode cX6_vote 27 = .ok (.aload_n 0, 1) := dk_42 (dk_at dksX6_vote_1 3 rfl rfl)
theorem dX6_vote_28 : decode cX6_vote 28 = .ok (.getfield 33, 3) := dk_180 0 33 (dk_at dksX6_vote_1 4 rfl rfl)
theorem dX6_vote_31 : decode cX6_vote 31 = .ok (.bipush 72, 2) := dk_16 72 (dk_at dksX6_vote_1 7 rfl rfl)
theorem dX6_vote_33 : decode cX6_vote 33 = .ok (.iload_n 1, 1) := dk_27 (dk_at dksX6_vote_1 9 rfl rfl)
theorem dX6_vote_34 : decode cX6_vote 34 = .ok (.iadd, 1) := dk_96 (dk_at dksX6_vote_1 10 rfl rfl)
theorem dX6_vote_35 : decode cX6_vote 35 = .ok (.iaload, 1) := dk_46 (dk_at dksX6_vote_1 11 rfl rfl)
theorem dX6_vote_36 : decode cX6_vote 36 = .ok (.goto 39, 3) := dk_167 0 39 (dk_at dksX6_vote_1 12 rfl rfl)
theorem dX6_vote_39 : decode cX6_vote 39 = .ok (.iload_n 2, 1) := dk_28 (dk_at dksX6_vote_1 15 rfl rfl)
theorem dX6_vote_40 : decode cX6_vote 40 = .ok (.iconst 1, 1) := dk_4 (dk_at dksX6_vote_1 16 rfl rfl)
theorem dX6_vote_41 : decode cX6_vote 41 = .ok (.if_icmp .ne 15, 3) := dk_160 0 15 (dk_at dksX6_vote_1 17 rfl rfl)
theorem dX6_vote_44 : decode cX6_vote 44 = .ok (.aload_n 0, 1) := dk_42 (dk_at dksX6_vote_1 20 rfl rfl)
theorem dX6_vote_45 : decode cX6_vote 45 = .ok (.getfield 33, 3) := dk_180 0 33 (dk_at dksX6_vote_1 21 rfl rfl)
theorem dX6_vote_48 : decode cX6_vote 48 = .ok (.bipush 120, 2) := dk_16 120 (dk_at dksX6_vote_2 0 rfl rfl)
theorem dX6_vote_50 : decode cX6_vote 50 = .ok (.iload_n 1, 1) := dk_27 (dk_at dksX6_vote_2 2 rfl rfl)
theorem dX6_vote_51 : decode cX6_vote 51 = .ok (.iadd, 1) := dk_96 (dk_at dksX6_vote_2 3 rfl rfl)
theorem dX6_vote_52 : decode cX6_vote 52 = .ok (.iaload, 1) := dk_46 (dk_at dksX6_vote_2 4 rfl rfl)
theorem dX6_vote_53 : decode cX6_vote 53 = .ok (.goto 22, 3) := dk_167 0 22 (dk_at dksX6_vote_2 5 rfl rfl)
theorem dX6_vote_56 : decode cX6_vote 56 = .ok (.iload_n 2, 1) := dk_28 (dk_at dksX6_vote_2 8 rfl rfl)
theorem dX6_vote_57 : decode cX6_vote 57 = .ok (.iconst 2, 1) := dk_5 (dk_at dksX6_vote_2 9 rfl rfl)
theorem dX6_vote_58 : decode cX6_vote 58 = .ok (.if_icmp .ne 16, 3) := dk_160 0 16 (dk_at dksX6_vote_2 10 rfl rfl)
theorem dX6_vote_61 : decode cX6_vote 61 = .ok (.aload_n 0, 1) := dk_42 (dk_at dksX6_vote_2 13 rfl rfl)
theorem dX6_vote_62 : decode cX6_vote 62 = .ok (.getfield 33, 3) := dk_180 0 33 (dk_at dksX6_vote_2 14 rfl rfl)
theorem dX6_vote_65 : decode cX6_vote 65 = .ok (.sipush 168, 3) := dk_17 0 168 (dk_at dksX6_vote_2 17 rfl rfl)
theorem dX6_vote_68 : decode cX6_vote 68 = .ok (.iload_n 1, 1) := dk_27 (dk_at dksX6_vote_2 20 rfl rfl)
theorem dX6_vote_69 : decode cX6_vote 69 = .ok (.iadd, 1) := dk_96 (dk_at dksX6_vote_2 21 rfl rfl)
theorem dX6_vote_70 : decode cX6_vote 70 = .ok (.iaload, 1) := dk_46 (dk_at dksX6_vote_2 22 rfl rfl)
theorem dX6_vote_71 : decode cX6_vote 71 = .ok (.goto 4, 3) := dk_167 0 4 (dk_at dksX6_vote_3 0 rfl rfl)
theorem dX6_vote_74 : decode cX6_vote 74 = .ok (.iconst (-1), 1) := dk_2 (dk_at dksX6_vote_3 3 rfl rfl)
theorem dX6_vote_75 : decode cX6_vote 75 = .ok (.ireturn, 1) := dk_172 (dk_at dksX6_vote_3 4 rfl rfl)
abbrev cX6_link : ByteArray := prog_25_method_57_code
def yX6_link : MethodName := ⟨RX6, "link", "(III)I"⟩
def dkwX6_link_5 : List UInt8 := [182, 1, 35, 184, 1, 75, 172]
abbrev dktX6_link_5 : List UInt8 := dkwX6_link_5 ++ []
def dkwX6_link_4 : List UInt8 := [21, 4, 28, 5, 182, 1, 4, 172, 42, 17, 0, 255, 28, 5, 182, 1, 4, 172, 42, 21, 4, 28]
abbrev dktX6_link_4 : List UInt8 := dkwX6_link_4 ++ dktX6_link_5
def dkwX6_link_3 : List UInt8 := [21, 4, 172, 42, 21, 4, 28, 4, 182, 1, 4, 172, 42, 17, 0, 255, 28, 4, 182, 1, 4, 172, 42]
abbrev dktX6_link_3 : List UInt8 := dkwX6_link_3 ++ dktX6_link_4
def dkwX6_link_2 : List UInt8 := [170, 0, 0, 0, 0, 75, 0, 0, 0, 0, 0, 0, 0, 4, 0, 0, 0, 34, 0, 0, 0, 37, 0, 0, 0, 46, 0, 0, 0, 56, 0, 0, 0, 65]
abbrev dktX6_link_2 : List UInt8 := dkwX6_link_2 ++ dktX6_link_3
def dkwX6_link_1 : List UInt8 := [182, 1, 62, 153, 0, 5, 3, 172, 42, 180, 0, 59, 16, 20, 27, 104, 28, 96, 46, 54, 4, 29]
abbrev dktX6_link_1 : List UInt8 := dkwX6_link_1 ++ dktX6_link_2
def dkwX6_link_0 : List UInt8 := [42, 42, 27, 28, 182, 1, 88, 153, 0, 12, 29, 3, 8, 184, 0, 189, 154, 0, 7, 4, 167, 0, 4, 3]
abbrev dktX6_link_0 : List UInt8 := dkwX6_link_0 ++ dktX6_link_1
theorem dksX6_link_0 : cX6_link.data.toList.drop 0 = dktX6_link_0 := by decide +kernel
theorem dksX6_link_1 : cX6_link.data.toList.drop 24 = dktX6_link_1 := dk_seg dksX6_link_0 24 rfl rfl
theorem dksX6_link_2 : cX6_link.data.toList.drop 46 = dktX6_link_2 := dk_seg dksX6_link_1 22 rfl rfl
theorem dksX6_link_3 : cX6_link.data.toList.drop 80 = dktX6_link_3 := dk_seg dksX6_link_2 34 rfl rfl
theorem dksX6_link_4 : cX6_link.data.toList.drop 103 = dktX6_link_4 := dk_seg dksX6_link_3 23 rfl rfl
theorem dksX6_link_5 : cX6_link.data.toList.drop 125 = dktX6_link_5 := dk_seg dksX6_link_4 22 rfl rfl
theorem dX6_link_0 : decode cX6_link 0 = .ok (.aload_n 0, 1) := dk_42 (dk_at dksX6_link_0 0 rfl rfl)
theorem dX6_link_1 : decode cX6_link 1 = .ok (.aload_n 0, 1) := dk_42 (dk_at dksX6_link_0 1 rfl rfl)
theorem dX6_link_2 : decode cX6_link 2 = .ok (.iload_n 1, 1) := dk_27 (dk_at dksX6_link_0 2 rfl rfl)
theorem dX6_link_3 : decode cX6_link 3 = .ok (.iload_n 2, 1) := dk_28 (dk_at dksX6_link_0 3 rfl rfl)
theorem dX6_link_4 : decode cX6_link 4 = .ok (.invokevirtual 344, 3) := dk_182 1 88 (dk_at dksX6_link_0 4 rfl rfl)
theorem dX6_link_7 : decode cX6_link 7 = .ok (.ifCond .eq 12, 3) := dk_153 0 12 (dk_at dksX6_link_0 7 rfl rfl)
theorem dX6_link_10 : decode cX6_link 10 = .ok (.iload_n 3, 1) := dk_29 (dk_at dksX6_link_0 10 rfl rfl)
theorem dX6_link_11 : decode cX6_link 11 = .ok (.iconst 0, 1) := dk_3 (dk_at dksX6_link_0 11 rfl rfl)
theorem dX6_link_12 : decode cX6_link 12 = .ok (.iconst 5, 1) := dk_8 (dk_at dksX6_link_0 12 rfl rfl)
theorem dX6_link_13 : decode cX6_link 13 = .ok (.invokestatic 189, 3) := dk_184 0 189 (dk_at dksX6_link_0 13 rfl rfl)
theorem dX6_link_16 : decode cX6_link 16 = .ok (.ifCond .ne 7, 3) := dk_154 0 7 (dk_at dksX6_link_0 16 rfl rfl)
theorem dX6_link_19 : decode cX6_link 19 = .ok (.iconst 1, 1) := dk_4 (dk_at dksX6_link_0 19 rfl rfl)
theorem dX6_link_20 : decode cX6_link 20 = .ok (.goto 4, 3) := dk_167 0 4 (dk_at dksX6_link_0 20 rfl rfl)
theorem dX6_link_23 : decode cX6_link 23 = .ok (.iconst 0, 1) := dk_3 (dk_at dksX6_link_0 23 rfl rfl)
theorem dX6_link_24 : decode cX6_link 24 = .ok (.invokevirtual 318, 3) := dk_182 1 62 (dk_at dksX6_link_1 0 rfl rfl)
theorem dX6_link_27 : decode cX6_link 27 = .ok (.ifCond .eq 5, 3) := dk_153 0 5 (dk_at dksX6_link_1 3 rfl rfl)
theorem dX6_link_30 : decode cX6_link 30 = .ok (.iconst 0, 1) := dk_3 (dk_at dksX6_link_1 6 rfl rfl)
theorem dX6_link_31 : decode cX6_link 31 = .ok (.ireturn, 1) := dk_172 (dk_at dksX6_link_1 7 rfl rfl)
theorem dX6_link_32 : decode cX6_link 32 = .ok (.aload_n 0, 1) := dk_42 (dk_at dksX6_link_1 8 rfl rfl)
theorem dX6_link_33 : decode cX6_link 33 = .ok (.getfield 59, 3) := dk_180 0 59 (dk_at dksX6_link_1 9 rfl rfl)
theorem dX6_link_36 : decode cX6_link 36 = .ok (.bipush 20, 2) := dk_16 20 (dk_at dksX6_link_1 12 rfl rfl)
theorem dX6_link_38 : decode cX6_link 38 = .ok (.iload_n 1, 1) := dk_27 (dk_at dksX6_link_1 14 rfl rfl)
theorem dX6_link_39 : decode cX6_link 39 = .ok (.imul, 1) := dk_104 (dk_at dksX6_link_1 15 rfl rfl)
theorem dX6_link_40 : decode cX6_link 40 = .ok (.iload_n 2, 1) := dk_28 (dk_at dksX6_link_1 16 rfl rfl)
theorem dX6_link_41 : decode cX6_link 41 = .ok (.iadd, 1) := dk_96 (dk_at dksX6_link_1 17 rfl rfl)
theorem dX6_link_42 : decode cX6_link 42 = .ok (.iaload, 1) := dk_46 (dk_at dksX6_link_1 18 rfl rfl)
theorem dX6_link_43 : decode cX6_link 43 = .ok (.istore 4, 2) := dk_54 4 (dk_at dksX6_link_1 19 rfl rfl)
theorem dX6_link_45 : decode cX6_link 45 = .ok (.iload_n 3, 1) := dk_29 (dk_at dksX6_link_1 21 rfl rfl)
theorem dX6_link_46 : decode cX6_link 46 = .ok (.tableswitch 75 0 4 #[34, 37, 46, 56, 65], 34) := by decide +kernel
theorem dX6_link_80 : decode cX6_link 80 = .ok (.iload 4, 2) := dk_21 4 (dk_at dksX6_link_3 0 rfl rfl)
theorem dX6_link_82 : decode cX6_link 82 = .ok (.ireturn, 1) := dk_172 (dk_at dksX6_link_3 2 rfl rfl)
theorem dX6_link_83 : decode cX6_link 83 = .ok (.aload_n 0, 1) := dk_42 (dk_at dksX6_link_3 3 rfl rfl)
theorem dX6_link_84 : decode cX6_link 84 = .ok (.iload 4, 2) := dk_21 4 (dk_at dksX6_link_3 4 rfl rfl)
theorem dX6_link_86 : decode cX6_link 86 = .ok (.iload_n 2, 1) := dk_28 (dk_at dksX6_link_3 6 rfl rfl)
theorem dX6_link_87 : decode cX6_link 87 = .ok (.iconst 1, 1) := dk_4 (dk_at dksX6_link_3 7 rfl rfl)
theorem dX6_link_88 : decode cX6_link 88 = .ok (.invokevirtual 260, 3) := dk_182 1 4 (dk_at dksX6_link_3 8 rfl rfl)
theorem dX6_link_91 : decode cX6_link 91 = .ok (.ireturn, 1) := dk_172 (dk_at dksX6_link_3 11 rfl rfl)
theorem dX6_link_92 : decode cX6_link 92 = .ok (.aload_n 0, 1) := dk_42 (dk_at dksX6_link_3 12 rfl rfl)
theorem dX6_link_93 : decode cX6_link 93 = .ok (.sipush 255, 3) := dk_17 0 255 (dk_at dksX6_link_3 13 rfl rfl)
theorem dX6_link_96 : decode cX6_link 96 = .ok (.iload_n 2, 1) := dk_28 (dk_at dksX6_link_3 16 rfl rfl)
theorem dX6_link_97 : decode cX6_link 97 = .ok (.iconst 1, 1) := dk_4 (dk_at dksX6_link_3 17 rfl rfl)
theorem dX6_link_98 : decode cX6_link 98 = .ok (.invokevirtual 260, 3) := dk_182 1 4 (dk_at dksX6_link_3 18 rfl rfl)
theorem dX6_link_101 : decode cX6_link 101 = .ok (.ireturn, 1) := dk_172 (dk_at dksX6_link_3 21 rfl rfl)
theorem dX6_link_102 : decode cX6_link 102 = .ok (.aload_n 0, 1) := dk_42 (dk_at dksX6_link_3 22 rfl rfl)
theorem dX6_link_103 : decode cX6_link 103 = .ok (.iload 4, 2) := dk_21 4 (dk_at dksX6_link_4 0 rfl rfl)
theorem dX6_link_105 : decode cX6_link 105 = .ok (.iload_n 2, 1) := dk_28 (dk_at dksX6_link_4 2 rfl rfl)
theorem dX6_link_106 : decode cX6_link 106 = .ok (.iconst 2, 1) := dk_5 (dk_at dksX6_link_4 3 rfl rfl)
theorem dX6_link_107 : decode cX6_link 107 = .ok (.invokevirtual 260, 3) := dk_182 1 4 (dk_at dksX6_link_4 4 rfl rfl)
theorem dX6_link_110 : decode cX6_link 110 = .ok (.ireturn, 1) := dk_172 (dk_at dksX6_link_4 7 rfl rfl)
theorem dX6_link_111 : decode cX6_link 111 = .ok (.aload_n 0, 1) := dk_42 (dk_at dksX6_link_4 8 rfl rfl)
theorem dX6_link_112 : decode cX6_link 112 = .ok (.sipush 255, 3) := dk_17 0 255 (dk_at dksX6_link_4 9 rfl rfl)
theorem dX6_link_115 : decode cX6_link 115 = .ok (.iload_n 2, 1) := dk_28 (dk_at dksX6_link_4 12 rfl rfl)
theorem dX6_link_116 : decode cX6_link 116 = .ok (.iconst 2, 1) := dk_5 (dk_at dksX6_link_4 13 rfl rfl)
theorem dX6_link_117 : decode cX6_link 117 = .ok (.invokevirtual 260, 3) := dk_182 1 4 (dk_at dksX6_link_4 14 rfl rfl)
theorem dX6_link_120 : decode cX6_link 120 = .ok (.ireturn, 1) := dk_172 (dk_at dksX6_link_4 17 rfl rfl)
theorem dX6_link_121 : decode cX6_link 121 = .ok (.aload_n 0, 1) := dk_42 (dk_at dksX6_link_4 18 rfl rfl)
theorem dX6_link_122 : decode cX6_link 122 = .ok (.iload 4, 2) := dk_21 4 (dk_at dksX6_link_4 19 rfl rfl)
theorem dX6_link_124 : decode cX6_link 124 = .ok (.iload_n 2, 1) := dk_28 (dk_at dksX6_link_4 21 rfl rfl)
theorem dX6_link_125 : decode cX6_link 125 = .ok (.invokevirtual 291, 3) := dk_182 1 35 (dk_at dksX6_link_5 0 rfl rfl)
theorem dX6_link_128 : decode cX6_link 128 = .ok (.invokestatic 331, 3) := dk_184 1 75 (dk_at dksX6_link_5 3 rfl rfl)
theorem dX6_link_131 : decode cX6_link 131 = .ok (.ireturn, 1) := dk_172 (dk_at dksX6_link_5 6 rfl rfl)
abbrev cX6_isLink : ByteArray := prog_25_method_56_code
def yX6_isLink : MethodName := ⟨RX6, "isLink", "(II)Z"⟩
def dkwX6_isLink_2 : List UInt8 := [167, 0, 4, 3, 172]
abbrev dktX6_isLink_2 : List UInt8 := dkwX6_isLink_2 ++ []
def dkwX6_isLink_1 : List UInt8 := [182, 1, 69, 153, 0, 24, 42, 28, 182, 1, 69, 153, 0, 16, 42, 27, 28, 182, 1, 79, 153, 0, 7, 4]
abbrev dktX6_isLink_1 : List UInt8 := dkwX6_isLink_1 ++ dktX6_isLink_2
def dkwX6_isLink_0 : List UInt8 := [42, 27, 182, 1, 59, 153, 0, 11, 42, 28, 182, 1, 59, 154, 0, 5, 3, 172, 42, 182, 1, 66, 42, 27]
abbrev dktX6_isLink_0 : List UInt8 := dkwX6_isLink_0 ++ dktX6_isLink_1
theorem dksX6_isLink_0 : cX6_isLink.data.toList.drop 0 = dktX6_isLink_0 := by decide +kernel
theorem dksX6_isLink_1 : cX6_isLink.data.toList.drop 24 = dktX6_isLink_1 := dk_seg dksX6_isLink_0 24 rfl rfl
theorem dksX6_isLink_2 : cX6_isLink.data.toList.drop 48 = dktX6_isLink_2 := dk_seg dksX6_isLink_1 24 rfl rfl
theorem dX6_isLink_0 : decode cX6_isLink 0 = .ok (.aload_n 0, 1) := dk_42 (dk_at dksX6_isLink_0 0 rfl rfl)
theorem dX6_isLink_1 : decode cX6_isLink 1 = .ok (.iload_n 1, 1) := dk_27 (dk_at dksX6_isLink_0 1 rfl rfl)
theorem dX6_isLink_2 : decode cX6_isLink 2 = .ok (.invokevirtual 315, 3) := dk_182 1 59 (dk_at dksX6_isLink_0 2 rfl rfl)
theorem dX6_isLink_5 : decode cX6_isLink 5 = .ok (.ifCond .eq 11, 3) := dk_153 0 11 (dk_at dksX6_isLink_0 5 rfl rfl)
theorem dX6_isLink_8 : decode cX6_isLink 8 = .ok (.aload_n 0, 1) := dk_42 (dk_at dksX6_isLink_0 8 rfl rfl)
theorem dX6_isLink_9 : decode cX6_isLink 9 = .ok (.iload_n 2, 1) := dk_28 (dk_at dksX6_isLink_0 9 rfl rfl)
theorem dX6_isLink_10 : decode cX6_isLink 10 = .ok (.invokevirtual 315, 3) := dk_182 1 59 (dk_at dksX6_isLink_0 10 rfl rfl)
theorem dX6_isLink_13 : decode cX6_isLink 13 = .ok (.ifCond .ne 5, 3) := dk_154 0 5 (dk_at dksX6_isLink_0 13 rfl rfl)
theorem dX6_isLink_16 : decode cX6_isLink 16 = .ok (.iconst 0, 1) := dk_3 (dk_at dksX6_isLink_0 16 rfl rfl)
theorem dX6_isLink_17 : decode cX6_isLink 17 = .ok (.ireturn, 1) := dk_172 (dk_at dksX6_isLink_0 17 rfl rfl)
theorem dX6_isLink_18 : decode cX6_isLink 18 = .ok (.aload_n 0, 1) := dk_42 (dk_at dksX6_isLink_0 18 rfl rfl)
theorem dX6_isLink_19 : decode cX6_isLink 19 = .ok (.invokevirtual 322, 3) := dk_182 1 66 (dk_at dksX6_isLink_0 19 rfl rfl)
theorem dX6_isLink_22 : decode cX6_isLink 22 = .ok (.aload_n 0, 1) := dk_42 (dk_at dksX6_isLink_0 22 rfl rfl)
theorem dX6_isLink_23 : decode cX6_isLink 23 = .ok (.iload_n 1, 1) := dk_27 (dk_at dksX6_isLink_0 23 rfl rfl)
theorem dX6_isLink_24 : decode cX6_isLink 24 = .ok (.invokevirtual 325, 3) := dk_182 1 69 (dk_at dksX6_isLink_1 0 rfl rfl)
theorem dX6_isLink_27 : decode cX6_isLink 27 = .ok (.ifCond .eq 24, 3) := dk_153 0 24 (dk_at dksX6_isLink_1 3 rfl rfl)
theorem dX6_isLink_30 : decode cX6_isLink 30 = .ok (.aload_n 0, 1) := dk_42 (dk_at dksX6_isLink_1 6 rfl rfl)
theorem dX6_isLink_31 : decode cX6_isLink 31 = .ok (.iload_n 2, 1) := dk_28 (dk_at dksX6_isLink_1 7 rfl rfl)
theorem dX6_isLink_32 : decode cX6_isLink 32 = .ok (.invokevirtual 325, 3) := dk_182 1 69 (dk_at dksX6_isLink_1 8 rfl rfl)
theorem dX6_isLink_35 : decode cX6_isLink 35 = .ok (.ifCond .eq 16, 3) := dk_153 0 16 (dk_at dksX6_isLink_1 11 rfl rfl)
theorem dX6_isLink_38 : decode cX6_isLink 38 = .ok (.aload_n 0, 1) := dk_42 (dk_at dksX6_isLink_1 14 rfl rfl)
theorem dX6_isLink_39 : decode cX6_isLink 39 = .ok (.iload_n 1, 1) := dk_27 (dk_at dksX6_isLink_1 15 rfl rfl)
theorem dX6_isLink_40 : decode cX6_isLink 40 = .ok (.iload_n 2, 1) := dk_28 (dk_at dksX6_isLink_1 16 rfl rfl)
theorem dX6_isLink_41 : decode cX6_isLink 41 = .ok (.invokevirtual 335, 3) := dk_182 1 79 (dk_at dksX6_isLink_1 17 rfl rfl)
theorem dX6_isLink_44 : decode cX6_isLink 44 = .ok (.ifCond .eq 7, 3) := dk_153 0 7 (dk_at dksX6_isLink_1 20 rfl rfl)
theorem dX6_isLink_47 : decode cX6_isLink 47 = .ok (.iconst 1, 1) := dk_4 (dk_at dksX6_isLink_1 23 rfl rfl)
theorem dX6_isLink_48 : decode cX6_isLink 48 = .ok (.goto 4, 3) := dk_167 0 4 (dk_at dksX6_isLink_2 0 rfl rfl)
theorem dX6_isLink_51 : decode cX6_isLink 51 = .ok (.iconst 0, 1) := dk_3 (dk_at dksX6_isLink_2 3 rfl rfl)
theorem dX6_isLink_52 : decode cX6_isLink 52 = .ok (.ireturn, 1) := dk_172 (dk_at dksX6_isLink_2 4 rfl rfl)
abbrev cX6_votes : ByteArray := prog_25_method_62_code
def yX6_votes : MethodName := ⟨RX6, "votes", "(III)I"⟩
def dkwX6_votes_2 : List UInt8 := [172, 42, 182, 1, 94, 42, 27, 28, 29, 182, 1, 97, 3, 172]
abbrev dktX6_votes_2 : List UInt8 := dkwX6_votes_2 ++ []
def dkwX6_votes_1 : List UInt8 := [182, 1, 59, 154, 0, 5, 2, 172, 42, 27, 28, 29, 182, 1, 91, 54, 4, 21, 4, 158, 0, 6, 21, 4]
abbrev dktX6_votes_1 : List UInt8 := dkwX6_votes_1 ++ dktX6_votes_2
def dkwX6_votes_0 : List UInt8 := [42, 3, 181, 0, 1, 42, 27, 182, 1, 82, 153, 0, 19, 42, 28, 182, 1, 59, 153, 0, 11, 42, 29]
abbrev dktX6_votes_0 : List UInt8 := dkwX6_votes_0 ++ dktX6_votes_1
theorem dksX6_votes_0 : cX6_votes.data.toList.drop 0 = dktX6_votes_0 := by decide +kernel
theorem dksX6_votes_1 : cX6_votes.data.toList.drop 23 = dktX6_votes_1 := dk_seg dksX6_votes_0 23 rfl rfl
theorem dksX6_votes_2 : cX6_votes.data.toList.drop 47 = dktX6_votes_2 := dk_seg dksX6_votes_1 24 rfl rfl
theorem dX6_votes_0 : decode cX6_votes 0 = .ok (.aload_n 0, 1) := dk_42 (dk_at dksX6_votes_0 0 rfl rfl)
theorem dX6_votes_1 : decode cX6_votes 1 = .ok (.iconst 0, 1) := dk_3 (dk_at dksX6_votes_0 1 rfl rfl)
theorem dX6_votes_2 : decode cX6_votes 2 = .ok (.putfield 1, 3) := dk_181 0 1 (dk_at dksX6_votes_0 2 rfl rfl)
theorem dX6_votes_5 : decode cX6_votes 5 = .ok (.aload_n 0, 1) := dk_42 (dk_at dksX6_votes_0 5 rfl rfl)
theorem dX6_votes_6 : decode cX6_votes 6 = .ok (.iload_n 1, 1) := dk_27 (dk_at dksX6_votes_0 6 rfl rfl)
theorem dX6_votes_7 : decode cX6_votes 7 = .ok (.invokevirtual 338, 3) := dk_182 1 82 (dk_at dksX6_votes_0 7 rfl rfl)
theorem dX6_votes_10 : decode cX6_votes 10 = .ok (.ifCond .eq 19, 3) := dk_153 0 19 (dk_at dksX6_votes_0 10 rfl rfl)
theorem dX6_votes_13 : decode cX6_votes 13 = .ok (.aload_n 0, 1) := dk_42 (dk_at dksX6_votes_0 13 rfl rfl)
theorem dX6_votes_14 : decode cX6_votes 14 = .ok (.iload_n 2, 1) := dk_28 (dk_at dksX6_votes_0 14 rfl rfl)
theorem dX6_votes_15 : decode cX6_votes 15 = .ok (.invokevirtual 315, 3) := dk_182 1 59 (dk_at dksX6_votes_0 15 rfl rfl)
theorem dX6_votes_18 : decode cX6_votes 18 = .ok (.ifCond .eq 11, 3) := dk_153 0 11 (dk_at dksX6_votes_0 18 rfl rfl)
theorem dX6_votes_21 : decode cX6_votes 21 = .ok (.aload_n 0, 1) := dk_42 (dk_at dksX6_votes_0 21 rfl rfl)
theorem dX6_votes_22 : decode cX6_votes 22 = .ok (.iload_n 3, 1) := dk_29 (dk_at dksX6_votes_0 22 rfl rfl)
theorem dX6_votes_23 : decode cX6_votes 23 = .ok (.invokevirtual 315, 3) := dk_182 1 59 (dk_at dksX6_votes_1 0 rfl rfl)
theorem dX6_votes_26 : decode cX6_votes 26 = .ok (.ifCond .ne 5, 3) := dk_154 0 5 (dk_at dksX6_votes_1 3 rfl rfl)
theorem dX6_votes_29 : decode cX6_votes 29 = .ok (.iconst (-1), 1) := dk_2 (dk_at dksX6_votes_1 6 rfl rfl)
theorem dX6_votes_30 : decode cX6_votes 30 = .ok (.ireturn, 1) := dk_172 (dk_at dksX6_votes_1 7 rfl rfl)
theorem dX6_votes_31 : decode cX6_votes 31 = .ok (.aload_n 0, 1) := dk_42 (dk_at dksX6_votes_1 8 rfl rfl)
theorem dX6_votes_32 : decode cX6_votes 32 = .ok (.iload_n 1, 1) := dk_27 (dk_at dksX6_votes_1 9 rfl rfl)
theorem dX6_votes_33 : decode cX6_votes 33 = .ok (.iload_n 2, 1) := dk_28 (dk_at dksX6_votes_1 10 rfl rfl)
theorem dX6_votes_34 : decode cX6_votes 34 = .ok (.iload_n 3, 1) := dk_29 (dk_at dksX6_votes_1 11 rfl rfl)
theorem dX6_votes_35 : decode cX6_votes 35 = .ok (.invokevirtual 347, 3) := dk_182 1 91 (dk_at dksX6_votes_1 12 rfl rfl)
theorem dX6_votes_38 : decode cX6_votes 38 = .ok (.istore 4, 2) := dk_54 4 (dk_at dksX6_votes_1 15 rfl rfl)
theorem dX6_votes_40 : decode cX6_votes 40 = .ok (.iload 4, 2) := dk_21 4 (dk_at dksX6_votes_1 17 rfl rfl)
theorem dX6_votes_42 : decode cX6_votes 42 = .ok (.ifCond .le 6, 3) := dk_158 0 6 (dk_at dksX6_votes_1 19 rfl rfl)
theorem dX6_votes_45 : decode cX6_votes 45 = .ok (.iload 4, 2) := dk_21 4 (dk_at dksX6_votes_1 22 rfl rfl)
theorem dX6_votes_47 : decode cX6_votes 47 = .ok (.ireturn, 1) := dk_172 (dk_at dksX6_votes_2 0 rfl rfl)
theorem dX6_votes_48 : decode cX6_votes 48 = .ok (.aload_n 0, 1) := dk_42 (dk_at dksX6_votes_2 1 rfl rfl)
theorem dX6_votes_49 : decode cX6_votes 49 = .ok (.invokevirtual 350, 3) := dk_182 1 94 (dk_at dksX6_votes_2 2 rfl rfl)
theorem dX6_votes_52 : decode cX6_votes 52 = .ok (.aload_n 0, 1) := dk_42 (dk_at dksX6_votes_2 5 rfl rfl)
theorem dX6_votes_53 : decode cX6_votes 53 = .ok (.iload_n 1, 1) := dk_27 (dk_at dksX6_votes_2 6 rfl rfl)
theorem dX6_votes_54 : decode cX6_votes 54 = .ok (.iload_n 2, 1) := dk_28 (dk_at dksX6_votes_2 7 rfl rfl)
theorem dX6_votes_55 : decode cX6_votes 55 = .ok (.iload_n 3, 1) := dk_29 (dk_at dksX6_votes_2 8 rfl rfl)
theorem dX6_votes_56 : decode cX6_votes 56 = .ok (.invokevirtual 353, 3) := dk_182 1 97 (dk_at dksX6_votes_2 9 rfl rfl)
theorem dX6_votes_59 : decode cX6_votes 59 = .ok (.iconst 0, 1) := dk_3 (dk_at dksX6_votes_2 12 rfl rfl)
theorem dX6_votes_60 : decode cX6_votes 60 = .ok (.ireturn, 1) := dk_172 (dk_at dksX6_votes_2 13 rfl rfl)
abbrev cX6_whyVote : ByteArray := prog_25_method_58_code
def yX6_whyVote : MethodName := ⟨RX6, "whyVote", "(III)I"⟩
def dkwX6_whyVote_2 : List UInt8 := [153, 0, 7, 6, 167, 0, 19, 42, 180, 0, 33, 6, 46, 16, 48, 160, 0, 7, 7, 167, 0, 4, 3, 172]
abbrev dktX6_whyVote_2 : List UInt8 := dkwX6_whyVote_2 ++ []
def dkwX6_whyVote_1 : List UInt8 := [29, 182, 1, 79, 154, 0, 5, 5, 172, 42, 180, 0, 59, 16, 20, 28, 104, 29, 96, 46, 27, 184, 0, 246]
abbrev dktX6_whyVote_1 : List UInt8 := dkwX6_whyVote_1 ++ dktX6_whyVote_2
def dkwX6_whyVote_0 : List UInt8 := [42, 182, 1, 66, 42, 28, 182, 1, 69, 153, 0, 11, 42, 29, 182, 1, 69, 154, 0, 5, 4, 172, 42, 28]
abbrev dktX6_whyVote_0 : List UInt8 := dkwX6_whyVote_0 ++ dktX6_whyVote_1
theorem dksX6_whyVote_0 : cX6_whyVote.data.toList.drop 0 = dktX6_whyVote_0 := by decide +kernel
theorem dksX6_whyVote_1 : cX6_whyVote.data.toList.drop 24 = dktX6_whyVote_1 := dk_seg dksX6_whyVote_0 24 rfl rfl
theorem dksX6_whyVote_2 : cX6_whyVote.data.toList.drop 48 = dktX6_whyVote_2 := dk_seg dksX6_whyVote_1 24 rfl rfl
theorem dX6_whyVote_0 : decode cX6_whyVote 0 = .ok (.aload_n 0, 1) := dk_42 (dk_at dksX6_whyVote_0 0 rfl rfl)
theorem dX6_whyVote_1 : decode cX6_whyVote 1 = .ok (.invokevirtual 322, 3) := dk_182 1 66 (dk_at dksX6_whyVote_0 1 rfl rfl)
theorem dX6_whyVote_4 : decode cX6_whyVote 4 = .ok (.aload_n 0, 1) := dk_42 (dk_at dksX6_whyVote_0 4 rfl rfl)
theorem dX6_whyVote_5 : decode cX6_whyVote 5 = .ok (.iload_n 2, 1) := dk_28 (dk_at dksX6_whyVote_0 5 rfl rfl)
theorem dX6_whyVote_6 : decode cX6_whyVote 6 = .ok (.invokevirtual 325, 3) := dk_182 1 69 (dk_at dksX6_whyVote_0 6 rfl rfl)
theorem dX6_whyVote_9 : decode cX6_whyVote 9 = .ok (.ifCond .eq 11, 3) := dk_153 0 11 (dk_at dksX6_whyVote_0 9 rfl rfl)
theorem dX6_whyVote_12 : decode cX6_whyVote 12 = .ok (.aload_n 0, 1) := dk_42 (dk_at dksX6_whyVote_0 12 rfl rfl)
theorem dX6_whyVote_13 : decode cX6_whyVote 13 = .ok (.iload_n 3, 1) := dk_29 (dk_at dksX6_whyVote_0 13 rfl rfl)
theorem dX6_whyVote_14 : decode cX6_whyVote 14 = .ok (.invokevirtual 325, 3) := dk_182 1 69 (dk_at dksX6_whyVote_0 14 rfl rfl)
theorem dX6_whyVote_17 : decode cX6_whyVote 17 = .ok (.ifCond .ne 5, 3) := dk_154 0 5 (dk_at dksX6_whyVote_0 17 rfl rfl)
theorem dX6_whyVote_20 : decode cX6_whyVote 20 = .ok (.iconst 1, 1) := dk_4 (dk_at dksX6_whyVote_0 20 rfl rfl)
theorem dX6_whyVote_21 : decode cX6_whyVote 21 = .ok (.ireturn, 1) := dk_172 (dk_at dksX6_whyVote_0 21 rfl rfl)
theorem dX6_whyVote_22 : decode cX6_whyVote 22 = .ok (.aload_n 0, 1) := dk_42 (dk_at dksX6_whyVote_0 22 rfl rfl)
theorem dX6_whyVote_23 : decode cX6_whyVote 23 = .ok (.iload_n 2, 1) := dk_28 (dk_at dksX6_whyVote_0 23 rfl rfl)
theorem dX6_whyVote_24 : decode cX6_whyVote 24 = .ok (.iload_n 3, 1) := dk_29 (dk_at dksX6_whyVote_1 0 rfl rfl)
theorem dX6_whyVote_25 : decode cX6_whyVote 25 = .ok (.invokevirtual 335, 3) := dk_182 1 79 (dk_at dksX6_whyVote_1 1 rfl rfl)
theorem dX6_whyVote_28 : decode cX6_whyVote 28 = .ok (.ifCond .ne 5, 3) := dk_154 0 5 (dk_at dksX6_whyVote_1 4 rfl rfl)
theorem dX6_whyVote_31 : decode cX6_whyVote 31 = .ok (.iconst 2, 1) := dk_5 (dk_at dksX6_whyVote_1 7 rfl rfl)
theorem dX6_whyVote_32 : decode cX6_whyVote 32 = .ok (.ireturn, 1) := dk_172 (dk_at dksX6_whyVote_1 8 rfl rfl)
theorem dX6_whyVote_33 : decode cX6_whyVote 33 = .ok (.aload_n 0, 1) := dk_42 (dk_at dksX6_whyVote_1 9 rfl rfl)
theorem dX6_whyVote_34 : decode cX6_whyVote 34 = .ok (.getfield 59, 3) := dk_180 0 59 (dk_at dksX6_whyVote_1 10 rfl rfl)
theorem dX6_whyVote_37 : decode cX6_whyVote 37 = .ok (.bipush 20, 2) := dk_16 20 (dk_at dksX6_whyVote_1 13 rfl rfl)
theorem dX6_whyVote_39 : decode cX6_whyVote 39 = .ok (.iload_n 2, 1) := dk_28 (dk_at dksX6_whyVote_1 15 rfl rfl)
theorem dX6_whyVote_40 : decode cX6_whyVote 40 = .ok (.imul, 1) := dk_104 (dk_at dksX6_whyVote_1 16 rfl rfl)
theorem dX6_whyVote_41 : decode cX6_whyVote 41 = .ok (.iload_n 3, 1) := dk_29 (dk_at dksX6_whyVote_1 17 rfl rfl)
theorem dX6_whyVote_42 : decode cX6_whyVote 42 = .ok (.iadd, 1) := dk_96 (dk_at dksX6_whyVote_1 18 rfl rfl)
theorem dX6_whyVote_43 : decode cX6_whyVote 43 = .ok (.iaload, 1) := dk_46 (dk_at dksX6_whyVote_1 19 rfl rfl)
theorem dX6_whyVote_44 : decode cX6_whyVote 44 = .ok (.iload_n 1, 1) := dk_27 (dk_at dksX6_whyVote_1 20 rfl rfl)
theorem dX6_whyVote_45 : decode cX6_whyVote 45 = .ok (.invokestatic 246, 3) := dk_184 0 246 (dk_at dksX6_whyVote_1 21 rfl rfl)
theorem dX6_whyVote_48 : decode cX6_whyVote 48 = .ok (.ifCond .eq 7, 3) := dk_153 0 7 (dk_at dksX6_whyVote_2 0 rfl rfl)
theorem dX6_whyVote_51 : decode cX6_whyVote 51 = .ok (.iconst 3, 1) := dk_6 (dk_at dksX6_whyVote_2 3 rfl rfl)
theorem dX6_whyVote_52 : decode cX6_whyVote 52 = .ok (.goto 19, 3) := dk_167 0 19 (dk_at dksX6_whyVote_2 4 rfl rfl)
theorem dX6_whyVote_55 : decode cX6_whyVote 55 = .ok (.aload_n 0, 1) := dk_42 (dk_at dksX6_whyVote_2 7 rfl rfl)
theorem dX6_whyVote_56 : decode cX6_whyVote 56 = .ok (.getfield 33, 3) := dk_180 0 33 (dk_at dksX6_whyVote_2 8 rfl rfl)
theorem dX6_whyVote_59 : decode cX6_whyVote 59 = .ok (.iconst 3, 1) := dk_6 (dk_at dksX6_whyVote_2 11 rfl rfl)
theorem dX6_whyVote_60 : decode cX6_whyVote 60 = .ok (.iaload, 1) := dk_46 (dk_at dksX6_whyVote_2 12 rfl rfl)
theorem dX6_whyVote_61 : decode cX6_whyVote 61 = .ok (.bipush 48, 2) := dk_16 48 (dk_at dksX6_whyVote_2 13 rfl rfl)
theorem dX6_whyVote_63 : decode cX6_whyVote 63 = .ok (.if_icmp .ne 7, 3) := dk_160 0 7 (dk_at dksX6_whyVote_2 15 rfl rfl)
theorem dX6_whyVote_66 : decode cX6_whyVote 66 = .ok (.iconst 4, 1) := dk_7 (dk_at dksX6_whyVote_2 18 rfl rfl)
theorem dX6_whyVote_67 : decode cX6_whyVote 67 = .ok (.goto 4, 3) := dk_167 0 4 (dk_at dksX6_whyVote_2 19 rfl rfl)
theorem dX6_whyVote_70 : decode cX6_whyVote 70 = .ok (.iconst 0, 1) := dk_3 (dk_at dksX6_whyVote_2 22 rfl rfl)
theorem dX6_whyVote_71 : decode cX6_whyVote 71 = .ok (.ireturn, 1) := dk_172 (dk_at dksX6_whyVote_2 23 rfl rfl)
abbrev cX6_keeps : ByteArray := prog_25_method_68_code
def yX6_keeps : MethodName := ⟨RX6, "keeps", "()V"⟩
def dkwX6_keeps_0 : List UInt8 := [42, 42, 180, 0, 71, 182, 1, 108, 42, 42, 180, 0, 71, 182, 1, 112, 177]
abbrev dktX6_keeps_0 : List UInt8 := dkwX6_keeps_0 ++ []
theorem dksX6_keeps_0 : cX6_keeps.data.toList.drop 0 = dktX6_keeps_0 := by decide +kernel
theorem dX6_keeps_0 : decode cX6_keeps 0 = .ok (.aload_n 0, 1) := dk_42 (dk_at dksX6_keeps_0 0 rfl rfl)
theorem dX6_keeps_1 : decode cX6_keeps 1 = .ok (.aload_n 0, 1) := dk_42 (dk_at dksX6_keeps_0 1 rfl rfl)
theorem dX6_keeps_2 : decode cX6_keeps 2 = .ok (.getfield 71, 3) := dk_180 0 71 (dk_at dksX6_keeps_0 2 rfl rfl)
theorem dX6_keeps_5 : decode cX6_keeps 5 = .ok (.invokevirtual 364, 3) := dk_182 1 108 (dk_at dksX6_keeps_0 5 rfl rfl)
theorem dX6_keeps_8 : decode cX6_keeps 8 = .ok (.aload_n 0, 1) := dk_42 (dk_at dksX6_keeps_0 8 rfl rfl)
theorem dX6_keeps_9 : decode cX6_keeps 9 = .ok (.aload_n 0, 1) := dk_42 (dk_at dksX6_keeps_0 9 rfl rfl)
theorem dX6_keeps_10 : decode cX6_keeps 10 = .ok (.getfield 71, 3) := dk_180 0 71 (dk_at dksX6_keeps_0 10 rfl rfl)
theorem dX6_keeps_13 : decode cX6_keeps 13 = .ok (.invokevirtual 368, 3) := dk_182 1 112 (dk_at dksX6_keeps_0 13 rfl rfl)
theorem dX6_keeps_16 : decode cX6_keeps 16 = .ok (.return_, 1) := dk_177 (dk_at dksX6_keeps_0 16 rfl rfl)
abbrev cX6_copies : ByteArray := prog_25_method_66_code
def yX6_copies : MethodName := ⟨RX6, "copies", "([I)V"⟩
def dkwX6_copies_1 : List UInt8 := [167, 255, 235, 177]
abbrev dktX6_copies_1 : List UInt8 := dkwX6_copies_1 ++ []
def dkwX6_copies_0 : List UInt8 := [3, 61, 28, 17, 0, 222, 162, 0, 20, 43, 28, 42, 180, 0, 33, 5, 28, 96, 46, 79, 132, 2, 1]
abbrev dktX6_copies_0 : List UInt8 := dkwX6_copies_0 ++ dktX6_copies_1
theorem dksX6_copies_0 : cX6_copies.data.toList.drop 0 = dktX6_copies_0 := by decide +kernel
theorem dksX6_copies_1 : cX6_copies.data.toList.drop 23 = dktX6_copies_1 := dk_seg dksX6_copies_0 23 rfl rfl
theorem dX6_copies_0 : decode cX6_copies 0 = .ok (.iconst 0, 1) := dk_3 (dk_at dksX6_copies_0 0 rfl rfl)
theorem dX6_copies_1 : decode cX6_copies 1 = .ok (.istore_n 2, 1) := dk_61 (dk_at dksX6_copies_0 1 rfl rfl)
theorem dX6_copies_2 : decode cX6_copies 2 = .ok (.iload_n 2, 1) := dk_28 (dk_at dksX6_copies_0 2 rfl rfl)
theorem dX6_copies_3 : decode cX6_copies 3 = .ok (.sipush 222, 3) := dk_17 0 222 (dk_at dksX6_copies_0 3 rfl rfl)
theorem dX6_copies_6 : decode cX6_copies 6 = .ok (.if_icmp .ge 20, 3) := dk_162 0 20 (dk_at dksX6_copies_0 6 rfl rfl)
theorem dX6_copies_9 : decode cX6_copies 9 = .ok (.aload_n 1, 1) := dk_43 (dk_at dksX6_copies_0 9 rfl rfl)
theorem dX6_copies_10 : decode cX6_copies 10 = .ok (.iload_n 2, 1) := dk_28 (dk_at dksX6_copies_0 10 rfl rfl)
theorem dX6_copies_11 : decode cX6_copies 11 = .ok (.aload_n 0, 1) := dk_42 (dk_at dksX6_copies_0 11 rfl rfl)
theorem dX6_copies_12 : decode cX6_copies 12 = .ok (.getfield 33, 3) := dk_180 0 33 (dk_at dksX6_copies_0 12 rfl rfl)
theorem dX6_copies_15 : decode cX6_copies 15 = .ok (.iconst 2, 1) := dk_5 (dk_at dksX6_copies_0 15 rfl rfl)
theorem dX6_copies_16 : decode cX6_copies 16 = .ok (.iload_n 2, 1) := dk_28 (dk_at dksX6_copies_0 16 rfl rfl)
theorem dX6_copies_17 : decode cX6_copies 17 = .ok (.iadd, 1) := dk_96 (dk_at dksX6_copies_0 17 rfl rfl)
theorem dX6_copies_18 : decode cX6_copies 18 = .ok (.iaload, 1) := dk_46 (dk_at dksX6_copies_0 18 rfl rfl)
theorem dX6_copies_19 : decode cX6_copies 19 = .ok (.iastore, 1) := dk_79 (dk_at dksX6_copies_0 19 rfl rfl)
theorem dX6_copies_20 : decode cX6_copies 20 = .ok (.iinc 2 1, 3) := dk_132 2 1 (dk_at dksX6_copies_0 20 rfl rfl)
theorem dX6_copies_23 : decode cX6_copies 23 = .ok (.goto (-21), 3) := dk_167 255 235 (dk_at dksX6_copies_1 0 rfl rfl)
theorem dX6_copies_26 : decode cX6_copies 26 = .ok (.return_, 1) := dk_177 (dk_at dksX6_copies_1 3 rfl rfl)
abbrev cX6_stores : ByteArray := prog_25_method_65_code
def yX6_stores : MethodName := ⟨RX6, "stores", "([I)V"⟩
def dkwX6_stores_3 : List UInt8 := [79, 132, 2, 1, 167, 255, 228, 42, 89, 180, 0, 239, 4, 96, 181, 0, 239, 177]
abbrev dktX6_stores_3 : List UInt8 := dkwX6_stores_3 ++ []
def dkwX6_stores_2 : List UInt8 := [28, 17, 0, 222, 162, 0, 27, 42, 180, 0, 68, 17, 0, 222, 42, 180, 0, 239, 104, 28, 96, 43, 28, 46]
abbrev dktX6_stores_2 : List UInt8 := dkwX6_stores_2 ++ dktX6_stores_3
def dkwX6_stores_1 : List UInt8 := [180, 0, 68, 28, 17, 0, 222, 96, 46, 79, 132, 2, 1, 167, 255, 230, 42, 16, 7, 181, 0, 239, 3, 61]
abbrev dktX6_stores_1 : List UInt8 := dkwX6_stores_1 ++ dktX6_stores_2
def dkwX6_stores_0 : List UInt8 := [42, 180, 0, 239, 16, 8, 160, 0, 40, 3, 61, 28, 17, 6, 18, 162, 0, 25, 42, 180, 0, 68, 28, 42]
abbrev dktX6_stores_0 : List UInt8 := dkwX6_stores_0 ++ dktX6_stores_1
theorem dksX6_stores_0 : cX6_stores.data.toList.drop 0 = dktX6_stores_0 := by decide +kernel
theorem dksX6_stores_1 : cX6_stores.data.toList.drop 24 = dktX6_stores_1 := dk_seg dksX6_stores_0 24 rfl rfl
theorem dksX6_stores_2 : cX6_stores.data.toList.drop 48 = dktX6_stores_2 := dk_seg dksX6_stores_1 24 rfl rfl
theorem dksX6_stores_3 : cX6_stores.data.toList.drop 72 = dktX6_stores_3 := dk_seg dksX6_stores_2 24 rfl rfl
theorem dX6_stores_0 : decode cX6_stores 0 = .ok (.aload_n 0, 1) := dk_42 (dk_at dksX6_stores_0 0 rfl rfl)
theorem dX6_stores_1 : decode cX6_stores 1 = .ok (.getfield 239, 3) := dk_180 0 239 (dk_at dksX6_stores_0 1 rfl rfl)
theorem dX6_stores_4 : decode cX6_stores 4 = .ok (.bipush 8, 2) := dk_16 8 (dk_at dksX6_stores_0 4 rfl rfl)
theorem dX6_stores_6 : decode cX6_stores 6 = .ok (.if_icmp .ne 40, 3) := dk_160 0 40 (dk_at dksX6_stores_0 6 rfl rfl)
theorem dX6_stores_9 : decode cX6_stores 9 = .ok (.iconst 0, 1) := dk_3 (dk_at dksX6_stores_0 9 rfl rfl)
theorem dX6_stores_10 : decode cX6_stores 10 = .ok (.istore_n 2, 1) := dk_61 (dk_at dksX6_stores_0 10 rfl rfl)
theorem dX6_stores_11 : decode cX6_stores 11 = .ok (.iload_n 2, 1) := dk_28 (dk_at dksX6_stores_0 11 rfl rfl)
theorem dX6_stores_12 : decode cX6_stores 12 = .ok (.sipush 1554, 3) := dk_17 6 18 (dk_at dksX6_stores_0 12 rfl rfl)
theorem dX6_stores_15 : decode cX6_stores 15 = .ok (.if_icmp .ge 25, 3) := dk_162 0 25 (dk_at dksX6_stores_0 15 rfl rfl)
theorem dX6_stores_18 : decode cX6_stores 18 = .ok (.aload_n 0, 1) := dk_42 (dk_at dksX6_stores_0 18 rfl rfl)
theorem dX6_stores_19 : decode cX6_stores 19 = .ok (.getfield 68, 3) := dk_180 0 68 (dk_at dksX6_stores_0 19 rfl rfl)
theorem dX6_stores_22 : decode cX6_stores 22 = .ok (.iload_n 2, 1) := dk_28 (dk_at dksX6_stores_0 22 rfl rfl)
theorem dX6_stores_23 : decode cX6_stores 23 = .ok (.aload_n 0, 1) := dk_42 (dk_at dksX6_stores_0 23 rfl rfl)
theorem dX6_stores_24 : decode cX6_stores 24 = .ok (.getfield 68, 3) := dk_180 0 68 (dk_at dksX6_stores_1 0 rfl rfl)
theorem dX6_stores_27 : decode cX6_stores 27 = .ok (.iload_n 2, 1) := dk_28 (dk_at dksX6_stores_1 3 rfl rfl)
theorem dX6_stores_28 : decode cX6_stores 28 = .ok (.sipush 222, 3) := dk_17 0 222 (dk_at dksX6_stores_1 4 rfl rfl)
theorem dX6_stores_31 : decode cX6_stores 31 = .ok (.iadd, 1) := dk_96 (dk_at dksX6_stores_1 7 rfl rfl)
theorem dX6_stores_32 : decode cX6_stores 32 = .ok (.iaload, 1) := dk_46 (dk_at dksX6_stores_1 8 rfl rfl)
theorem dX6_stores_33 : decode cX6_stores 33 = .ok (.iastore, 1) := dk_79 (dk_at dksX6_stores_1 9 rfl rfl)
theorem dX6_stores_34 : decode cX6_stores 34 = .ok (.iinc 2 1, 3) := dk_132 2 1 (dk_at dksX6_stores_1 10 rfl rfl)
theorem dX6_stores_37 : decode cX6_stores 37 = .ok (.goto (-26), 3) := dk_167 255 230 (dk_at dksX6_stores_1 13 rfl rfl)
theorem dX6_stores_40 : decode cX6_stores 40 = .ok (.aload_n 0, 1) := dk_42 (dk_at dksX6_stores_1 16 rfl rfl)
theorem dX6_stores_41 : decode cX6_stores 41 = .ok (.bipush 7, 2) := dk_16 7 (dk_at dksX6_stores_1 17 rfl rfl)
theorem dX6_stores_43 : decode cX6_stores 43 = .ok (.putfield 239, 3) := dk_181 0 239 (dk_at dksX6_stores_1 19 rfl rfl)
theorem dX6_stores_46 : decode cX6_stores 46 = .ok (.iconst 0, 1) := dk_3 (dk_at dksX6_stores_1 22 rfl rfl)
theorem dX6_stores_47 : decode cX6_stores 47 = .ok (.istore_n 2, 1) := dk_61 (dk_at dksX6_stores_1 23 rfl rfl)
theorem dX6_stores_48 : decode cX6_stores 48 = .ok (.iload_n 2, 1) := dk_28 (dk_at dksX6_stores_2 0 rfl rfl)
theorem dX6_stores_49 : decode cX6_stores 49 = .ok (.sipush 222, 3) := dk_17 0 222 (dk_at dksX6_stores_2 1 rfl rfl)
theorem dX6_stores_52 : decode cX6_stores 52 = .ok (.if_icmp .ge 27, 3) := dk_162 0 27 (dk_at dksX6_stores_2 4 rfl rfl)
theorem dX6_stores_55 : decode cX6_stores 55 = .ok (.aload_n 0, 1) := dk_42 (dk_at dksX6_stores_2 7 rfl rfl)
theorem dX6_stores_56 : decode cX6_stores 56 = .ok (.getfield 68, 3) := dk_180 0 68 (dk_at dksX6_stores_2 8 rfl rfl)
theorem dX6_stores_59 : decode cX6_stores 59 = .ok (.sipush 222, 3) := dk_17 0 222 (dk_at dksX6_stores_2 11 rfl rfl)
theorem dX6_stores_62 : decode cX6_stores 62 = .ok (.aload_n 0, 1) := dk_42 (dk_at dksX6_stores_2 14 rfl rfl)
theorem dX6_stores_63 : decode cX6_stores 63 = .ok (.getfield 239, 3) := dk_180 0 239 (dk_at dksX6_stores_2 15 rfl rfl)
theorem dX6_stores_66 : decode cX6_stores 66 = .ok (.imul, 1) := dk_104 (dk_at dksX6_stores_2 18 rfl rfl)
theorem dX6_stores_67 : decode cX6_stores 67 = .ok (.iload_n 2, 1) := dk_28 (dk_at dksX6_stores_2 19 rfl rfl)
theorem dX6_stores_68 : decode cX6_stores 68 = .ok (.iadd, 1) := dk_96 (dk_at dksX6_stores_2 20 rfl rfl)
theorem dX6_stores_69 : decode cX6_stores 69 = .ok (.aload_n 1, 1) := dk_43 (dk_at dksX6_stores_2 21 rfl rfl)
theorem dX6_stores_70 : decode cX6_stores 70 = .ok (.iload_n 2, 1) := dk_28 (dk_at dksX6_stores_2 22 rfl rfl)
theorem dX6_stores_71 : decode cX6_stores 71 = .ok (.iaload, 1) := dk_46 (dk_at dksX6_stores_2 23 rfl rfl)
theorem dX6_stores_72 : decode cX6_stores 72 = .ok (.iastore, 1) := dk_79 (dk_at dksX6_stores_3 0 rfl rfl)
theorem dX6_stores_73 : decode cX6_stores 73 = .ok (.iinc 2 1, 3) := dk_132 2 1 (dk_at dksX6_stores_3 1 rfl rfl)
theorem dX6_stores_76 : decode cX6_stores 76 = .ok (.goto (-28), 3) := dk_167 255 228 (dk_at dksX6_stores_3 4 rfl rfl)
theorem dX6_stores_79 : decode cX6_stores 79 = .ok (.aload_n 0, 1) := dk_42 (dk_at dksX6_stores_3 7 rfl rfl)
theorem dX6_stores_80 : decode cX6_stores 80 = .ok (.dup, 1) := dk_89 (dk_at dksX6_stores_3 8 rfl rfl)
theorem dX6_stores_81 : decode cX6_stores 81 = .ok (.getfield 239, 3) := dk_180 0 239 (dk_at dksX6_stores_3 9 rfl rfl)
theorem dX6_stores_84 : decode cX6_stores 84 = .ok (.iconst 1, 1) := dk_4 (dk_at dksX6_stores_3 12 rfl rfl)
theorem dX6_stores_85 : decode cX6_stores 85 = .ok (.iadd, 1) := dk_96 (dk_at dksX6_stores_3 13 rfl rfl)
theorem dX6_stores_86 : decode cX6_stores 86 = .ok (.putfield 239, 3) := dk_181 0 239 (dk_at dksX6_stores_3 14 rfl rfl)
theorem dX6_stores_89 : decode cX6_stores 89 = .ok (.return_, 1) := dk_177 (dk_at dksX6_stores_3 17 rfl rfl)
abbrev cX6_doesVote : ByteArray := prog_25_method_59_code
def yX6_doesVote : MethodName := ⟨RX6, "doesVote", "(III)V"⟩
def dkwX6_doesVote_2 : List UInt8 := [92, 46, 4, 96, 79, 42, 3, 181, 0, 242, 177]
abbrev dktX6_doesVote_2 : List UInt8 := dkwX6_doesVote_2 ++ []
def dkwX6_doesVote_1 : List UInt8 := [16, 120, 21, 4, 96, 28, 79, 42, 180, 0, 33, 17, 0, 168, 21, 4, 96, 29, 79, 42, 180, 0, 33, 6]
abbrev dktX6_doesVote_1 : List UInt8 := dkwX6_doesVote_1 ++ dktX6_doesVote_2
def dkwX6_doesVote_0 : List UInt8 := [42, 180, 0, 33, 6, 46, 54, 4, 42, 180, 0, 33, 16, 72, 21, 4, 96, 27, 79, 42, 180, 0, 33]
abbrev dktX6_doesVote_0 : List UInt8 := dkwX6_doesVote_0 ++ dktX6_doesVote_1
theorem dksX6_doesVote_0 : cX6_doesVote.data.toList.drop 0 = dktX6_doesVote_0 := by decide +kernel
theorem dksX6_doesVote_1 : cX6_doesVote.data.toList.drop 23 = dktX6_doesVote_1 := dk_seg dksX6_doesVote_0 23 rfl rfl
theorem dksX6_doesVote_2 : cX6_doesVote.data.toList.drop 47 = dktX6_doesVote_2 := dk_seg dksX6_doesVote_1 24 rfl rfl
theorem dX6_doesVote_0 : decode cX6_doesVote 0 = .ok (.aload_n 0, 1) := dk_42 (dk_at dksX6_doesVote_0 0 rfl rfl)
theorem dX6_doesVote_1 : decode cX6_doesVote 1 = .ok (.getfield 33, 3) := dk_180 0 33 (dk_at dksX6_doesVote_0 1 rfl rfl)
theorem dX6_doesVote_4 : decode cX6_doesVote 4 = .ok (.iconst 3, 1) := dk_6 (dk_at dksX6_doesVote_0 4 rfl rfl)
theorem dX6_doesVote_5 : decode cX6_doesVote 5 = .ok (.iaload, 1) := dk_46 (dk_at dksX6_doesVote_0 5 rfl rfl)
theorem dX6_doesVote_6 : decode cX6_doesVote 6 = .ok (.istore 4, 2) := dk_54 4 (dk_at dksX6_doesVote_0 6 rfl rfl)
theorem dX6_doesVote_8 : decode cX6_doesVote 8 = .ok (.aload_n 0, 1) := dk_42 (dk_at dksX6_doesVote_0 8 rfl rfl)
theorem dX6_doesVote_9 : decode cX6_doesVote 9 = .ok (.getfield 33, 3) := dk_180 0 33 (dk_at dksX6_doesVote_0 9 rfl rfl)
theorem dX6_doesVote_12 : decode cX6_doesVote 12 = .ok (.bipush 72, 2) := dk_16 72 (dk_at dksX6_doesVote_0 12 rfl rfl)
theorem dX6_doesVote_14 : decode cX6_doesVote 14 = .ok (.iload 4, 2) := dk_21 4 (dk_at dksX6_doesVote_0 14 rfl rfl)
theorem dX6_doesVote_16 : decode cX6_doesVote 16 = .ok (.iadd, 1) := dk_96 (dk_at dksX6_doesVote_0 16 rfl rfl)
theorem dX6_doesVote_17 : decode cX6_doesVote 17 = .ok (.iload_n 1, 1) := dk_27 (dk_at dksX6_doesVote_0 17 rfl rfl)
theorem dX6_doesVote_18 : decode cX6_doesVote 18 = .ok (.iastore, 1) := dk_79 (dk_at dksX6_doesVote_0 18 rfl rfl)
theorem dX6_doesVote_19 : decode cX6_doesVote 19 = .ok (.aload_n 0, 1) := dk_42 (dk_at dksX6_doesVote_0 19 rfl rfl)
theorem dX6_doesVote_20 : decode cX6_doesVote 20 = .ok (.getfield 33, 3) := dk_180 0 33 (dk_at dksX6_doesVote_0 20 rfl rfl)
theorem dX6_doesVote_23 : decode cX6_doesVote 23 = .ok (.bipush 120, 2) := dk_16 120 (dk_at dksX6_doesVote_1 0 rfl rfl)
theorem dX6_doesVote_25 : decode cX6_doesVote 25 = .ok (.iload 4, 2) := dk_21 4 (dk_at dksX6_doesVote_1 2 rfl rfl)
theorem dX6_doesVote_27 : decode cX6_doesVote 27 = .ok (.iadd, 1) := dk_96 (dk_at dksX6_doesVote_1 4 rfl rfl)
theorem dX6_doesVote_28 : decode cX6_doesVote 28 = .ok (.iload_n 2, 1) := dk_28 (dk_at dksX6_doesVote_1 5 rfl rfl)
theorem dX6_doesVote_29 : decode cX6_doesVote 29 = .ok (.iastore, 1) := dk_79 (dk_at dksX6_doesVote_1 6 rfl rfl)
theorem dX6_doesVote_30 : decode cX6_doesVote 30 = .ok (.aload_n 0, 1) := dk_42 (dk_at dksX6_doesVote_1 7 rfl rfl)
theorem dX6_doesVote_31 : decode cX6_doesVote 31 = .ok (.getfield 33, 3) := dk_180 0 33 (dk_at dksX6_doesVote_1 8 rfl rfl)
theorem dX6_doesVote_34 : decode cX6_doesVote 34 = .ok (.sipush 168, 3) := dk_17 0 168 (dk_at dksX6_doesVote_1 11 rfl rfl)
theorem dX6_doesVote_37 : decode cX6_doesVote 37 = .ok (.iload 4, 2) := dk_21 4 (dk_at dksX6_doesVote_1 14 rfl rfl)
theorem dX6_doesVote_39 : decode cX6_doesVote 39 = .ok (.iadd, 1) := dk_96 (dk_at dksX6_doesVote_1 16 rfl rfl)
theorem dX6_doesVote_40 : decode cX6_doesVote 40 = .ok (.iload_n 3, 1) := dk_29 (dk_at dksX6_doesVote_1 17 rfl rfl)
theorem dX6_doesVote_41 : decode cX6_doesVote 41 = .ok (.iastore, 1) := dk_79 (dk_at dksX6_doesVote_1 18 rfl rfl)
theorem dX6_doesVote_42 : decode cX6_doesVote 42 = .ok (.aload_n 0, 1) := dk_42 (dk_at dksX6_doesVote_1 19 rfl rfl)
theorem dX6_doesVote_43 : decode cX6_doesVote 43 = .ok (.getfield 33, 3) := dk_180 0 33 (dk_at dksX6_doesVote_1 20 rfl rfl)
theorem dX6_doesVote_46 : decode cX6_doesVote 46 = .ok (.iconst 3, 1) := dk_6 (dk_at dksX6_doesVote_1 23 rfl rfl)
theorem dX6_doesVote_47 : decode cX6_doesVote 47 = .ok (.dup2, 1) := dk_92 (dk_at dksX6_doesVote_2 0 rfl rfl)
theorem dX6_doesVote_48 : decode cX6_doesVote 48 = .ok (.iaload, 1) := dk_46 (dk_at dksX6_doesVote_2 1 rfl rfl)
theorem dX6_doesVote_49 : decode cX6_doesVote 49 = .ok (.iconst 1, 1) := dk_4 (dk_at dksX6_doesVote_2 2 rfl rfl)
theorem dX6_doesVote_50 : decode cX6_doesVote 50 = .ok (.iadd, 1) := dk_96 (dk_at dksX6_doesVote_2 3 rfl rfl)
theorem dX6_doesVote_51 : decode cX6_doesVote 51 = .ok (.iastore, 1) := dk_79 (dk_at dksX6_doesVote_2 4 rfl rfl)
theorem dX6_doesVote_52 : decode cX6_doesVote 52 = .ok (.aload_n 0, 1) := dk_42 (dk_at dksX6_doesVote_2 5 rfl rfl)
theorem dX6_doesVote_53 : decode cX6_doesVote 53 = .ok (.iconst 0, 1) := dk_3 (dk_at dksX6_doesVote_2 6 rfl rfl)
theorem dX6_doesVote_54 : decode cX6_doesVote 54 = .ok (.putfield 242, 3) := dk_181 0 242 (dk_at dksX6_doesVote_2 7 rfl rfl)
theorem dX6_doesVote_57 : decode cX6_doesVote 57 = .ok (.return_, 1) := dk_177 (dk_at dksX6_doesVote_2 10 rfl rfl)
abbrev cX6_looks : ByteArray := prog_25_method_63_code
def yX6_looks : MethodName := ⟨RX6, "looks", "(II)I"⟩
def dkwX6_looks_2 : List UInt8 := [182, 1, 101, 3, 172]
abbrev dktX6_looks_2 : List UInt8 := dkwX6_looks_2 ++ []
def dkwX6_looks_1 : List UInt8 := [180, 0, 33, 17, 0, 216, 27, 96, 46, 28, 160, 0, 5, 4, 172, 42, 182, 1, 94, 42, 27, 28]
abbrev dktX6_looks_1 : List UInt8 := dkwX6_looks_1 ++ dktX6_looks_2
def dkwX6_looks_0 : List UInt8 := [42, 3, 181, 0, 1, 42, 27, 182, 1, 82, 153, 0, 11, 42, 28, 182, 1, 59, 154, 0, 5, 2, 172, 42]
abbrev dktX6_looks_0 : List UInt8 := dkwX6_looks_0 ++ dktX6_looks_1
theorem dksX6_looks_0 : cX6_looks.data.toList.drop 0 = dktX6_looks_0 := by decide +kernel
theorem dksX6_looks_1 : cX6_looks.data.toList.drop 24 = dktX6_looks_1 := dk_seg dksX6_looks_0 24 rfl rfl
theorem dksX6_looks_2 : cX6_looks.data.toList.drop 46 = dktX6_looks_2 := dk_seg dksX6_looks_1 22 rfl rfl
theorem dX6_looks_0 : decode cX6_looks 0 = .ok (.aload_n 0, 1) := dk_42 (dk_at dksX6_looks_0 0 rfl rfl)
theorem dX6_looks_1 : decode cX6_looks 1 = .ok (.iconst 0, 1) := dk_3 (dk_at dksX6_looks_0 1 rfl rfl)
theorem dX6_looks_2 : decode cX6_looks 2 = .ok (.putfield 1, 3) := dk_181 0 1 (dk_at dksX6_looks_0 2 rfl rfl)
theorem dX6_looks_5 : decode cX6_looks 5 = .ok (.aload_n 0, 1) := dk_42 (dk_at dksX6_looks_0 5 rfl rfl)
theorem dX6_looks_6 : decode cX6_looks 6 = .ok (.iload_n 1, 1) := dk_27 (dk_at dksX6_looks_0 6 rfl rfl)
theorem dX6_looks_7 : decode cX6_looks 7 = .ok (.invokevirtual 338, 3) := dk_182 1 82 (dk_at dksX6_looks_0 7 rfl rfl)
theorem dX6_looks_10 : decode cX6_looks 10 = .ok (.ifCond .eq 11, 3) := dk_153 0 11 (dk_at dksX6_looks_0 10 rfl rfl)
theorem dX6_looks_13 : decode cX6_looks 13 = .ok (.aload_n 0, 1) := dk_42 (dk_at dksX6_looks_0 13 rfl rfl)
theorem dX6_looks_14 : decode cX6_looks 14 = .ok (.iload_n 2, 1) := dk_28 (dk_at dksX6_looks_0 14 rfl rfl)
theorem dX6_looks_15 : decode cX6_looks 15 = .ok (.invokevirtual 315, 3) := dk_182 1 59 (dk_at dksX6_looks_0 15 rfl rfl)
theorem dX6_looks_18 : decode cX6_looks 18 = .ok (.ifCond .ne 5, 3) := dk_154 0 5 (dk_at dksX6_looks_0 18 rfl rfl)
theorem dX6_looks_21 : decode cX6_looks 21 = .ok (.iconst (-1), 1) := dk_2 (dk_at dksX6_looks_0 21 rfl rfl)
theorem dX6_looks_22 : decode cX6_looks 22 = .ok (.ireturn, 1) := dk_172 (dk_at dksX6_looks_0 22 rfl rfl)
theorem dX6_looks_23 : decode cX6_looks 23 = .ok (.aload_n 0, 1) := dk_42 (dk_at dksX6_looks_0 23 rfl rfl)
theorem dX6_looks_24 : decode cX6_looks 24 = .ok (.getfield 33, 3) := dk_180 0 33 (dk_at dksX6_looks_1 0 rfl rfl)
theorem dX6_looks_27 : decode cX6_looks 27 = .ok (.sipush 216, 3) := dk_17 0 216 (dk_at dksX6_looks_1 3 rfl rfl)
theorem dX6_looks_30 : decode cX6_looks 30 = .ok (.iload_n 1, 1) := dk_27 (dk_at dksX6_looks_1 6 rfl rfl)
theorem dX6_looks_31 : decode cX6_looks 31 = .ok (.iadd, 1) := dk_96 (dk_at dksX6_looks_1 7 rfl rfl)
theorem dX6_looks_32 : decode cX6_looks 32 = .ok (.iaload, 1) := dk_46 (dk_at dksX6_looks_1 8 rfl rfl)
theorem dX6_looks_33 : decode cX6_looks 33 = .ok (.iload_n 2, 1) := dk_28 (dk_at dksX6_looks_1 9 rfl rfl)
theorem dX6_looks_34 : decode cX6_looks 34 = .ok (.if_icmp .ne 5, 3) := dk_160 0 5 (dk_at dksX6_looks_1 10 rfl rfl)
theorem dX6_looks_37 : decode cX6_looks 37 = .ok (.iconst 1, 1) := dk_4 (dk_at dksX6_looks_1 13 rfl rfl)
theorem dX6_looks_38 : decode cX6_looks 38 = .ok (.ireturn, 1) := dk_172 (dk_at dksX6_looks_1 14 rfl rfl)
theorem dX6_looks_39 : decode cX6_looks 39 = .ok (.aload_n 0, 1) := dk_42 (dk_at dksX6_looks_1 15 rfl rfl)
theorem dX6_looks_40 : decode cX6_looks 40 = .ok (.invokevirtual 350, 3) := dk_182 1 94 (dk_at dksX6_looks_1 16 rfl rfl)
theorem dX6_looks_43 : decode cX6_looks 43 = .ok (.aload_n 0, 1) := dk_42 (dk_at dksX6_looks_1 19 rfl rfl)
theorem dX6_looks_44 : decode cX6_looks 44 = .ok (.iload_n 1, 1) := dk_27 (dk_at dksX6_looks_1 20 rfl rfl)
theorem dX6_looks_45 : decode cX6_looks 45 = .ok (.iload_n 2, 1) := dk_28 (dk_at dksX6_looks_1 21 rfl rfl)
theorem dX6_looks_46 : decode cX6_looks 46 = .ok (.invokevirtual 357, 3) := dk_182 1 101 (dk_at dksX6_looks_2 0 rfl rfl)
theorem dX6_looks_49 : decode cX6_looks 49 = .ok (.iconst 0, 1) := dk_3 (dk_at dksX6_looks_2 3 rfl rfl)
theorem dX6_looks_50 : decode cX6_looks 50 = .ok (.ireturn, 1) := dk_172 (dk_at dksX6_looks_2 4 rfl rfl)
abbrev cX6_doesLook : ByteArray := prog_25_method_60_code
def yX6_doesLook : MethodName := ⟨RX6, "doesLook", "(II)V"⟩
def dkwX6_doesLook_0 : List UInt8 := [42, 180, 0, 33, 17, 0, 216, 27, 96, 28, 79, 42, 3, 181, 0, 242, 177]
abbrev dktX6_doesLook_0 : List UInt8 := dkwX6_doesLook_0 ++ []
theorem dksX6_doesLook_0 : cX6_doesLook.data.toList.drop 0 = dktX6_doesLook_0 := by decide +kernel
theorem dX6_doesLook_0 : decode cX6_doesLook 0 = .ok (.aload_n 0, 1) := dk_42 (dk_at dksX6_doesLook_0 0 rfl rfl)
theorem dX6_doesLook_1 : decode cX6_doesLook 1 = .ok (.getfield 33, 3) := dk_180 0 33 (dk_at dksX6_doesLook_0 1 rfl rfl)
theorem dX6_doesLook_4 : decode cX6_doesLook 4 = .ok (.sipush 216, 3) := dk_17 0 216 (dk_at dksX6_doesLook_0 4 rfl rfl)
theorem dX6_doesLook_7 : decode cX6_doesLook 7 = .ok (.iload_n 1, 1) := dk_27 (dk_at dksX6_doesLook_0 7 rfl rfl)
theorem dX6_doesLook_8 : decode cX6_doesLook 8 = .ok (.iadd, 1) := dk_96 (dk_at dksX6_doesLook_0 8 rfl rfl)
theorem dX6_doesLook_9 : decode cX6_doesLook 9 = .ok (.iload_n 2, 1) := dk_28 (dk_at dksX6_doesLook_0 9 rfl rfl)
theorem dX6_doesLook_10 : decode cX6_doesLook 10 = .ok (.iastore, 1) := dk_79 (dk_at dksX6_doesLook_0 10 rfl rfl)
theorem dX6_doesLook_11 : decode cX6_doesLook 11 = .ok (.aload_n 0, 1) := dk_42 (dk_at dksX6_doesLook_0 11 rfl rfl)
theorem dX6_doesLook_12 : decode cX6_doesLook 12 = .ok (.iconst 0, 1) := dk_3 (dk_at dksX6_doesLook_0 12 rfl rfl)
theorem dX6_doesLook_13 : decode cX6_doesLook 13 = .ok (.putfield 242, 3) := dk_181 0 242 (dk_at dksX6_doesLook_0 13 rfl rfl)
theorem dX6_doesLook_16 : decode cX6_doesLook 16 = .ok (.return_, 1) := dk_177 (dk_at dksX6_doesLook_0 16 rfl rfl)
abbrev cX6_grows : ByteArray := prog_25_method_64_code
def yX6_grows : MethodName := ⟨RX6, "grows", "(I)I"⟩
def dkwX6_grows_1 : List UInt8 := [160, 0, 5, 4, 172, 42, 182, 1, 94, 42, 27, 182, 1, 105, 3, 172]
abbrev dktX6_grows_1 : List UInt8 := dkwX6_grows_1 ++ []
def dkwX6_grows_0 : List UInt8 := [42, 3, 181, 0, 1, 42, 27, 182, 1, 59, 154, 0, 5, 2, 172, 42, 180, 0, 33, 5, 46, 16, 20]
abbrev dktX6_grows_0 : List UInt8 := dkwX6_grows_0 ++ dktX6_grows_1
theorem dksX6_grows_0 : cX6_grows.data.toList.drop 0 = dktX6_grows_0 := by decide +kernel
theorem dksX6_grows_1 : cX6_grows.data.toList.drop 23 = dktX6_grows_1 := dk_seg dksX6_grows_0 23 rfl rfl
theorem dX6_grows_0 : decode cX6_grows 0 = .ok (.aload_n 0, 1) := dk_42 (dk_at dksX6_grows_0 0 rfl rfl)
theorem dX6_grows_1 : decode cX6_grows 1 = .ok (.iconst 0, 1) := dk_3 (dk_at dksX6_grows_0 1 rfl rfl)
theorem dX6_grows_2 : decode cX6_grows 2 = .ok (.putfield 1, 3) := dk_181 0 1 (dk_at dksX6_grows_0 2 rfl rfl)
theorem dX6_grows_5 : decode cX6_grows 5 = .ok (.aload_n 0, 1) := dk_42 (dk_at dksX6_grows_0 5 rfl rfl)
theorem dX6_grows_6 : decode cX6_grows 6 = .ok (.iload_n 1, 1) := dk_27 (dk_at dksX6_grows_0 6 rfl rfl)
theorem dX6_grows_7 : decode cX6_grows 7 = .ok (.invokevirtual 315, 3) := dk_182 1 59 (dk_at dksX6_grows_0 7 rfl rfl)
theorem dX6_grows_10 : decode cX6_grows 10 = .ok (.ifCond .ne 5, 3) := dk_154 0 5 (dk_at dksX6_grows_0 10 rfl rfl)
theorem dX6_grows_13 : decode cX6_grows 13 = .ok (.iconst (-1), 1) := dk_2 (dk_at dksX6_grows_0 13 rfl rfl)
theorem dX6_grows_14 : decode cX6_grows 14 = .ok (.ireturn, 1) := dk_172 (dk_at dksX6_grows_0 14 rfl rfl)
theorem dX6_grows_15 : decode cX6_grows 15 = .ok (.aload_n 0, 1) := dk_42 (dk_at dksX6_grows_0 15 rfl rfl)
theorem dX6_grows_16 : decode cX6_grows 16 = .ok (.getfield 33, 3) := dk_180 0 33 (dk_at dksX6_grows_0 16 rfl rfl)
theorem dX6_grows_19 : decode cX6_grows 19 = .ok (.iconst 2, 1) := dk_5 (dk_at dksX6_grows_0 19 rfl rfl)
theorem dX6_grows_20 : decode cX6_grows 20 = .ok (.iaload, 1) := dk_46 (dk_at dksX6_grows_0 20 rfl rfl)
theorem dX6_grows_21 : decode cX6_grows 21 = .ok (.bipush 20, 2) := dk_16 20 (dk_at dksX6_grows_0 21 rfl rfl)
theorem dX6_grows_23 : decode cX6_grows 23 = .ok (.if_icmp .ne 5, 3) := dk_160 0 5 (dk_at dksX6_grows_1 0 rfl rfl)
theorem dX6_grows_26 : decode cX6_grows 26 = .ok (.iconst 1, 1) := dk_4 (dk_at dksX6_grows_1 3 rfl rfl)
theorem dX6_grows_27 : decode cX6_grows 27 = .ok (.ireturn, 1) := dk_172 (dk_at dksX6_grows_1 4 rfl rfl)
theorem dX6_grows_28 : decode cX6_grows 28 = .ok (.aload_n 0, 1) := dk_42 (dk_at dksX6_grows_1 5 rfl rfl)
theorem dX6_grows_29 : decode cX6_grows 29 = .ok (.invokevirtual 350, 3) := dk_182 1 94 (dk_at dksX6_grows_1 6 rfl rfl)
theorem dX6_grows_32 : decode cX6_grows 32 = .ok (.aload_n 0, 1) := dk_42 (dk_at dksX6_grows_1 9 rfl rfl)
theorem dX6_grows_33 : decode cX6_grows 33 = .ok (.iload_n 1, 1) := dk_27 (dk_at dksX6_grows_1 10 rfl rfl)
theorem dX6_grows_34 : decode cX6_grows 34 = .ok (.invokevirtual 361, 3) := dk_182 1 105 (dk_at dksX6_grows_1 11 rfl rfl)
theorem dX6_grows_37 : decode cX6_grows 37 = .ok (.iconst 0, 1) := dk_3 (dk_at dksX6_grows_1 14 rfl rfl)
theorem dX6_grows_38 : decode cX6_grows 38 = .ok (.ireturn, 1) := dk_172 (dk_at dksX6_grows_1 15 rfl rfl)
abbrev cX6_doesGrow : ByteArray := prog_25_method_61_code
def yX6_doesGrow : MethodName := ⟨RX6, "doesGrow", "(I)V"⟩
def dkwX6_doesGrow_2 : List UInt8 := [3, 181, 0, 242, 177]
abbrev dktX6_doesGrow_2 : List UInt8 := dkwX6_doesGrow_2 ++ []
def dkwX6_doesGrow_1 : List UInt8 := [96, 2, 79, 42, 180, 0, 33, 16, 52, 28, 96, 3, 79, 42, 180, 0, 33, 5, 92, 46, 4, 96, 79, 42]
abbrev dktX6_doesGrow_1 : List UInt8 := dkwX6_doesGrow_1 ++ dktX6_doesGrow_2
def dkwX6_doesGrow_0 : List UInt8 := [42, 180, 0, 33, 5, 46, 61, 42, 180, 0, 33, 16, 12, 28, 96, 27, 79, 42, 180, 0, 33, 16, 32, 28]
abbrev dktX6_doesGrow_0 : List UInt8 := dkwX6_doesGrow_0 ++ dktX6_doesGrow_1
theorem dksX6_doesGrow_0 : cX6_doesGrow.data.toList.drop 0 = dktX6_doesGrow_0 := by decide +kernel
theorem dksX6_doesGrow_1 : cX6_doesGrow.data.toList.drop 24 = dktX6_doesGrow_1 := dk_seg dksX6_doesGrow_0 24 rfl rfl
theorem dksX6_doesGrow_2 : cX6_doesGrow.data.toList.drop 48 = dktX6_doesGrow_2 := dk_seg dksX6_doesGrow_1 24 rfl rfl
theorem dX6_doesGrow_0 : decode cX6_doesGrow 0 = .ok (.aload_n 0, 1) := dk_42 (dk_at dksX6_doesGrow_0 0 rfl rfl)
theorem dX6_doesGrow_1 : decode cX6_doesGrow 1 = .ok (.getfield 33, 3) := dk_180 0 33 (dk_at dksX6_doesGrow_0 1 rfl rfl)
theorem dX6_doesGrow_4 : decode cX6_doesGrow 4 = .ok (.iconst 2, 1) := dk_5 (dk_at dksX6_doesGrow_0 4 rfl rfl)
theorem dX6_doesGrow_5 : decode cX6_doesGrow 5 = .ok (.iaload, 1) := dk_46 (dk_at dksX6_doesGrow_0 5 rfl rfl)
theorem dX6_doesGrow_6 : decode cX6_doesGrow 6 = .ok (.istore_n 2, 1) := dk_61 (dk_at dksX6_doesGrow_0 6 rfl rfl)
theorem dX6_doesGrow_7 : decode cX6_doesGrow 7 = .ok (.aload_n 0, 1) := dk_42 (dk_at dksX6_doesGrow_0 7 rfl rfl)
theorem dX6_doesGrow_8 : decode cX6_doesGrow 8 = .ok (.getfield 33, 3) := dk_180 0 33 (dk_at dksX6_doesGrow_0 8 rfl rfl)
theorem dX6_doesGrow_11 : decode cX6_doesGrow 11 = .ok (.bipush 12, 2) := dk_16 12 (dk_at dksX6_doesGrow_0 11 rfl rfl)
theorem dX6_doesGrow_13 : decode cX6_doesGrow 13 = .ok (.iload_n 2, 1) := dk_28 (dk_at dksX6_doesGrow_0 13 rfl rfl)
theorem dX6_doesGrow_14 : decode cX6_doesGrow 14 = .ok (.iadd, 1) := dk_96 (dk_at dksX6_doesGrow_0 14 rfl rfl)
theorem dX6_doesGrow_15 : decode cX6_doesGrow 15 = .ok (.iload_n 1, 1) := dk_27 (dk_at dksX6_doesGrow_0 15 rfl rfl)
theorem dX6_doesGrow_16 : decode cX6_doesGrow 16 = .ok (.iastore, 1) := dk_79 (dk_at dksX6_doesGrow_0 16 rfl rfl)
theorem dX6_doesGrow_17 : decode cX6_doesGrow 17 = .ok (.aload_n 0, 1) := dk_42 (dk_at dksX6_doesGrow_0 17 rfl rfl)
theorem dX6_doesGrow_18 : decode cX6_doesGrow 18 = .ok (.getfield 33, 3) := dk_180 0 33 (dk_at dksX6_doesGrow_0 18 rfl rfl)
theorem dX6_doesGrow_21 : decode cX6_doesGrow 21 = .ok (.bipush 32, 2) := dk_16 32 (dk_at dksX6_doesGrow_0 21 rfl rfl)
theorem dX6_doesGrow_23 : decode cX6_doesGrow 23 = .ok (.iload_n 2, 1) := dk_28 (dk_at dksX6_doesGrow_0 23 rfl rfl)
theorem dX6_doesGrow_24 : decode cX6_doesGrow 24 = .ok (.iadd, 1) := dk_96 (dk_at dksX6_doesGrow_1 0 rfl rfl)
theorem dX6_doesGrow_25 : decode cX6_doesGrow 25 = .ok (.iconst (-1), 1) := dk_2 (dk_at dksX6_doesGrow_1 1 rfl rfl)
theorem dX6_doesGrow_26 : decode cX6_doesGrow 26 = .ok (.iastore, 1) := dk_79 (dk_at dksX6_doesGrow_1 2 rfl rfl)
theorem dX6_doesGrow_27 : decode cX6_doesGrow 27 = .ok (.aload_n 0, 1) := dk_42 (dk_at dksX6_doesGrow_1 3 rfl rfl)
theorem dX6_doesGrow_28 : decode cX6_doesGrow 28 = .ok (.getfield 33, 3) := dk_180 0 33 (dk_at dksX6_doesGrow_1 4 rfl rfl)
theorem dX6_doesGrow_31 : decode cX6_doesGrow 31 = .ok (.bipush 52, 2) := dk_16 52 (dk_at dksX6_doesGrow_1 7 rfl rfl)
theorem dX6_doesGrow_33 : decode cX6_doesGrow 33 = .ok (.iload_n 2, 1) := dk_28 (dk_at dksX6_doesGrow_1 9 rfl rfl)
theorem dX6_doesGrow_34 : decode cX6_doesGrow 34 = .ok (.iadd, 1) := dk_96 (dk_at dksX6_doesGrow_1 10 rfl rfl)
theorem dX6_doesGrow_35 : decode cX6_doesGrow 35 = .ok (.iconst 0, 1) := dk_3 (dk_at dksX6_doesGrow_1 11 rfl rfl)
theorem dX6_doesGrow_36 : decode cX6_doesGrow 36 = .ok (.iastore, 1) := dk_79 (dk_at dksX6_doesGrow_1 12 rfl rfl)
theorem dX6_doesGrow_37 : decode cX6_doesGrow 37 = .ok (.aload_n 0, 1) := dk_42 (dk_at dksX6_doesGrow_1 13 rfl rfl)
theorem dX6_doesGrow_38 : decode cX6_doesGrow 38 = .ok (.getfield 33, 3) := dk_180 0 33 (dk_at dksX6_doesGrow_1 14 rfl rfl)
theorem dX6_doesGrow_41 : decode cX6_doesGrow 41 = .ok (.iconst 2, 1) := dk_5 (dk_at dksX6_doesGrow_1 17 rfl rfl)
theorem dX6_doesGrow_42 : decode cX6_doesGrow 42 = .ok (.dup2, 1) := dk_92 (dk_at dksX6_doesGrow_1 18 rfl rfl)
theorem dX6_doesGrow_43 : decode cX6_doesGrow 43 = .ok (.iaload, 1) := dk_46 (dk_at dksX6_doesGrow_1 19 rfl rfl)
theorem dX6_doesGrow_44 : decode cX6_doesGrow 44 = .ok (.iconst 1, 1) := dk_4 (dk_at dksX6_doesGrow_1 20 rfl rfl)
theorem dX6_doesGrow_45 : decode cX6_doesGrow 45 = .ok (.iadd, 1) := dk_96 (dk_at dksX6_doesGrow_1 21 rfl rfl)
theorem dX6_doesGrow_46 : decode cX6_doesGrow 46 = .ok (.iastore, 1) := dk_79 (dk_at dksX6_doesGrow_1 22 rfl rfl)
theorem dX6_doesGrow_47 : decode cX6_doesGrow 47 = .ok (.aload_n 0, 1) := dk_42 (dk_at dksX6_doesGrow_1 23 rfl rfl)
theorem dX6_doesGrow_48 : decode cX6_doesGrow 48 = .ok (.iconst 0, 1) := dk_3 (dk_at dksX6_doesGrow_2 0 rfl rfl)
theorem dX6_doesGrow_49 : decode cX6_doesGrow 49 = .ok (.putfield 242, 3) := dk_181 0 242 (dk_at dksX6_doesGrow_2 1 rfl rfl)
theorem dX6_doesGrow_52 : decode cX6_doesGrow 52 = .ok (.return_, 1) := dk_177 (dk_at dksX6_doesGrow_2 4 rfl rfl)
abbrev cX6_undo : ByteArray := prog_25_method_69_code
def yX6_undo : MethodName := ⟨RX6, "undo", "()I"⟩
def dkwX6_undo_1 : List UInt8 := [42, 42, 180, 0, 68, 17, 0, 222, 42, 180, 0, 239, 104, 182, 1, 115, 42, 180, 0, 239, 172]
abbrev dktX6_undo_1 : List UInt8 := dkwX6_undo_1 ++ []
def dkwX6_undo_0 : List UInt8 := [42, 3, 181, 0, 1, 42, 180, 0, 239, 154, 0, 5, 2, 172, 42, 89, 180, 0, 239, 4, 100, 181, 0, 239]
abbrev dktX6_undo_0 : List UInt8 := dkwX6_undo_0 ++ dktX6_undo_1
theorem dksX6_undo_0 : cX6_undo.data.toList.drop 0 = dktX6_undo_0 := by decide +kernel
theorem dksX6_undo_1 : cX6_undo.data.toList.drop 24 = dktX6_undo_1 := dk_seg dksX6_undo_0 24 rfl rfl
theorem dX6_undo_0 : decode cX6_undo 0 = .ok (.aload_n 0, 1) := dk_42 (dk_at dksX6_undo_0 0 rfl rfl)
theorem dX6_undo_1 : decode cX6_undo 1 = .ok (.iconst 0, 1) := dk_3 (dk_at dksX6_undo_0 1 rfl rfl)
theorem dX6_undo_2 : decode cX6_undo 2 = .ok (.putfield 1, 3) := dk_181 0 1 (dk_at dksX6_undo_0 2 rfl rfl)
theorem dX6_undo_5 : decode cX6_undo 5 = .ok (.aload_n 0, 1) := dk_42 (dk_at dksX6_undo_0 5 rfl rfl)
theorem dX6_undo_6 : decode cX6_undo 6 = .ok (.getfield 239, 3) := dk_180 0 239 (dk_at dksX6_undo_0 6 rfl rfl)
theorem dX6_undo_9 : decode cX6_undo 9 = .ok (.ifCond .ne 5, 3) := dk_154 0 5 (dk_at dksX6_undo_0 9 rfl rfl)
theorem dX6_undo_12 : decode cX6_undo 12 = .ok (.iconst (-1), 1) := dk_2 (dk_at dksX6_undo_0 12 rfl rfl)
theorem dX6_undo_13 : decode cX6_undo 13 = .ok (.ireturn, 1) := dk_172 (dk_at dksX6_undo_0 13 rfl rfl)
theorem dX6_undo_14 : decode cX6_undo 14 = .ok (.aload_n 0, 1) := dk_42 (dk_at dksX6_undo_0 14 rfl rfl)
theorem dX6_undo_15 : decode cX6_undo 15 = .ok (.dup, 1) := dk_89 (dk_at dksX6_undo_0 15 rfl rfl)
theorem dX6_undo_16 : decode cX6_undo 16 = .ok (.getfield 239, 3) := dk_180 0 239 (dk_at dksX6_undo_0 16 rfl rfl)
theorem dX6_undo_19 : decode cX6_undo 19 = .ok (.iconst 1, 1) := dk_4 (dk_at dksX6_undo_0 19 rfl rfl)
theorem dX6_undo_20 : decode cX6_undo 20 = .ok (.isub, 1) := dk_100 (dk_at dksX6_undo_0 20 rfl rfl)
theorem dX6_undo_21 : decode cX6_undo 21 = .ok (.putfield 239, 3) := dk_181 0 239 (dk_at dksX6_undo_0 21 rfl rfl)
theorem dX6_undo_24 : decode cX6_undo 24 = .ok (.aload_n 0, 1) := dk_42 (dk_at dksX6_undo_1 0 rfl rfl)
theorem dX6_undo_25 : decode cX6_undo 25 = .ok (.aload_n 0, 1) := dk_42 (dk_at dksX6_undo_1 1 rfl rfl)
theorem dX6_undo_26 : decode cX6_undo 26 = .ok (.getfield 68, 3) := dk_180 0 68 (dk_at dksX6_undo_1 2 rfl rfl)
theorem dX6_undo_29 : decode cX6_undo 29 = .ok (.sipush 222, 3) := dk_17 0 222 (dk_at dksX6_undo_1 5 rfl rfl)
theorem dX6_undo_32 : decode cX6_undo 32 = .ok (.aload_n 0, 1) := dk_42 (dk_at dksX6_undo_1 8 rfl rfl)
theorem dX6_undo_33 : decode cX6_undo 33 = .ok (.getfield 239, 3) := dk_180 0 239 (dk_at dksX6_undo_1 9 rfl rfl)
theorem dX6_undo_36 : decode cX6_undo 36 = .ok (.imul, 1) := dk_104 (dk_at dksX6_undo_1 12 rfl rfl)
theorem dX6_undo_37 : decode cX6_undo 37 = .ok (.invokevirtual 371, 3) := dk_182 1 115 (dk_at dksX6_undo_1 13 rfl rfl)
theorem dX6_undo_40 : decode cX6_undo 40 = .ok (.aload_n 0, 1) := dk_42 (dk_at dksX6_undo_1 16 rfl rfl)
theorem dX6_undo_41 : decode cX6_undo 41 = .ok (.getfield 239, 3) := dk_180 0 239 (dk_at dksX6_undo_1 17 rfl rfl)
theorem dX6_undo_44 : decode cX6_undo 44 = .ok (.ireturn, 1) := dk_172 (dk_at dksX6_undo_1 20 rfl rfl)
abbrev cX6_brings : ByteArray := prog_25_method_67_code
def yX6_brings : MethodName := ⟨RX6, "brings", "([II)V"⟩
def dkwX6_brings_1 : List UInt8 := [132, 3, 1, 167, 255, 233, 42, 3, 181, 0, 242, 177]
abbrev dktX6_brings_1 : List UInt8 := dkwX6_brings_1 ++ []
def dkwX6_brings_0 : List UInt8 := [3, 62, 29, 17, 0, 222, 162, 0, 22, 42, 180, 0, 33, 5, 29, 96, 43, 28, 29, 96, 46, 79]
abbrev dktX6_brings_0 : List UInt8 := dkwX6_brings_0 ++ dktX6_brings_1
theorem dksX6_brings_0 : cX6_brings.data.toList.drop 0 = dktX6_brings_0 := by decide +kernel
theorem dksX6_brings_1 : cX6_brings.data.toList.drop 22 = dktX6_brings_1 := dk_seg dksX6_brings_0 22 rfl rfl
theorem dX6_brings_0 : decode cX6_brings 0 = .ok (.iconst 0, 1) := dk_3 (dk_at dksX6_brings_0 0 rfl rfl)
theorem dX6_brings_1 : decode cX6_brings 1 = .ok (.istore_n 3, 1) := dk_62 (dk_at dksX6_brings_0 1 rfl rfl)
theorem dX6_brings_2 : decode cX6_brings 2 = .ok (.iload_n 3, 1) := dk_29 (dk_at dksX6_brings_0 2 rfl rfl)
theorem dX6_brings_3 : decode cX6_brings 3 = .ok (.sipush 222, 3) := dk_17 0 222 (dk_at dksX6_brings_0 3 rfl rfl)
theorem dX6_brings_6 : decode cX6_brings 6 = .ok (.if_icmp .ge 22, 3) := dk_162 0 22 (dk_at dksX6_brings_0 6 rfl rfl)
theorem dX6_brings_9 : decode cX6_brings 9 = .ok (.aload_n 0, 1) := dk_42 (dk_at dksX6_brings_0 9 rfl rfl)
theorem dX6_brings_10 : decode cX6_brings 10 = .ok (.getfield 33, 3) := dk_180 0 33 (dk_at dksX6_brings_0 10 rfl rfl)
theorem dX6_brings_13 : decode cX6_brings 13 = .ok (.iconst 2, 1) := dk_5 (dk_at dksX6_brings_0 13 rfl rfl)
theorem dX6_brings_14 : decode cX6_brings 14 = .ok (.iload_n 3, 1) := dk_29 (dk_at dksX6_brings_0 14 rfl rfl)
theorem dX6_brings_15 : decode cX6_brings 15 = .ok (.iadd, 1) := dk_96 (dk_at dksX6_brings_0 15 rfl rfl)
theorem dX6_brings_16 : decode cX6_brings 16 = .ok (.aload_n 1, 1) := dk_43 (dk_at dksX6_brings_0 16 rfl rfl)
theorem dX6_brings_17 : decode cX6_brings 17 = .ok (.iload_n 2, 1) := dk_28 (dk_at dksX6_brings_0 17 rfl rfl)
theorem dX6_brings_18 : decode cX6_brings 18 = .ok (.iload_n 3, 1) := dk_29 (dk_at dksX6_brings_0 18 rfl rfl)
theorem dX6_brings_19 : decode cX6_brings 19 = .ok (.iadd, 1) := dk_96 (dk_at dksX6_brings_0 19 rfl rfl)
theorem dX6_brings_20 : decode cX6_brings 20 = .ok (.iaload, 1) := dk_46 (dk_at dksX6_brings_0 20 rfl rfl)
theorem dX6_brings_21 : decode cX6_brings 21 = .ok (.iastore, 1) := dk_79 (dk_at dksX6_brings_0 21 rfl rfl)
theorem dX6_brings_22 : decode cX6_brings 22 = .ok (.iinc 3 1, 3) := dk_132 3 1 (dk_at dksX6_brings_1 0 rfl rfl)
theorem dX6_brings_25 : decode cX6_brings 25 = .ok (.goto (-23), 3) := dk_167 255 233 (dk_at dksX6_brings_1 3 rfl rfl)
theorem dX6_brings_28 : decode cX6_brings 28 = .ok (.aload_n 0, 1) := dk_42 (dk_at dksX6_brings_1 6 rfl rfl)
theorem dX6_brings_29 : decode cX6_brings 29 = .ok (.iconst 0, 1) := dk_3 (dk_at dksX6_brings_1 7 rfl rfl)
theorem dX6_brings_30 : decode cX6_brings 30 = .ok (.putfield 242, 3) := dk_181 0 242 (dk_at dksX6_brings_1 8 rfl rfl)
theorem dX6_brings_33 : decode cX6_brings 33 = .ok (.return_, 1) := dk_177 (dk_at dksX6_brings_1 11 rfl rfl)
abbrev cX6_offends : ByteArray := prog_25_method_71_code
def yX6_offends : MethodName := ⟨RX6, "offends", "(III)I"⟩
def dkwX6_offends_2 : List UInt8 := [153, 0, 7, 2, 167, 0, 10, 42, 27, 28, 29, 182, 1, 119, 172]
abbrev dktX6_offends_2 : List UInt8 := dkwX6_offends_2 ++ []
def dkwX6_offends_1 : List UInt8 := [182, 1, 59, 154, 0, 5, 2, 172, 42, 27, 28, 29, 182, 1, 91, 54, 4, 21, 4, 4, 6, 184, 0, 189]
abbrev dktX6_offends_1 : List UInt8 := dkwX6_offends_1 ++ dktX6_offends_2
def dkwX6_offends_0 : List UInt8 := [42, 3, 181, 0, 1, 42, 27, 182, 1, 82, 153, 0, 19, 42, 28, 182, 1, 59, 153, 0, 11, 42, 29]
abbrev dktX6_offends_0 : List UInt8 := dkwX6_offends_0 ++ dktX6_offends_1
theorem dksX6_offends_0 : cX6_offends.data.toList.drop 0 = dktX6_offends_0 := by decide +kernel
theorem dksX6_offends_1 : cX6_offends.data.toList.drop 23 = dktX6_offends_1 := dk_seg dksX6_offends_0 23 rfl rfl
theorem dksX6_offends_2 : cX6_offends.data.toList.drop 47 = dktX6_offends_2 := dk_seg dksX6_offends_1 24 rfl rfl
theorem dX6_offends_0 : decode cX6_offends 0 = .ok (.aload_n 0, 1) := dk_42 (dk_at dksX6_offends_0 0 rfl rfl)
theorem dX6_offends_1 : decode cX6_offends 1 = .ok (.iconst 0, 1) := dk_3 (dk_at dksX6_offends_0 1 rfl rfl)
theorem dX6_offends_2 : decode cX6_offends 2 = .ok (.putfield 1, 3) := dk_181 0 1 (dk_at dksX6_offends_0 2 rfl rfl)
theorem dX6_offends_5 : decode cX6_offends 5 = .ok (.aload_n 0, 1) := dk_42 (dk_at dksX6_offends_0 5 rfl rfl)
theorem dX6_offends_6 : decode cX6_offends 6 = .ok (.iload_n 1, 1) := dk_27 (dk_at dksX6_offends_0 6 rfl rfl)
theorem dX6_offends_7 : decode cX6_offends 7 = .ok (.invokevirtual 338, 3) := dk_182 1 82 (dk_at dksX6_offends_0 7 rfl rfl)
theorem dX6_offends_10 : decode cX6_offends 10 = .ok (.ifCond .eq 19, 3) := dk_153 0 19 (dk_at dksX6_offends_0 10 rfl rfl)
theorem dX6_offends_13 : decode cX6_offends 13 = .ok (.aload_n 0, 1) := dk_42 (dk_at dksX6_offends_0 13 rfl rfl)
theorem dX6_offends_14 : decode cX6_offends 14 = .ok (.iload_n 2, 1) := dk_28 (dk_at dksX6_offends_0 14 rfl rfl)
theorem dX6_offends_15 : decode cX6_offends 15 = .ok (.invokevirtual 315, 3) := dk_182 1 59 (dk_at dksX6_offends_0 15 rfl rfl)
theorem dX6_offends_18 : decode cX6_offends 18 = .ok (.ifCond .eq 11, 3) := dk_153 0 11 (dk_at dksX6_offends_0 18 rfl rfl)
theorem dX6_offends_21 : decode cX6_offends 21 = .ok (.aload_n 0, 1) := dk_42 (dk_at dksX6_offends_0 21 rfl rfl)
theorem dX6_offends_22 : decode cX6_offends 22 = .ok (.iload_n 3, 1) := dk_29 (dk_at dksX6_offends_0 22 rfl rfl)
theorem dX6_offends_23 : decode cX6_offends 23 = .ok (.invokevirtual 315, 3) := dk_182 1 59 (dk_at dksX6_offends_1 0 rfl rfl)
theorem dX6_offends_26 : decode cX6_offends 26 = .ok (.ifCond .ne 5, 3) := dk_154 0 5 (dk_at dksX6_offends_1 3 rfl rfl)
theorem dX6_offends_29 : decode cX6_offends 29 = .ok (.iconst (-1), 1) := dk_2 (dk_at dksX6_offends_1 6 rfl rfl)
theorem dX6_offends_30 : decode cX6_offends 30 = .ok (.ireturn, 1) := dk_172 (dk_at dksX6_offends_1 7 rfl rfl)
theorem dX6_offends_31 : decode cX6_offends 31 = .ok (.aload_n 0, 1) := dk_42 (dk_at dksX6_offends_1 8 rfl rfl)
theorem dX6_offends_32 : decode cX6_offends 32 = .ok (.iload_n 1, 1) := dk_27 (dk_at dksX6_offends_1 9 rfl rfl)
theorem dX6_offends_33 : decode cX6_offends 33 = .ok (.iload_n 2, 1) := dk_28 (dk_at dksX6_offends_1 10 rfl rfl)
theorem dX6_offends_34 : decode cX6_offends 34 = .ok (.iload_n 3, 1) := dk_29 (dk_at dksX6_offends_1 11 rfl rfl)
theorem dX6_offends_35 : decode cX6_offends 35 = .ok (.invokevirtual 347, 3) := dk_182 1 91 (dk_at dksX6_offends_1 12 rfl rfl)
theorem dX6_offends_38 : decode cX6_offends 38 = .ok (.istore 4, 2) := dk_54 4 (dk_at dksX6_offends_1 15 rfl rfl)
theorem dX6_offends_40 : decode cX6_offends 40 = .ok (.iload 4, 2) := dk_21 4 (dk_at dksX6_offends_1 17 rfl rfl)
theorem dX6_offends_42 : decode cX6_offends 42 = .ok (.iconst 1, 1) := dk_4 (dk_at dksX6_offends_1 19 rfl rfl)
theorem dX6_offends_43 : decode cX6_offends 43 = .ok (.iconst 3, 1) := dk_6 (dk_at dksX6_offends_1 20 rfl rfl)
theorem dX6_offends_44 : decode cX6_offends 44 = .ok (.invokestatic 189, 3) := dk_184 0 189 (dk_at dksX6_offends_1 21 rfl rfl)
theorem dX6_offends_47 : decode cX6_offends 47 = .ok (.ifCond .eq 7, 3) := dk_153 0 7 (dk_at dksX6_offends_2 0 rfl rfl)
theorem dX6_offends_50 : decode cX6_offends 50 = .ok (.iconst (-1), 1) := dk_2 (dk_at dksX6_offends_2 3 rfl rfl)
theorem dX6_offends_51 : decode cX6_offends 51 = .ok (.goto 10, 3) := dk_167 0 10 (dk_at dksX6_offends_2 4 rfl rfl)
theorem dX6_offends_54 : decode cX6_offends 54 = .ok (.aload_n 0, 1) := dk_42 (dk_at dksX6_offends_2 7 rfl rfl)
theorem dX6_offends_55 : decode cX6_offends 55 = .ok (.iload_n 1, 1) := dk_27 (dk_at dksX6_offends_2 8 rfl rfl)
theorem dX6_offends_56 : decode cX6_offends 56 = .ok (.iload_n 2, 1) := dk_28 (dk_at dksX6_offends_2 9 rfl rfl)
theorem dX6_offends_57 : decode cX6_offends 57 = .ok (.iload_n 3, 1) := dk_29 (dk_at dksX6_offends_2 10 rfl rfl)
theorem dX6_offends_58 : decode cX6_offends 58 = .ok (.invokevirtual 375, 3) := dk_182 1 119 (dk_at dksX6_offends_2 11 rfl rfl)
theorem dX6_offends_61 : decode cX6_offends 61 = .ok (.ireturn, 1) := dk_172 (dk_at dksX6_offends_2 14 rfl rfl)
abbrev cX6_offenceOf : ByteArray := prog_25_method_70_code
def yX6_offenceOf : MethodName := ⟨RX6, "offenceOf", "(III)I"⟩
def dkwX6_offenceOf_4 : List UInt8 := [167, 255, 169, 21, 4, 172]
abbrev dktX6_offenceOf_4 : List UInt8 := dkwX6_offenceOf_4 ++ []
def dkwX6_offenceOf_3 : List UInt8 := [21, 4, 153, 0, 10, 21, 6, 21, 4, 162, 0, 8, 21, 6, 167, 0, 5, 21, 4, 54, 4, 132, 5, 1]
abbrev dktX6_offenceOf_3 : List UInt8 := dkwX6_offenceOf_3 ++ dktX6_offenceOf_4
def dkwX6_offenceOf_2 : List UInt8 := [17, 0, 168, 21, 5, 96, 46, 28, 29, 182, 1, 10, 167, 0, 4, 3, 54, 6, 21, 6, 158, 0, 20]
abbrev dktX6_offenceOf_2 : List UInt8 := dkwX6_offenceOf_2 ++ dktX6_offenceOf_3
def dkwX6_offenceOf_1 : List UInt8 := [21, 5, 96, 46, 27, 160, 0, 33, 42, 42, 180, 0, 33, 16, 120, 21, 5, 96, 46, 42, 180, 0, 33]
abbrev dktX6_offenceOf_1 : List UInt8 := dkwX6_offenceOf_1 ++ dktX6_offenceOf_2
def dkwX6_offenceOf_0 : List UInt8 := [3, 54, 4, 3, 54, 5, 21, 5, 42, 180, 0, 33, 6, 46, 162, 0, 82, 42, 180, 0, 33, 16, 72]
abbrev dktX6_offenceOf_0 : List UInt8 := dkwX6_offenceOf_0 ++ dktX6_offenceOf_1
theorem dksX6_offenceOf_0 : cX6_offenceOf.data.toList.drop 0 = dktX6_offenceOf_0 := by decide +kernel
theorem dksX6_offenceOf_1 : cX6_offenceOf.data.toList.drop 23 = dktX6_offenceOf_1 := dk_seg dksX6_offenceOf_0 23 rfl rfl
theorem dksX6_offenceOf_2 : cX6_offenceOf.data.toList.drop 46 = dktX6_offenceOf_2 := dk_seg dksX6_offenceOf_1 23 rfl rfl
theorem dksX6_offenceOf_3 : cX6_offenceOf.data.toList.drop 69 = dktX6_offenceOf_3 := dk_seg dksX6_offenceOf_2 23 rfl rfl
theorem dksX6_offenceOf_4 : cX6_offenceOf.data.toList.drop 93 = dktX6_offenceOf_4 := dk_seg dksX6_offenceOf_3 24 rfl rfl
theorem dX6_offenceOf_0 : decode cX6_offenceOf 0 = .ok (.iconst 0, 1) := dk_3 (dk_at dksX6_offenceOf_0 0 rfl rfl)
theorem dX6_offenceOf_1 : decode cX6_offenceOf 1 = .ok (.istore 4, 2) := dk_54 4 (dk_at dksX6_offenceOf_0 1 rfl rfl)
theorem dX6_offenceOf_3 : decode cX6_offenceOf 3 = .ok (.iconst 0, 1) := dk_3 (dk_at dksX6_offenceOf_0 3 rfl rfl)
theorem dX6_offenceOf_4 : decode cX6_offenceOf 4 = .ok (.istore 5, 2) := dk_54 5 (dk_at dksX6_offenceOf_0 4 rfl rfl)
theorem dX6_offenceOf_6 : decode cX6_offenceOf 6 = .ok (.iload 5, 2) := dk_21 5 (dk_at dksX6_offenceOf_0 6 rfl rfl)
theorem dX6_offenceOf_8 : decode cX6_offenceOf 8 = .ok (.aload_n 0, 1) := dk_42 (dk_at dksX6_offenceOf_0 8 rfl rfl)
theorem dX6_offenceOf_9 : decode cX6_offenceOf 9 = .ok (.getfield 33, 3) := dk_180 0 33 (dk_at dksX6_offenceOf_0 9 rfl rfl)
theorem dX6_offenceOf_12 : decode cX6_offenceOf 12 = .ok (.iconst 3, 1) := dk_6 (dk_at dksX6_offenceOf_0 12 rfl rfl)
theorem dX6_offenceOf_13 : decode cX6_offenceOf 13 = .ok (.iaload, 1) := dk_46 (dk_at dksX6_offenceOf_0 13 rfl rfl)
theorem dX6_offenceOf_14 : decode cX6_offenceOf 14 = .ok (.if_icmp .ge 82, 3) := dk_162 0 82 (dk_at dksX6_offenceOf_0 14 rfl rfl)
theorem dX6_offenceOf_17 : decode cX6_offenceOf 17 = .ok (.aload_n 0, 1) := dk_42 (dk_at dksX6_offenceOf_0 17 rfl rfl)
theorem dX6_offenceOf_18 : decode cX6_offenceOf 18 = .ok (.getfield 33, 3) := dk_180 0 33 (dk_at dksX6_offenceOf_0 18 rfl rfl)
theorem dX6_offenceOf_21 : decode cX6_offenceOf 21 = .ok (.bipush 72, 2) := dk_16 72 (dk_at dksX6_offenceOf_0 21 rfl rfl)
theorem dX6_offenceOf_23 : decode cX6_offenceOf 23 = .ok (.iload 5, 2) := dk_21 5 (dk_at dksX6_offenceOf_1 0 rfl rfl)
theorem dX6_offenceOf_25 : decode cX6_offenceOf 25 = .ok (.iadd, 1) := dk_96 (dk_at dksX6_offenceOf_1 2 rfl rfl)
theorem dX6_offenceOf_26 : decode cX6_offenceOf 26 = .ok (.iaload, 1) := dk_46 (dk_at dksX6_offenceOf_1 3 rfl rfl)
theorem dX6_offenceOf_27 : decode cX6_offenceOf 27 = .ok (.iload_n 1, 1) := dk_27 (dk_at dksX6_offenceOf_1 4 rfl rfl)
theorem dX6_offenceOf_28 : decode cX6_offenceOf 28 = .ok (.if_icmp .ne 33, 3) := dk_160 0 33 (dk_at dksX6_offenceOf_1 5 rfl rfl)
theorem dX6_offenceOf_31 : decode cX6_offenceOf 31 = .ok (.aload_n 0, 1) := dk_42 (dk_at dksX6_offenceOf_1 8 rfl rfl)
theorem dX6_offenceOf_32 : decode cX6_offenceOf 32 = .ok (.aload_n 0, 1) := dk_42 (dk_at dksX6_offenceOf_1 9 rfl rfl)
theorem dX6_offenceOf_33 : decode cX6_offenceOf 33 = .ok (.getfield 33, 3) := dk_180 0 33 (dk_at dksX6_offenceOf_1 10 rfl rfl)
theorem dX6_offenceOf_36 : decode cX6_offenceOf 36 = .ok (.bipush 120, 2) := dk_16 120 (dk_at dksX6_offenceOf_1 13 rfl rfl)
theorem dX6_offenceOf_38 : decode cX6_offenceOf 38 = .ok (.iload 5, 2) := dk_21 5 (dk_at dksX6_offenceOf_1 15 rfl rfl)
theorem dX6_offenceOf_40 : decode cX6_offenceOf 40 = .ok (.iadd, 1) := dk_96 (dk_at dksX6_offenceOf_1 17 rfl rfl)
theorem dX6_offenceOf_41 : decode cX6_offenceOf 41 = .ok (.iaload, 1) := dk_46 (dk_at dksX6_offenceOf_1 18 rfl rfl)
theorem dX6_offenceOf_42 : decode cX6_offenceOf 42 = .ok (.aload_n 0, 1) := dk_42 (dk_at dksX6_offenceOf_1 19 rfl rfl)
theorem dX6_offenceOf_43 : decode cX6_offenceOf 43 = .ok (.getfield 33, 3) := dk_180 0 33 (dk_at dksX6_offenceOf_1 20 rfl rfl)
theorem dX6_offenceOf_46 : decode cX6_offenceOf 46 = .ok (.sipush 168, 3) := dk_17 0 168 (dk_at dksX6_offenceOf_2 0 rfl rfl)
theorem dX6_offenceOf_49 : decode cX6_offenceOf 49 = .ok (.iload 5, 2) := dk_21 5 (dk_at dksX6_offenceOf_2 3 rfl rfl)
theorem dX6_offenceOf_51 : decode cX6_offenceOf 51 = .ok (.iadd, 1) := dk_96 (dk_at dksX6_offenceOf_2 5 rfl rfl)
theorem dX6_offenceOf_52 : decode cX6_offenceOf 52 = .ok (.iaload, 1) := dk_46 (dk_at dksX6_offenceOf_2 6 rfl rfl)
theorem dX6_offenceOf_53 : decode cX6_offenceOf 53 = .ok (.iload_n 2, 1) := dk_28 (dk_at dksX6_offenceOf_2 7 rfl rfl)
theorem dX6_offenceOf_54 : decode cX6_offenceOf 54 = .ok (.iload_n 3, 1) := dk_29 (dk_at dksX6_offenceOf_2 8 rfl rfl)
theorem dX6_offenceOf_55 : decode cX6_offenceOf 55 = .ok (.invokevirtual 266, 3) := dk_182 1 10 (dk_at dksX6_offenceOf_2 9 rfl rfl)
theorem dX6_offenceOf_58 : decode cX6_offenceOf 58 = .ok (.goto 4, 3) := dk_167 0 4 (dk_at dksX6_offenceOf_2 12 rfl rfl)
theorem dX6_offenceOf_61 : decode cX6_offenceOf 61 = .ok (.iconst 0, 1) := dk_3 (dk_at dksX6_offenceOf_2 15 rfl rfl)
theorem dX6_offenceOf_62 : decode cX6_offenceOf 62 = .ok (.istore 6, 2) := dk_54 6 (dk_at dksX6_offenceOf_2 16 rfl rfl)
theorem dX6_offenceOf_64 : decode cX6_offenceOf 64 = .ok (.iload 6, 2) := dk_21 6 (dk_at dksX6_offenceOf_2 18 rfl rfl)
theorem dX6_offenceOf_66 : decode cX6_offenceOf 66 = .ok (.ifCond .le 20, 3) := dk_158 0 20 (dk_at dksX6_offenceOf_2 20 rfl rfl)
theorem dX6_offenceOf_69 : decode cX6_offenceOf 69 = .ok (.iload 4, 2) := dk_21 4 (dk_at dksX6_offenceOf_3 0 rfl rfl)
theorem dX6_offenceOf_71 : decode cX6_offenceOf 71 = .ok (.ifCond .eq 10, 3) := dk_153 0 10 (dk_at dksX6_offenceOf_3 2 rfl rfl)
theorem dX6_offenceOf_74 : decode cX6_offenceOf 74 = .ok (.iload 6, 2) := dk_21 6 (dk_at dksX6_offenceOf_3 5 rfl rfl)
theorem dX6_offenceOf_76 : decode cX6_offenceOf 76 = .ok (.iload 4, 2) := dk_21 4 (dk_at dksX6_offenceOf_3 7 rfl rfl)
theorem dX6_offenceOf_78 : decode cX6_offenceOf 78 = .ok (.if_icmp .ge 8, 3) := dk_162 0 8 (dk_at dksX6_offenceOf_3 9 rfl rfl)
theorem dX6_offenceOf_81 : decode cX6_offenceOf 81 = .ok (.iload 6, 2) := dk_21 6 (dk_at dksX6_offenceOf_3 12 rfl rfl)
theorem dX6_offenceOf_83 : decode cX6_offenceOf 83 = .ok (.goto 5, 3) := dk_167 0 5 (dk_at dksX6_offenceOf_3 14 rfl rfl)
theorem dX6_offenceOf_86 : decode cX6_offenceOf 86 = .ok (.iload 4, 2) := dk_21 4 (dk_at dksX6_offenceOf_3 17 rfl rfl)
theorem dX6_offenceOf_88 : decode cX6_offenceOf 88 = .ok (.istore 4, 2) := dk_54 4 (dk_at dksX6_offenceOf_3 19 rfl rfl)
theorem dX6_offenceOf_90 : decode cX6_offenceOf 90 = .ok (.iinc 5 1, 3) := dk_132 5 1 (dk_at dksX6_offenceOf_3 21 rfl rfl)
theorem dX6_offenceOf_93 : decode cX6_offenceOf 93 = .ok (.goto (-87), 3) := dk_167 255 169 (dk_at dksX6_offenceOf_4 0 rfl rfl)
theorem dX6_offenceOf_96 : decode cX6_offenceOf 96 = .ok (.iload 4, 2) := dk_21 4 (dk_at dksX6_offenceOf_4 3 rfl rfl)
theorem dX6_offenceOf_98 : decode cX6_offenceOf 98 = .ok (.ireturn, 1) := dk_172 (dk_at dksX6_offenceOf_4 5 rfl rfl)
abbrev cX6_evidence : ByteArray := prog_25_method_72_code
def yX6_evidence : MethodName := ⟨RX6, "evidence", "(II)I"⟩
def dkwX6_evidence_5 : List UInt8 := [167, 255, 194, 132, 4, 1, 167, 255, 171, 2, 172]
abbrev dktX6_evidence_5 : List UInt8 := dkwX6_evidence_5 ++ []
def dkwX6_evidence_4 : List UInt8 := [21, 4, 167, 0, 15, 28, 4, 160, 0, 8, 21, 5, 167, 0, 5, 21, 6, 172, 132, 3, 1, 132, 5, 1]
abbrev dktX6_evidence_4 : List UInt8 := dkwX6_evidence_4 ++ dktX6_evidence_5
def dkwX6_evidence_3 : List UInt8 := [21, 5, 182, 1, 23, 54, 6, 21, 6, 154, 0, 6, 167, 0, 33, 29, 27, 160, 0, 25, 28, 154, 0, 8]
abbrev dktX6_evidence_3 : List UInt8 := dkwX6_evidence_3 ++ dktX6_evidence_4
def dkwX6_evidence_2 : List UInt8 := [162, 0, 80, 21, 4, 4, 96, 54, 5, 21, 5, 42, 180, 0, 33, 6, 46, 162, 0, 57, 42, 21, 4]
abbrev dktX6_evidence_2 : List UInt8 := dkwX6_evidence_2 ++ dktX6_evidence_3
def dkwX6_evidence_1 : List UInt8 := [3, 5, 184, 0, 189, 154, 0, 5, 2, 172, 3, 62, 3, 54, 4, 21, 4, 42, 180, 0, 33, 6, 46]
abbrev dktX6_evidence_1 : List UInt8 := dkwX6_evidence_1 ++ dktX6_evidence_2
def dkwX6_evidence_0 : List UInt8 := [42, 3, 181, 0, 1, 42, 182, 1, 66, 27, 3, 42, 180, 1, 17, 4, 100, 184, 0, 189, 153, 0, 12, 28]
abbrev dktX6_evidence_0 : List UInt8 := dkwX6_evidence_0 ++ dktX6_evidence_1
theorem dksX6_evidence_0 : cX6_evidence.data.toList.drop 0 = dktX6_evidence_0 := by decide +kernel
theorem dksX6_evidence_1 : cX6_evidence.data.toList.drop 24 = dktX6_evidence_1 := dk_seg dksX6_evidence_0 24 rfl rfl
theorem dksX6_evidence_2 : cX6_evidence.data.toList.drop 47 = dktX6_evidence_2 := dk_seg dksX6_evidence_1 23 rfl rfl
theorem dksX6_evidence_3 : cX6_evidence.data.toList.drop 70 = dktX6_evidence_3 := dk_seg dksX6_evidence_2 23 rfl rfl
theorem dksX6_evidence_4 : cX6_evidence.data.toList.drop 94 = dktX6_evidence_4 := dk_seg dksX6_evidence_3 24 rfl rfl
theorem dksX6_evidence_5 : cX6_evidence.data.toList.drop 118 = dktX6_evidence_5 := dk_seg dksX6_evidence_4 24 rfl rfl
theorem dX6_evidence_0 : decode cX6_evidence 0 = .ok (.aload_n 0, 1) := dk_42 (dk_at dksX6_evidence_0 0 rfl rfl)
theorem dX6_evidence_1 : decode cX6_evidence 1 = .ok (.iconst 0, 1) := dk_3 (dk_at dksX6_evidence_0 1 rfl rfl)
theorem dX6_evidence_2 : decode cX6_evidence 2 = .ok (.putfield 1, 3) := dk_181 0 1 (dk_at dksX6_evidence_0 2 rfl rfl)
theorem dX6_evidence_5 : decode cX6_evidence 5 = .ok (.aload_n 0, 1) := dk_42 (dk_at dksX6_evidence_0 5 rfl rfl)
theorem dX6_evidence_6 : decode cX6_evidence 6 = .ok (.invokevirtual 322, 3) := dk_182 1 66 (dk_at dksX6_evidence_0 6 rfl rfl)
theorem dX6_evidence_9 : decode cX6_evidence 9 = .ok (.iload_n 1, 1) := dk_27 (dk_at dksX6_evidence_0 9 rfl rfl)
theorem dX6_evidence_10 : decode cX6_evidence 10 = .ok (.iconst 0, 1) := dk_3 (dk_at dksX6_evidence_0 10 rfl rfl)
theorem dX6_evidence_11 : decode cX6_evidence 11 = .ok (.aload_n 0, 1) := dk_42 (dk_at dksX6_evidence_0 11 rfl rfl)
theorem dX6_evidence_12 : decode cX6_evidence 12 = .ok (.getfield 273, 3) := dk_180 1 17 (dk_at dksX6_evidence_0 12 rfl rfl)
theorem dX6_evidence_15 : decode cX6_evidence 15 = .ok (.iconst 1, 1) := dk_4 (dk_at dksX6_evidence_0 15 rfl rfl)
theorem dX6_evidence_16 : decode cX6_evidence 16 = .ok (.isub, 1) := dk_100 (dk_at dksX6_evidence_0 16 rfl rfl)
theorem dX6_evidence_17 : decode cX6_evidence 17 = .ok (.invokestatic 189, 3) := dk_184 0 189 (dk_at dksX6_evidence_0 17 rfl rfl)
theorem dX6_evidence_20 : decode cX6_evidence 20 = .ok (.ifCond .eq 12, 3) := dk_153 0 12 (dk_at dksX6_evidence_0 20 rfl rfl)
theorem dX6_evidence_23 : decode cX6_evidence 23 = .ok (.iload_n 2, 1) := dk_28 (dk_at dksX6_evidence_0 23 rfl rfl)
theorem dX6_evidence_24 : decode cX6_evidence 24 = .ok (.iconst 0, 1) := dk_3 (dk_at dksX6_evidence_1 0 rfl rfl)
theorem dX6_evidence_25 : decode cX6_evidence 25 = .ok (.iconst 2, 1) := dk_5 (dk_at dksX6_evidence_1 1 rfl rfl)
theorem dX6_evidence_26 : decode cX6_evidence 26 = .ok (.invokestatic 189, 3) := dk_184 0 189 (dk_at dksX6_evidence_1 2 rfl rfl)
theorem dX6_evidence_29 : decode cX6_evidence 29 = .ok (.ifCond .ne 5, 3) := dk_154 0 5 (dk_at dksX6_evidence_1 5 rfl rfl)
theorem dX6_evidence_32 : decode cX6_evidence 32 = .ok (.iconst (-1), 1) := dk_2 (dk_at dksX6_evidence_1 8 rfl rfl)
theorem dX6_evidence_33 : decode cX6_evidence 33 = .ok (.ireturn, 1) := dk_172 (dk_at dksX6_evidence_1 9 rfl rfl)
theorem dX6_evidence_34 : decode cX6_evidence 34 = .ok (.iconst 0, 1) := dk_3 (dk_at dksX6_evidence_1 10 rfl rfl)
theorem dX6_evidence_35 : decode cX6_evidence 35 = .ok (.istore_n 3, 1) := dk_62 (dk_at dksX6_evidence_1 11 rfl rfl)
theorem dX6_evidence_36 : decode cX6_evidence 36 = .ok (.iconst 0, 1) := dk_3 (dk_at dksX6_evidence_1 12 rfl rfl)
theorem dX6_evidence_37 : decode cX6_evidence 37 = .ok (.istore 4, 2) := dk_54 4 (dk_at dksX6_evidence_1 13 rfl rfl)
theorem dX6_evidence_39 : decode cX6_evidence 39 = .ok (.iload 4, 2) := dk_21 4 (dk_at dksX6_evidence_1 15 rfl rfl)
theorem dX6_evidence_41 : decode cX6_evidence 41 = .ok (.aload_n 0, 1) := dk_42 (dk_at dksX6_evidence_1 17 rfl rfl)
theorem dX6_evidence_42 : decode cX6_evidence 42 = .ok (.getfield 33, 3) := dk_180 0 33 (dk_at dksX6_evidence_1 18 rfl rfl)
theorem dX6_evidence_45 : decode cX6_evidence 45 = .ok (.iconst 3, 1) := dk_6 (dk_at dksX6_evidence_1 21 rfl rfl)
theorem dX6_evidence_46 : decode cX6_evidence 46 = .ok (.iaload, 1) := dk_46 (dk_at dksX6_evidence_1 22 rfl rfl)
theorem dX6_evidence_47 : decode cX6_evidence 47 = .ok (.if_icmp .ge 80, 3) := dk_162 0 80 (dk_at dksX6_evidence_2 0 rfl rfl)
theorem dX6_evidence_50 : decode cX6_evidence 50 = .ok (.iload 4, 2) := dk_21 4 (dk_at dksX6_evidence_2 3 rfl rfl)
theorem dX6_evidence_52 : decode cX6_evidence 52 = .ok (.iconst 1, 1) := dk_4 (dk_at dksX6_evidence_2 5 rfl rfl)
theorem dX6_evidence_53 : decode cX6_evidence 53 = .ok (.iadd, 1) := dk_96 (dk_at dksX6_evidence_2 6 rfl rfl)
theorem dX6_evidence_54 : decode cX6_evidence 54 = .ok (.istore 5, 2) := dk_54 5 (dk_at dksX6_evidence_2 7 rfl rfl)
theorem dX6_evidence_56 : decode cX6_evidence 56 = .ok (.iload 5, 2) := dk_21 5 (dk_at dksX6_evidence_2 9 rfl rfl)
theorem dX6_evidence_58 : decode cX6_evidence 58 = .ok (.aload_n 0, 1) := dk_42 (dk_at dksX6_evidence_2 11 rfl rfl)
theorem dX6_evidence_59 : decode cX6_evidence 59 = .ok (.getfield 33, 3) := dk_180 0 33 (dk_at dksX6_evidence_2 12 rfl rfl)
theorem dX6_evidence_62 : decode cX6_evidence 62 = .ok (.iconst 3, 1) := dk_6 (dk_at dksX6_evidence_2 15 rfl rfl)
theorem dX6_evidence_63 : decode cX6_evidence 63 = .ok (.iaload, 1) := dk_46 (dk_at dksX6_evidence_2 16 rfl rfl)
theorem dX6_evidence_64 : decode cX6_evidence 64 = .ok (.if_icmp .ge 57, 3) := dk_162 0 57 (dk_at dksX6_evidence_2 17 rfl rfl)
theorem dX6_evidence_67 : decode cX6_evidence 67 = .ok (.aload_n 0, 1) := dk_42 (dk_at dksX6_evidence_2 20 rfl rfl)
theorem dX6_evidence_68 : decode cX6_evidence 68 = .ok (.iload 4, 2) := dk_21 4 (dk_at dksX6_evidence_2 21 rfl rfl)
theorem dX6_evidence_70 : decode cX6_evidence 70 = .ok (.iload 5, 2) := dk_21 5 (dk_at dksX6_evidence_3 0 rfl rfl)
theorem dX6_evidence_72 : decode cX6_evidence 72 = .ok (.invokevirtual 279, 3) := dk_182 1 23 (dk_at dksX6_evidence_3 2 rfl rfl)
theorem dX6_evidence_75 : decode cX6_evidence 75 = .ok (.istore 6, 2) := dk_54 6 (dk_at dksX6_evidence_3 5 rfl rfl)
theorem dX6_evidence_77 : decode cX6_evidence 77 = .ok (.iload 6, 2) := dk_21 6 (dk_at dksX6_evidence_3 7 rfl rfl)
theorem dX6_evidence_79 : decode cX6_evidence 79 = .ok (.ifCond .ne 6, 3) := dk_154 0 6 (dk_at dksX6_evidence_3 9 rfl rfl)
theorem dX6_evidence_82 : decode cX6_evidence 82 = .ok (.goto 33, 3) := dk_167 0 33 (dk_at dksX6_evidence_3 12 rfl rfl)
theorem dX6_evidence_85 : decode cX6_evidence 85 = .ok (.iload_n 3, 1) := dk_29 (dk_at dksX6_evidence_3 15 rfl rfl)
theorem dX6_evidence_86 : decode cX6_evidence 86 = .ok (.iload_n 1, 1) := dk_27 (dk_at dksX6_evidence_3 16 rfl rfl)
theorem dX6_evidence_87 : decode cX6_evidence 87 = .ok (.if_icmp .ne 25, 3) := dk_160 0 25 (dk_at dksX6_evidence_3 17 rfl rfl)
theorem dX6_evidence_90 : decode cX6_evidence 90 = .ok (.iload_n 2, 1) := dk_28 (dk_at dksX6_evidence_3 20 rfl rfl)
theorem dX6_evidence_91 : decode cX6_evidence 91 = .ok (.ifCond .ne 8, 3) := dk_154 0 8 (dk_at dksX6_evidence_3 21 rfl rfl)
theorem dX6_evidence_94 : decode cX6_evidence 94 = .ok (.iload 4, 2) := dk_21 4 (dk_at dksX6_evidence_4 0 rfl rfl)
theorem dX6_evidence_96 : decode cX6_evidence 96 = .ok (.goto 15, 3) := dk_167 0 15 (dk_at dksX6_evidence_4 2 rfl rfl)
theorem dX6_evidence_99 : decode cX6_evidence 99 = .ok (.iload_n 2, 1) := dk_28 (dk_at dksX6_evidence_4 5 rfl rfl)
theorem dX6_evidence_100 : decode cX6_evidence 100 = .ok (.iconst 1, 1) := dk_4 (dk_at dksX6_evidence_4 6 rfl rfl)
theorem dX6_evidence_101 : decode cX6_evidence 101 = .ok (.if_icmp .ne 8, 3) := dk_160 0 8 (dk_at dksX6_evidence_4 7 rfl rfl)
theorem dX6_evidence_104 : decode cX6_evidence 104 = .ok (.iload 5, 2) := dk_21 5 (dk_at dksX6_evidence_4 10 rfl rfl)
theorem dX6_evidence_106 : decode cX6_evidence 106 = .ok (.goto 5, 3) := dk_167 0 5 (dk_at dksX6_evidence_4 12 rfl rfl)
theorem dX6_evidence_109 : decode cX6_evidence 109 = .ok (.iload 6, 2) := dk_21 6 (dk_at dksX6_evidence_4 15 rfl rfl)
theorem dX6_evidence_111 : decode cX6_evidence 111 = .ok (.ireturn, 1) := dk_172 (dk_at dksX6_evidence_4 17 rfl rfl)
theorem dX6_evidence_112 : decode cX6_evidence 112 = .ok (.iinc 3 1, 3) := dk_132 3 1 (dk_at dksX6_evidence_4 18 rfl rfl)
theorem dX6_evidence_115 : decode cX6_evidence 115 = .ok (.iinc 5 1, 3) := dk_132 5 1 (dk_at dksX6_evidence_4 21 rfl rfl)
theorem dX6_evidence_118 : decode cX6_evidence 118 = .ok (.goto (-62), 3) := dk_167 255 194 (dk_at dksX6_evidence_5 0 rfl rfl)
theorem dX6_evidence_121 : decode cX6_evidence 121 = .ok (.iinc 4 1, 3) := dk_132 4 1 (dk_at dksX6_evidence_5 3 rfl rfl)
theorem dX6_evidence_124 : decode cX6_evidence 124 = .ok (.goto (-85), 3) := dk_167 255 171 (dk_at dksX6_evidence_5 6 rfl rfl)
theorem dX6_evidence_127 : decode cX6_evidence 127 = .ok (.iconst (-1), 1) := dk_2 (dk_at dksX6_evidence_5 9 rfl rfl)
theorem dX6_evidence_128 : decode cX6_evidence 128 = .ok (.ireturn, 1) := dk_172 (dk_at dksX6_evidence_5 10 rfl rfl)
abbrev cX6_now : ByteArray := prog_25_method_73_code
def yX6_now : MethodName := ⟨RX6, "now", "(I)I"⟩
def dkwX6_now_4 : List UInt8 := [154, 0, 7, 2, 167, 0, 14, 42, 180, 0, 65, 42, 180, 1, 41, 4, 100, 46, 172, 2, 172]
abbrev dktX6_now_4 : List UInt8 := dkwX6_now_4 ++ []
def dkwX6_now_3 : List UInt8 := [180, 1, 20, 172, 42, 180, 1, 32, 172, 42, 180, 1, 17, 172, 42, 180, 1, 38, 172, 42, 180, 1, 41]
abbrev dktX6_now_3 : List UInt8 := dkwX6_now_3 ++ dktX6_now_4
def dkwX6_now_2 : List UInt8 := [42, 180, 1, 26, 172, 42, 180, 1, 29, 172, 42, 180, 1, 14, 172, 42, 180, 0, 33, 6, 46, 172, 42]
abbrev dktX6_now_2 : List UInt8 := dkwX6_now_2 ++ dktX6_now_3
def dkwX6_now_1 : List UInt8 := [170, 0, 0, 0, 0, 115, 0, 0, 0, 0, 0, 0, 0, 8, 0, 0, 0, 50, 0, 0, 0, 55, 0, 0, 0, 60, 0, 0, 0, 65, 0, 0, 0, 72, 0, 0, 0, 77, 0, 0, 0, 82, 0, 0, 0, 87, 0, 0, 0, 92]
abbrev dktX6_now_1 : List UInt8 := dkwX6_now_1 ++ dktX6_now_2
def dkwX6_now_0 : List UInt8 := [42, 3, 181, 0, 1, 42, 182, 1, 66, 27]
abbrev dktX6_now_0 : List UInt8 := dkwX6_now_0 ++ dktX6_now_1
theorem dksX6_now_0 : cX6_now.data.toList.drop 0 = dktX6_now_0 := by decide +kernel
theorem dksX6_now_1 : cX6_now.data.toList.drop 10 = dktX6_now_1 := dk_seg dksX6_now_0 10 rfl rfl
theorem dksX6_now_2 : cX6_now.data.toList.drop 60 = dktX6_now_2 := dk_seg dksX6_now_1 50 rfl rfl
theorem dksX6_now_3 : cX6_now.data.toList.drop 83 = dktX6_now_3 := dk_seg dksX6_now_2 23 rfl rfl
theorem dksX6_now_4 : cX6_now.data.toList.drop 106 = dktX6_now_4 := dk_seg dksX6_now_3 23 rfl rfl
theorem dX6_now_0 : decode cX6_now 0 = .ok (.aload_n 0, 1) := dk_42 (dk_at dksX6_now_0 0 rfl rfl)
theorem dX6_now_1 : decode cX6_now 1 = .ok (.iconst 0, 1) := dk_3 (dk_at dksX6_now_0 1 rfl rfl)
theorem dX6_now_2 : decode cX6_now 2 = .ok (.putfield 1, 3) := dk_181 0 1 (dk_at dksX6_now_0 2 rfl rfl)
theorem dX6_now_5 : decode cX6_now 5 = .ok (.aload_n 0, 1) := dk_42 (dk_at dksX6_now_0 5 rfl rfl)
theorem dX6_now_6 : decode cX6_now 6 = .ok (.invokevirtual 322, 3) := dk_182 1 66 (dk_at dksX6_now_0 6 rfl rfl)
theorem dX6_now_9 : decode cX6_now 9 = .ok (.iload_n 1, 1) := dk_27 (dk_at dksX6_now_0 9 rfl rfl)
theorem dX6_now_10 : decode cX6_now 10 = .ok (.tableswitch 115 0 8 #[50, 55, 60, 65, 72, 77, 82, 87, 92], 50) := by decide +kernel
theorem dX6_now_60 : decode cX6_now 60 = .ok (.aload_n 0, 1) := dk_42 (dk_at dksX6_now_2 0 rfl rfl)
theorem dX6_now_61 : decode cX6_now 61 = .ok (.getfield 282, 3) := dk_180 1 26 (dk_at dksX6_now_2 1 rfl rfl)
theorem dX6_now_64 : decode cX6_now 64 = .ok (.ireturn, 1) := dk_172 (dk_at dksX6_now_2 4 rfl rfl)
theorem dX6_now_65 : decode cX6_now 65 = .ok (.aload_n 0, 1) := dk_42 (dk_at dksX6_now_2 5 rfl rfl)
theorem dX6_now_66 : decode cX6_now 66 = .ok (.getfield 285, 3) := dk_180 1 29 (dk_at dksX6_now_2 6 rfl rfl)
theorem dX6_now_69 : decode cX6_now 69 = .ok (.ireturn, 1) := dk_172 (dk_at dksX6_now_2 9 rfl rfl)
theorem dX6_now_70 : decode cX6_now 70 = .ok (.aload_n 0, 1) := dk_42 (dk_at dksX6_now_2 10 rfl rfl)
theorem dX6_now_71 : decode cX6_now 71 = .ok (.getfield 270, 3) := dk_180 1 14 (dk_at dksX6_now_2 11 rfl rfl)
theorem dX6_now_74 : decode cX6_now 74 = .ok (.ireturn, 1) := dk_172 (dk_at dksX6_now_2 14 rfl rfl)
theorem dX6_now_75 : decode cX6_now 75 = .ok (.aload_n 0, 1) := dk_42 (dk_at dksX6_now_2 15 rfl rfl)
theorem dX6_now_76 : decode cX6_now 76 = .ok (.getfield 33, 3) := dk_180 0 33 (dk_at dksX6_now_2 16 rfl rfl)
theorem dX6_now_79 : decode cX6_now 79 = .ok (.iconst 3, 1) := dk_6 (dk_at dksX6_now_2 19 rfl rfl)
theorem dX6_now_80 : decode cX6_now 80 = .ok (.iaload, 1) := dk_46 (dk_at dksX6_now_2 20 rfl rfl)
theorem dX6_now_81 : decode cX6_now 81 = .ok (.ireturn, 1) := dk_172 (dk_at dksX6_now_2 21 rfl rfl)
theorem dX6_now_82 : decode cX6_now 82 = .ok (.aload_n 0, 1) := dk_42 (dk_at dksX6_now_2 22 rfl rfl)
theorem dX6_now_83 : decode cX6_now 83 = .ok (.getfield 276, 3) := dk_180 1 20 (dk_at dksX6_now_3 0 rfl rfl)
theorem dX6_now_86 : decode cX6_now 86 = .ok (.ireturn, 1) := dk_172 (dk_at dksX6_now_3 3 rfl rfl)
theorem dX6_now_87 : decode cX6_now 87 = .ok (.aload_n 0, 1) := dk_42 (dk_at dksX6_now_3 4 rfl rfl)
theorem dX6_now_88 : decode cX6_now 88 = .ok (.getfield 288, 3) := dk_180 1 32 (dk_at dksX6_now_3 5 rfl rfl)
theorem dX6_now_91 : decode cX6_now 91 = .ok (.ireturn, 1) := dk_172 (dk_at dksX6_now_3 8 rfl rfl)
theorem dX6_now_92 : decode cX6_now 92 = .ok (.aload_n 0, 1) := dk_42 (dk_at dksX6_now_3 9 rfl rfl)
theorem dX6_now_93 : decode cX6_now 93 = .ok (.getfield 273, 3) := dk_180 1 17 (dk_at dksX6_now_3 10 rfl rfl)
theorem dX6_now_96 : decode cX6_now 96 = .ok (.ireturn, 1) := dk_172 (dk_at dksX6_now_3 13 rfl rfl)
theorem dX6_now_97 : decode cX6_now 97 = .ok (.aload_n 0, 1) := dk_42 (dk_at dksX6_now_3 14 rfl rfl)
theorem dX6_now_98 : decode cX6_now 98 = .ok (.getfield 294, 3) := dk_180 1 38 (dk_at dksX6_now_3 15 rfl rfl)
theorem dX6_now_101 : decode cX6_now 101 = .ok (.ireturn, 1) := dk_172 (dk_at dksX6_now_3 18 rfl rfl)
theorem dX6_now_102 : decode cX6_now 102 = .ok (.aload_n 0, 1) := dk_42 (dk_at dksX6_now_3 19 rfl rfl)
theorem dX6_now_103 : decode cX6_now 103 = .ok (.getfield 297, 3) := dk_180 1 41 (dk_at dksX6_now_3 20 rfl rfl)
theorem dX6_now_106 : decode cX6_now 106 = .ok (.ifCond .ne 7, 3) := dk_154 0 7 (dk_at dksX6_now_4 0 rfl rfl)
theorem dX6_now_109 : decode cX6_now 109 = .ok (.iconst (-1), 1) := dk_2 (dk_at dksX6_now_4 3 rfl rfl)
theorem dX6_now_110 : decode cX6_now 110 = .ok (.goto 14, 3) := dk_167 0 14 (dk_at dksX6_now_4 4 rfl rfl)
theorem dX6_now_113 : decode cX6_now 113 = .ok (.aload_n 0, 1) := dk_42 (dk_at dksX6_now_4 7 rfl rfl)
theorem dX6_now_114 : decode cX6_now 114 = .ok (.getfield 65, 3) := dk_180 0 65 (dk_at dksX6_now_4 8 rfl rfl)
theorem dX6_now_117 : decode cX6_now 117 = .ok (.aload_n 0, 1) := dk_42 (dk_at dksX6_now_4 11 rfl rfl)
theorem dX6_now_118 : decode cX6_now 118 = .ok (.getfield 297, 3) := dk_180 1 41 (dk_at dksX6_now_4 12 rfl rfl)
theorem dX6_now_121 : decode cX6_now 121 = .ok (.iconst 1, 1) := dk_4 (dk_at dksX6_now_4 15 rfl rfl)
theorem dX6_now_122 : decode cX6_now 122 = .ok (.isub, 1) := dk_100 (dk_at dksX6_now_4 16 rfl rfl)
theorem dX6_now_123 : decode cX6_now 123 = .ok (.iaload, 1) := dk_46 (dk_at dksX6_now_4 17 rfl rfl)
theorem dX6_now_124 : decode cX6_now 124 = .ok (.ireturn, 1) := dk_172 (dk_at dksX6_now_4 18 rfl rfl)
theorem dX6_now_125 : decode cX6_now 125 = .ok (.iconst (-1), 1) := dk_2 (dk_at dksX6_now_4 19 rfl rfl)
theorem dX6_now_126 : decode cX6_now 126 = .ok (.ireturn, 1) := dk_172 (dk_at dksX6_now_4 20 rfl rfl)
abbrev cX6_chosen : ByteArray := prog_25_method_74_code
def yX6_chosen : MethodName := ⟨RX6, "chosen", "(I)I"⟩
def dkwX6_chosen_1 : List UInt8 := [180, 0, 65, 27, 46, 167, 0, 4, 2, 172]
abbrev dktX6_chosen_1 : List UInt8 := dkwX6_chosen_1 ++ []
def dkwX6_chosen_0 : List UInt8 := [42, 3, 181, 0, 1, 42, 182, 1, 66, 27, 3, 42, 180, 1, 41, 4, 100, 184, 0, 189, 153, 0, 12, 42]
abbrev dktX6_chosen_0 : List UInt8 := dkwX6_chosen_0 ++ dktX6_chosen_1
theorem dksX6_chosen_0 : cX6_chosen.data.toList.drop 0 = dktX6_chosen_0 := by decide +kernel
theorem dksX6_chosen_1 : cX6_chosen.data.toList.drop 24 = dktX6_chosen_1 := dk_seg dksX6_chosen_0 24 rfl rfl
theorem dX6_chosen_0 : decode cX6_chosen 0 = .ok (.aload_n 0, 1) := dk_42 (dk_at dksX6_chosen_0 0 rfl rfl)
theorem dX6_chosen_1 : decode cX6_chosen 1 = .ok (.iconst 0, 1) := dk_3 (dk_at dksX6_chosen_0 1 rfl rfl)
theorem dX6_chosen_2 : decode cX6_chosen 2 = .ok (.putfield 1, 3) := dk_181 0 1 (dk_at dksX6_chosen_0 2 rfl rfl)
theorem dX6_chosen_5 : decode cX6_chosen 5 = .ok (.aload_n 0, 1) := dk_42 (dk_at dksX6_chosen_0 5 rfl rfl)
theorem dX6_chosen_6 : decode cX6_chosen 6 = .ok (.invokevirtual 322, 3) := dk_182 1 66 (dk_at dksX6_chosen_0 6 rfl rfl)
theorem dX6_chosen_9 : decode cX6_chosen 9 = .ok (.iload_n 1, 1) := dk_27 (dk_at dksX6_chosen_0 9 rfl rfl)
theorem dX6_chosen_10 : decode cX6_chosen 10 = .ok (.iconst 0, 1) := dk_3 (dk_at dksX6_chosen_0 10 rfl rfl)
theorem dX6_chosen_11 : decode cX6_chosen 11 = .ok (.aload_n 0, 1) := dk_42 (dk_at dksX6_chosen_0 11 rfl rfl)
theorem dX6_chosen_12 : decode cX6_chosen 12 = .ok (.getfield 297, 3) := dk_180 1 41 (dk_at dksX6_chosen_0 12 rfl rfl)
theorem dX6_chosen_15 : decode cX6_chosen 15 = .ok (.iconst 1, 1) := dk_4 (dk_at dksX6_chosen_0 15 rfl rfl)
theorem dX6_chosen_16 : decode cX6_chosen 16 = .ok (.isub, 1) := dk_100 (dk_at dksX6_chosen_0 16 rfl rfl)
theorem dX6_chosen_17 : decode cX6_chosen 17 = .ok (.invokestatic 189, 3) := dk_184 0 189 (dk_at dksX6_chosen_0 17 rfl rfl)
theorem dX6_chosen_20 : decode cX6_chosen 20 = .ok (.ifCond .eq 12, 3) := dk_153 0 12 (dk_at dksX6_chosen_0 20 rfl rfl)
theorem dX6_chosen_23 : decode cX6_chosen 23 = .ok (.aload_n 0, 1) := dk_42 (dk_at dksX6_chosen_0 23 rfl rfl)
theorem dX6_chosen_24 : decode cX6_chosen 24 = .ok (.getfield 65, 3) := dk_180 0 65 (dk_at dksX6_chosen_1 0 rfl rfl)
theorem dX6_chosen_27 : decode cX6_chosen 27 = .ok (.iload_n 1, 1) := dk_27 (dk_at dksX6_chosen_1 3 rfl rfl)
theorem dX6_chosen_28 : decode cX6_chosen 28 = .ok (.iaload, 1) := dk_46 (dk_at dksX6_chosen_1 4 rfl rfl)
theorem dX6_chosen_29 : decode cX6_chosen 29 = .ok (.goto 4, 3) := dk_167 0 4 (dk_at dksX6_chosen_1 5 rfl rfl)
theorem dX6_chosen_32 : decode cX6_chosen 32 = .ok (.iconst (-1), 1) := dk_2 (dk_at dksX6_chosen_1 8 rfl rfl)
theorem dX6_chosen_33 : decode cX6_chosen 33 = .ok (.ireturn, 1) := dk_172 (dk_at dksX6_chosen_1 9 rfl rfl)
abbrev cX6_need : ByteArray := prog_25_method_77_code
def yX6_need : MethodName := ⟨RX6, "need", "(II)I"⟩
def dkwX6_need_1 : List UInt8 := [62, 29, 155, 0, 11, 42, 42, 180, 1, 122, 181, 0, 77, 29, 172]
abbrev dktX6_need_1 : List UInt8 := dkwX6_need_1 ++ []
def dkwX6_need_0 : List UInt8 := [42, 3, 181, 0, 1, 42, 27, 28, 182, 1, 88, 153, 0, 12, 42, 27, 28, 182, 1, 128, 167, 0, 4, 2]
abbrev dktX6_need_0 : List UInt8 := dkwX6_need_0 ++ dktX6_need_1
theorem dksX6_need_0 : cX6_need.data.toList.drop 0 = dktX6_need_0 := by decide +kernel
theorem dksX6_need_1 : cX6_need.data.toList.drop 24 = dktX6_need_1 := dk_seg dksX6_need_0 24 rfl rfl
theorem dX6_need_0 : decode cX6_need 0 = .ok (.aload_n 0, 1) := dk_42 (dk_at dksX6_need_0 0 rfl rfl)
theorem dX6_need_1 : decode cX6_need 1 = .ok (.iconst 0, 1) := dk_3 (dk_at dksX6_need_0 1 rfl rfl)
theorem dX6_need_2 : decode cX6_need 2 = .ok (.putfield 1, 3) := dk_181 0 1 (dk_at dksX6_need_0 2 rfl rfl)
theorem dX6_need_5 : decode cX6_need 5 = .ok (.aload_n 0, 1) := dk_42 (dk_at dksX6_need_0 5 rfl rfl)
theorem dX6_need_6 : decode cX6_need 6 = .ok (.iload_n 1, 1) := dk_27 (dk_at dksX6_need_0 6 rfl rfl)
theorem dX6_need_7 : decode cX6_need 7 = .ok (.iload_n 2, 1) := dk_28 (dk_at dksX6_need_0 7 rfl rfl)
theorem dX6_need_8 : decode cX6_need 8 = .ok (.invokevirtual 344, 3) := dk_182 1 88 (dk_at dksX6_need_0 8 rfl rfl)
theorem dX6_need_11 : decode cX6_need 11 = .ok (.ifCond .eq 12, 3) := dk_153 0 12 (dk_at dksX6_need_0 11 rfl rfl)
theorem dX6_need_14 : decode cX6_need 14 = .ok (.aload_n 0, 1) := dk_42 (dk_at dksX6_need_0 14 rfl rfl)
theorem dX6_need_15 : decode cX6_need 15 = .ok (.iload_n 1, 1) := dk_27 (dk_at dksX6_need_0 15 rfl rfl)
theorem dX6_need_16 : decode cX6_need 16 = .ok (.iload_n 2, 1) := dk_28 (dk_at dksX6_need_0 16 rfl rfl)
theorem dX6_need_17 : decode cX6_need 17 = .ok (.invokevirtual 384, 3) := dk_182 1 128 (dk_at dksX6_need_0 17 rfl rfl)
theorem dX6_need_20 : decode cX6_need 20 = .ok (.goto 4, 3) := dk_167 0 4 (dk_at dksX6_need_0 20 rfl rfl)
theorem dX6_need_23 : decode cX6_need 23 = .ok (.iconst (-1), 1) := dk_2 (dk_at dksX6_need_0 23 rfl rfl)
theorem dX6_need_24 : decode cX6_need 24 = .ok (.istore_n 3, 1) := dk_62 (dk_at dksX6_need_1 0 rfl rfl)
theorem dX6_need_25 : decode cX6_need 25 = .ok (.iload_n 3, 1) := dk_29 (dk_at dksX6_need_1 1 rfl rfl)
theorem dX6_need_26 : decode cX6_need 26 = .ok (.ifCond .lt 11, 3) := dk_155 0 11 (dk_at dksX6_need_1 2 rfl rfl)
theorem dX6_need_29 : decode cX6_need 29 = .ok (.aload_n 0, 1) := dk_42 (dk_at dksX6_need_1 5 rfl rfl)
theorem dX6_need_30 : decode cX6_need 30 = .ok (.aload_n 0, 1) := dk_42 (dk_at dksX6_need_1 6 rfl rfl)
theorem dX6_need_31 : decode cX6_need 31 = .ok (.getfield 378, 3) := dk_180 1 122 (dk_at dksX6_need_1 7 rfl rfl)
theorem dX6_need_34 : decode cX6_need 34 = .ok (.putfield 77, 3) := dk_181 0 77 (dk_at dksX6_need_1 10 rfl rfl)
theorem dX6_need_37 : decode cX6_need 37 = .ok (.iload_n 3, 1) := dk_29 (dk_at dksX6_need_1 13 rfl rfl)
theorem dX6_need_38 : decode cX6_need 38 = .ok (.ireturn, 1) := dk_172 (dk_at dksX6_need_1 14 rfl rfl)
abbrev cX6_needOf : ByteArray := prog_25_method_76_code
def yX6_needOf : MethodName := ⟨RX6, "needOf", "(II)I"⟩
def dkwX6_needOf_7 : List UInt8 := [167, 255, 202, 132, 5, 1, 167, 255, 182, 2, 172]
abbrev dktX6_needOf_7 : List UInt8 := dkwX6_needOf_7 ++ []
def dkwX6_needOf_6 : List UInt8 := [128, 28, 182, 1, 35, 154, 0, 6, 167, 0, 12, 42, 21, 6, 181, 1, 122, 21, 5, 172, 132, 6, 1]
abbrev dktX6_needOf_6 : List UInt8 := dkwX6_needOf_6 ++ dktX6_needOf_7
def dkwX6_needOf_5 : List UInt8 := [21, 6, 21, 4, 126, 21, 6, 160, 0, 37, 21, 6, 184, 1, 125, 21, 5, 160, 0, 27, 42, 29, 21, 6]
abbrev dktX6_needOf_5 : List UInt8 := dkwX6_needOf_5 ++ dktX6_needOf_6
def dkwX6_needOf_4 : List UInt8 := [54, 5, 21, 5, 42, 180, 0, 33, 4, 46, 163, 0, 69, 4, 54, 6, 21, 6, 21, 4, 163, 0, 53]
abbrev dktX6_needOf_4 : List UInt8 := dkwX6_needOf_4 ++ dktX6_needOf_5
def dkwX6_needOf_3 : List UInt8 := [28, 182, 1, 119, 154, 0, 12, 21, 4, 4, 21, 5, 120, 128, 54, 4, 132, 5, 1, 167, 255, 201, 4]
abbrev dktX6_needOf_3 : List UInt8 := dkwX6_needOf_3 ++ dktX6_needOf_4
def dkwX6_needOf_2 : List UInt8 := [180, 1, 14, 21, 5, 184, 0, 246, 154, 0, 32, 29, 21, 5, 184, 0, 246, 154, 0, 23, 42, 21, 5, 27]
abbrev dktX6_needOf_2 : List UInt8 := dkwX6_needOf_2 ++ dktX6_needOf_3
def dkwX6_needOf_1 : List UInt8 := [153, 0, 5, 3, 172, 3, 54, 4, 3, 54, 5, 21, 5, 42, 180, 0, 33, 4, 46, 162, 0, 50, 42]
abbrev dktX6_needOf_1 : List UInt8 := dkwX6_needOf_1 ++ dktX6_needOf_2
def dkwX6_needOf_0 : List UInt8 := [42, 180, 0, 59, 16, 20, 27, 104, 28, 96, 46, 62, 42, 3, 181, 1, 122, 42, 29, 28, 182, 1, 35]
abbrev dktX6_needOf_0 : List UInt8 := dkwX6_needOf_0 ++ dktX6_needOf_1
theorem dksX6_needOf_0 : cX6_needOf.data.toList.drop 0 = dktX6_needOf_0 := by decide +kernel
theorem dksX6_needOf_1 : cX6_needOf.data.toList.drop 23 = dktX6_needOf_1 := dk_seg dksX6_needOf_0 23 rfl rfl
theorem dksX6_needOf_2 : cX6_needOf.data.toList.drop 46 = dktX6_needOf_2 := dk_seg dksX6_needOf_1 23 rfl rfl
theorem dksX6_needOf_3 : cX6_needOf.data.toList.drop 70 = dktX6_needOf_3 := dk_seg dksX6_needOf_2 24 rfl rfl
theorem dksX6_needOf_4 : cX6_needOf.data.toList.drop 93 = dktX6_needOf_4 := dk_seg dksX6_needOf_3 23 rfl rfl
theorem dksX6_needOf_5 : cX6_needOf.data.toList.drop 116 = dktX6_needOf_5 := dk_seg dksX6_needOf_4 23 rfl rfl
theorem dksX6_needOf_6 : cX6_needOf.data.toList.drop 140 = dktX6_needOf_6 := dk_seg dksX6_needOf_5 24 rfl rfl
theorem dksX6_needOf_7 : cX6_needOf.data.toList.drop 163 = dktX6_needOf_7 := dk_seg dksX6_needOf_6 23 rfl rfl
theorem dX6_needOf_0 : decode cX6_needOf 0 = .ok (.aload_n 0, 1) := dk_42 (dk_at dksX6_needOf_0 0 rfl rfl)
theorem dX6_needOf_1 : decode cX6_needOf 1 = .ok (.getfield 59, 3) := dk_180 0 59 (dk_at dksX6_needOf_0 1 rfl rfl)
theorem dX6_needOf_4 : decode cX6_needOf 4 = .ok (.bipush 20, 2) := dk_16 20 (dk_at dksX6_needOf_0 4 rfl rfl)
theorem dX6_needOf_6 : decode cX6_needOf 6 = .ok (.iload_n 1, 1) := dk_27 (dk_at dksX6_needOf_0 6 rfl rfl)
theorem dX6_needOf_7 : decode cX6_needOf 7 = .ok (.imul, 1) := dk_104 (dk_at dksX6_needOf_0 7 rfl rfl)
theorem dX6_needOf_8 : decode cX6_needOf 8 = .ok (.iload_n 2, 1) := dk_28 (dk_at dksX6_needOf_0 8 rfl rfl)
theorem dX6_needOf_9 : decode cX6_needOf 9 = .ok (.iadd, 1) := dk_96 (dk_at dksX6_needOf_0 9 rfl rfl)
theorem dX6_needOf_10 : decode cX6_needOf 10 = .ok (.iaload, 1) := dk_46 (dk_at dksX6_needOf_0 10 rfl rfl)
theorem dX6_needOf_11 : decode cX6_needOf 11 = .ok (.istore_n 3, 1) := dk_62 (dk_at dksX6_needOf_0 11 rfl rfl)
theorem dX6_needOf_12 : decode cX6_needOf 12 = .ok (.aload_n 0, 1) := dk_42 (dk_at dksX6_needOf_0 12 rfl rfl)
theorem dX6_needOf_13 : decode cX6_needOf 13 = .ok (.iconst 0, 1) := dk_3 (dk_at dksX6_needOf_0 13 rfl rfl)
theorem dX6_needOf_14 : decode cX6_needOf 14 = .ok (.putfield 378, 3) := dk_181 1 122 (dk_at dksX6_needOf_0 14 rfl rfl)
theorem dX6_needOf_17 : decode cX6_needOf 17 = .ok (.aload_n 0, 1) := dk_42 (dk_at dksX6_needOf_0 17 rfl rfl)
theorem dX6_needOf_18 : decode cX6_needOf 18 = .ok (.iload_n 3, 1) := dk_29 (dk_at dksX6_needOf_0 18 rfl rfl)
theorem dX6_needOf_19 : decode cX6_needOf 19 = .ok (.iload_n 2, 1) := dk_28 (dk_at dksX6_needOf_0 19 rfl rfl)
theorem dX6_needOf_20 : decode cX6_needOf 20 = .ok (.invokevirtual 291, 3) := dk_182 1 35 (dk_at dksX6_needOf_0 20 rfl rfl)
theorem dX6_needOf_23 : decode cX6_needOf 23 = .ok (.ifCond .eq 5, 3) := dk_153 0 5 (dk_at dksX6_needOf_1 0 rfl rfl)
theorem dX6_needOf_26 : decode cX6_needOf 26 = .ok (.iconst 0, 1) := dk_3 (dk_at dksX6_needOf_1 3 rfl rfl)
theorem dX6_needOf_27 : decode cX6_needOf 27 = .ok (.ireturn, 1) := dk_172 (dk_at dksX6_needOf_1 4 rfl rfl)
theorem dX6_needOf_28 : decode cX6_needOf 28 = .ok (.iconst 0, 1) := dk_3 (dk_at dksX6_needOf_1 5 rfl rfl)
theorem dX6_needOf_29 : decode cX6_needOf 29 = .ok (.istore 4, 2) := dk_54 4 (dk_at dksX6_needOf_1 6 rfl rfl)
theorem dX6_needOf_31 : decode cX6_needOf 31 = .ok (.iconst 0, 1) := dk_3 (dk_at dksX6_needOf_1 8 rfl rfl)
theorem dX6_needOf_32 : decode cX6_needOf 32 = .ok (.istore 5, 2) := dk_54 5 (dk_at dksX6_needOf_1 9 rfl rfl)
theorem dX6_needOf_34 : decode cX6_needOf 34 = .ok (.iload 5, 2) := dk_21 5 (dk_at dksX6_needOf_1 11 rfl rfl)
theorem dX6_needOf_36 : decode cX6_needOf 36 = .ok (.aload_n 0, 1) := dk_42 (dk_at dksX6_needOf_1 13 rfl rfl)
theorem dX6_needOf_37 : decode cX6_needOf 37 = .ok (.getfield 33, 3) := dk_180 0 33 (dk_at dksX6_needOf_1 14 rfl rfl)
theorem dX6_needOf_40 : decode cX6_needOf 40 = .ok (.iconst 1, 1) := dk_4 (dk_at dksX6_needOf_1 17 rfl rfl)
theorem dX6_needOf_41 : decode cX6_needOf 41 = .ok (.iaload, 1) := dk_46 (dk_at dksX6_needOf_1 18 rfl rfl)
theorem dX6_needOf_42 : decode cX6_needOf 42 = .ok (.if_icmp .ge 50, 3) := dk_162 0 50 (dk_at dksX6_needOf_1 19 rfl rfl)
theorem dX6_needOf_45 : decode cX6_needOf 45 = .ok (.aload_n 0, 1) := dk_42 (dk_at dksX6_needOf_1 22 rfl rfl)
theorem dX6_needOf_46 : decode cX6_needOf 46 = .ok (.getfield 270, 3) := dk_180 1 14 (dk_at dksX6_needOf_2 0 rfl rfl)
theorem dX6_needOf_49 : decode cX6_needOf 49 = .ok (.iload 5, 2) := dk_21 5 (dk_at dksX6_needOf_2 3 rfl rfl)
theorem dX6_needOf_51 : decode cX6_needOf 51 = .ok (.invokestatic 246, 3) := dk_184 0 246 (dk_at dksX6_needOf_2 5 rfl rfl)
theorem dX6_needOf_54 : decode cX6_needOf 54 = .ok (.ifCond .ne 32, 3) := dk_154 0 32 (dk_at dksX6_needOf_2 8 rfl rfl)
theorem dX6_needOf_57 : decode cX6_needOf 57 = .ok (.iload_n 3, 1) := dk_29 (dk_at dksX6_needOf_2 11 rfl rfl)
theorem dX6_needOf_58 : decode cX6_needOf 58 = .ok (.iload 5, 2) := dk_21 5 (dk_at dksX6_needOf_2 12 rfl rfl)
theorem dX6_needOf_60 : decode cX6_needOf 60 = .ok (.invokestatic 246, 3) := dk_184 0 246 (dk_at dksX6_needOf_2 14 rfl rfl)
theorem dX6_needOf_63 : decode cX6_needOf 63 = .ok (.ifCond .ne 23, 3) := dk_154 0 23 (dk_at dksX6_needOf_2 17 rfl rfl)
theorem dX6_needOf_66 : decode cX6_needOf 66 = .ok (.aload_n 0, 1) := dk_42 (dk_at dksX6_needOf_2 20 rfl rfl)
theorem dX6_needOf_67 : decode cX6_needOf 67 = .ok (.iload 5, 2) := dk_21 5 (dk_at dksX6_needOf_2 21 rfl rfl)
theorem dX6_needOf_69 : decode cX6_needOf 69 = .ok (.iload_n 1, 1) := dk_27 (dk_at dksX6_needOf_2 23 rfl rfl)
theorem dX6_needOf_70 : decode cX6_needOf 70 = .ok (.iload_n 2, 1) := dk_28 (dk_at dksX6_needOf_3 0 rfl rfl)
theorem dX6_needOf_71 : decode cX6_needOf 71 = .ok (.invokevirtual 375, 3) := dk_182 1 119 (dk_at dksX6_needOf_3 1 rfl rfl)
theorem dX6_needOf_74 : decode cX6_needOf 74 = .ok (.ifCond .ne 12, 3) := dk_154 0 12 (dk_at dksX6_needOf_3 4 rfl rfl)
theorem dX6_needOf_77 : decode cX6_needOf 77 = .ok (.iload 4, 2) := dk_21 4 (dk_at dksX6_needOf_3 7 rfl rfl)
theorem dX6_needOf_79 : decode cX6_needOf 79 = .ok (.iconst 1, 1) := dk_4 (dk_at dksX6_needOf_3 9 rfl rfl)
theorem dX6_needOf_80 : decode cX6_needOf 80 = .ok (.iload 5, 2) := dk_21 5 (dk_at dksX6_needOf_3 10 rfl rfl)
theorem dX6_needOf_82 : decode cX6_needOf 82 = .ok (.ishl, 1) := dk_120 (dk_at dksX6_needOf_3 12 rfl rfl)
theorem dX6_needOf_83 : decode cX6_needOf 83 = .ok (.ior, 1) := dk_128 (dk_at dksX6_needOf_3 13 rfl rfl)
theorem dX6_needOf_84 : decode cX6_needOf 84 = .ok (.istore 4, 2) := dk_54 4 (dk_at dksX6_needOf_3 14 rfl rfl)
theorem dX6_needOf_86 : decode cX6_needOf 86 = .ok (.iinc 5 1, 3) := dk_132 5 1 (dk_at dksX6_needOf_3 16 rfl rfl)
theorem dX6_needOf_89 : decode cX6_needOf 89 = .ok (.goto (-55), 3) := dk_167 255 201 (dk_at dksX6_needOf_3 19 rfl rfl)
theorem dX6_needOf_92 : decode cX6_needOf 92 = .ok (.iconst 1, 1) := dk_4 (dk_at dksX6_needOf_3 22 rfl rfl)
theorem dX6_needOf_93 : decode cX6_needOf 93 = .ok (.istore 5, 2) := dk_54 5 (dk_at dksX6_needOf_4 0 rfl rfl)
theorem dX6_needOf_95 : decode cX6_needOf 95 = .ok (.iload 5, 2) := dk_21 5 (dk_at dksX6_needOf_4 2 rfl rfl)
theorem dX6_needOf_97 : decode cX6_needOf 97 = .ok (.aload_n 0, 1) := dk_42 (dk_at dksX6_needOf_4 4 rfl rfl)
theorem dX6_needOf_98 : decode cX6_needOf 98 = .ok (.getfield 33, 3) := dk_180 0 33 (dk_at dksX6_needOf_4 5 rfl rfl)
theorem dX6_needOf_101 : decode cX6_needOf 101 = .ok (.iconst 1, 1) := dk_4 (dk_at dksX6_needOf_4 8 rfl rfl)
theorem dX6_needOf_102 : decode cX6_needOf 102 = .ok (.iaload, 1) := dk_46 (dk_at dksX6_needOf_4 9 rfl rfl)
theorem dX6_needOf_103 : decode cX6_needOf 103 = .ok (.if_icmp .gt 69, 3) := dk_163 0 69 (dk_at dksX6_needOf_4 10 rfl rfl)
theorem dX6_needOf_106 : decode cX6_needOf 106 = .ok (.iconst 1, 1) := dk_4 (dk_at dksX6_needOf_4 13 rfl rfl)
theorem dX6_needOf_107 : decode cX6_needOf 107 = .ok (.istore 6, 2) := dk_54 6 (dk_at dksX6_needOf_4 14 rfl rfl)
theorem dX6_needOf_109 : decode cX6_needOf 109 = .ok (.iload 6, 2) := dk_21 6 (dk_at dksX6_needOf_4 16 rfl rfl)
theorem dX6_needOf_111 : decode cX6_needOf 111 = .ok (.iload 4, 2) := dk_21 4 (dk_at dksX6_needOf_4 18 rfl rfl)
theorem dX6_needOf_113 : decode cX6_needOf 113 = .ok (.if_icmp .gt 53, 3) := dk_163 0 53 (dk_at dksX6_needOf_4 20 rfl rfl)
theorem dX6_needOf_116 : decode cX6_needOf 116 = .ok (.iload 6, 2) := dk_21 6 (dk_at dksX6_needOf_5 0 rfl rfl)
theorem dX6_needOf_118 : decode cX6_needOf 118 = .ok (.iload 4, 2) := dk_21 4 (dk_at dksX6_needOf_5 2 rfl rfl)
theorem dX6_needOf_120 : decode cX6_needOf 120 = .ok (.iand, 1) := dk_126 (dk_at dksX6_needOf_5 4 rfl rfl)
theorem dX6_needOf_121 : decode cX6_needOf 121 = .ok (.iload 6, 2) := dk_21 6 (dk_at dksX6_needOf_5 5 rfl rfl)
theorem dX6_needOf_123 : decode cX6_needOf 123 = .ok (.if_icmp .ne 37, 3) := dk_160 0 37 (dk_at dksX6_needOf_5 7 rfl rfl)
theorem dX6_needOf_126 : decode cX6_needOf 126 = .ok (.iload 6, 2) := dk_21 6 (dk_at dksX6_needOf_5 10 rfl rfl)
theorem dX6_needOf_128 : decode cX6_needOf 128 = .ok (.invokestatic 381, 3) := dk_184 1 125 (dk_at dksX6_needOf_5 12 rfl rfl)
theorem dX6_needOf_131 : decode cX6_needOf 131 = .ok (.iload 5, 2) := dk_21 5 (dk_at dksX6_needOf_5 15 rfl rfl)
theorem dX6_needOf_133 : decode cX6_needOf 133 = .ok (.if_icmp .ne 27, 3) := dk_160 0 27 (dk_at dksX6_needOf_5 17 rfl rfl)
theorem dX6_needOf_136 : decode cX6_needOf 136 = .ok (.aload_n 0, 1) := dk_42 (dk_at dksX6_needOf_5 20 rfl rfl)
theorem dX6_needOf_137 : decode cX6_needOf 137 = .ok (.iload_n 3, 1) := dk_29 (dk_at dksX6_needOf_5 21 rfl rfl)
theorem dX6_needOf_138 : decode cX6_needOf 138 = .ok (.iload 6, 2) := dk_21 6 (dk_at dksX6_needOf_5 22 rfl rfl)
theorem dX6_needOf_140 : decode cX6_needOf 140 = .ok (.ior, 1) := dk_128 (dk_at dksX6_needOf_6 0 rfl rfl)
theorem dX6_needOf_141 : decode cX6_needOf 141 = .ok (.iload_n 2, 1) := dk_28 (dk_at dksX6_needOf_6 1 rfl rfl)
theorem dX6_needOf_142 : decode cX6_needOf 142 = .ok (.invokevirtual 291, 3) := dk_182 1 35 (dk_at dksX6_needOf_6 2 rfl rfl)
theorem dX6_needOf_145 : decode cX6_needOf 145 = .ok (.ifCond .ne 6, 3) := dk_154 0 6 (dk_at dksX6_needOf_6 5 rfl rfl)
theorem dX6_needOf_148 : decode cX6_needOf 148 = .ok (.goto 12, 3) := dk_167 0 12 (dk_at dksX6_needOf_6 8 rfl rfl)
theorem dX6_needOf_151 : decode cX6_needOf 151 = .ok (.aload_n 0, 1) := dk_42 (dk_at dksX6_needOf_6 11 rfl rfl)
theorem dX6_needOf_152 : decode cX6_needOf 152 = .ok (.iload 6, 2) := dk_21 6 (dk_at dksX6_needOf_6 12 rfl rfl)
theorem dX6_needOf_154 : decode cX6_needOf 154 = .ok (.putfield 378, 3) := dk_181 1 122 (dk_at dksX6_needOf_6 14 rfl rfl)
theorem dX6_needOf_157 : decode cX6_needOf 157 = .ok (.iload 5, 2) := dk_21 5 (dk_at dksX6_needOf_6 17 rfl rfl)
theorem dX6_needOf_159 : decode cX6_needOf 159 = .ok (.ireturn, 1) := dk_172 (dk_at dksX6_needOf_6 19 rfl rfl)
theorem dX6_needOf_160 : decode cX6_needOf 160 = .ok (.iinc 6 1, 3) := dk_132 6 1 (dk_at dksX6_needOf_6 20 rfl rfl)
theorem dX6_needOf_163 : decode cX6_needOf 163 = .ok (.goto (-54), 3) := dk_167 255 202 (dk_at dksX6_needOf_7 0 rfl rfl)
theorem dX6_needOf_166 : decode cX6_needOf 166 = .ok (.iinc 5 1, 3) := dk_132 5 1 (dk_at dksX6_needOf_7 3 rfl rfl)
theorem dX6_needOf_169 : decode cX6_needOf 169 = .ok (.goto (-74), 3) := dk_167 255 182 (dk_at dksX6_needOf_7 6 rfl rfl)
theorem dX6_needOf_172 : decode cX6_needOf 172 = .ok (.iconst (-1), 1) := dk_2 (dk_at dksX6_needOf_7 9 rfl rfl)
theorem dX6_needOf_173 : decode cX6_needOf 173 = .ok (.ireturn, 1) := dk_172 (dk_at dksX6_needOf_7 10 rfl rfl)
abbrev cX6_bitsIn : ByteArray := prog_25_method_75_code
def yX6_bitsIn : MethodName := ⟨RX6, "bitsIn", "(I)I"⟩
def dkwX6_bitsIn_1 : List UInt8 := [27, 172]
abbrev dktX6_bitsIn_1 : List UInt8 := dkwX6_bitsIn_1 ++ []
def dkwX6_bitsIn_0 : List UInt8 := [3, 60, 3, 61, 28, 16, 8, 162, 0, 17, 27, 26, 28, 122, 4, 126, 96, 60, 132, 2, 1, 167, 255, 239]
abbrev dktX6_bitsIn_0 : List UInt8 := dkwX6_bitsIn_0 ++ dktX6_bitsIn_1
theorem dksX6_bitsIn_0 : cX6_bitsIn.data.toList.drop 0 = dktX6_bitsIn_0 := by decide +kernel
theorem dksX6_bitsIn_1 : cX6_bitsIn.data.toList.drop 24 = dktX6_bitsIn_1 := dk_seg dksX6_bitsIn_0 24 rfl rfl
theorem dX6_bitsIn_0 : decode cX6_bitsIn 0 = .ok (.iconst 0, 1) := dk_3 (dk_at dksX6_bitsIn_0 0 rfl rfl)
theorem dX6_bitsIn_1 : decode cX6_bitsIn 1 = .ok (.istore_n 1, 1) := dk_60 (dk_at dksX6_bitsIn_0 1 rfl rfl)
theorem dX6_bitsIn_2 : decode cX6_bitsIn 2 = .ok (.iconst 0, 1) := dk_3 (dk_at dksX6_bitsIn_0 2 rfl rfl)
theorem dX6_bitsIn_3 : decode cX6_bitsIn 3 = .ok (.istore_n 2, 1) := dk_61 (dk_at dksX6_bitsIn_0 3 rfl rfl)
theorem dX6_bitsIn_4 : decode cX6_bitsIn 4 = .ok (.iload_n 2, 1) := dk_28 (dk_at dksX6_bitsIn_0 4 rfl rfl)
theorem dX6_bitsIn_5 : decode cX6_bitsIn 5 = .ok (.bipush 8, 2) := dk_16 8 (dk_at dksX6_bitsIn_0 5 rfl rfl)
theorem dX6_bitsIn_7 : decode cX6_bitsIn 7 = .ok (.if_icmp .ge 17, 3) := dk_162 0 17 (dk_at dksX6_bitsIn_0 7 rfl rfl)
theorem dX6_bitsIn_10 : decode cX6_bitsIn 10 = .ok (.iload_n 1, 1) := dk_27 (dk_at dksX6_bitsIn_0 10 rfl rfl)
theorem dX6_bitsIn_11 : decode cX6_bitsIn 11 = .ok (.iload_n 0, 1) := dk_26 (dk_at dksX6_bitsIn_0 11 rfl rfl)
theorem dX6_bitsIn_12 : decode cX6_bitsIn 12 = .ok (.iload_n 2, 1) := dk_28 (dk_at dksX6_bitsIn_0 12 rfl rfl)
theorem dX6_bitsIn_13 : decode cX6_bitsIn 13 = .ok (.ishr, 1) := dk_122 (dk_at dksX6_bitsIn_0 13 rfl rfl)
theorem dX6_bitsIn_14 : decode cX6_bitsIn 14 = .ok (.iconst 1, 1) := dk_4 (dk_at dksX6_bitsIn_0 14 rfl rfl)
theorem dX6_bitsIn_15 : decode cX6_bitsIn 15 = .ok (.iand, 1) := dk_126 (dk_at dksX6_bitsIn_0 15 rfl rfl)
theorem dX6_bitsIn_16 : decode cX6_bitsIn 16 = .ok (.iadd, 1) := dk_96 (dk_at dksX6_bitsIn_0 16 rfl rfl)
theorem dX6_bitsIn_17 : decode cX6_bitsIn 17 = .ok (.istore_n 1, 1) := dk_60 (dk_at dksX6_bitsIn_0 17 rfl rfl)
theorem dX6_bitsIn_18 : decode cX6_bitsIn 18 = .ok (.iinc 2 1, 3) := dk_132 2 1 (dk_at dksX6_bitsIn_0 18 rfl rfl)
theorem dX6_bitsIn_21 : decode cX6_bitsIn 21 = .ok (.goto (-17), 3) := dk_167 255 239 (dk_at dksX6_bitsIn_0 21 rfl rfl)
theorem dX6_bitsIn_24 : decode cX6_bitsIn 24 = .ok (.iload_n 1, 1) := dk_27 (dk_at dksX6_bitsIn_1 0 rfl rfl)
theorem dX6_bitsIn_25 : decode cX6_bitsIn 25 = .ok (.ireturn, 1) := dk_172 (dk_at dksX6_bitsIn_1 1 rfl rfl)
abbrev cX6_needed : ByteArray := prog_25_method_78_code
def yX6_needed : MethodName := ⟨RX6, "needed", "()I"⟩
def dkwX6_needed_0 : List UInt8 := [42, 3, 181, 0, 1, 42, 180, 0, 77, 172]
abbrev dktX6_needed_0 : List UInt8 := dkwX6_needed_0 ++ []
theorem dksX6_needed_0 : cX6_needed.data.toList.drop 0 = dktX6_needed_0 := by decide +kernel
theorem dX6_needed_0 : decode cX6_needed 0 = .ok (.aload_n 0, 1) := dk_42 (dk_at dksX6_needed_0 0 rfl rfl)
theorem dX6_needed_1 : decode cX6_needed 1 = .ok (.iconst 0, 1) := dk_3 (dk_at dksX6_needed_0 1 rfl rfl)
theorem dX6_needed_2 : decode cX6_needed 2 = .ok (.putfield 1, 3) := dk_181 0 1 (dk_at dksX6_needed_0 2 rfl rfl)
theorem dX6_needed_5 : decode cX6_needed 5 = .ok (.aload_n 0, 1) := dk_42 (dk_at dksX6_needed_0 5 rfl rfl)
theorem dX6_needed_6 : decode cX6_needed 6 = .ok (.getfield 77, 3) := dk_180 0 77 (dk_at dksX6_needed_0 6 rfl rfl)
theorem dX6_needed_9 : decode cX6_needed 9 = .ok (.ireturn, 1) := dk_172 (dk_at dksX6_needed_0 9 rfl rfl)
abbrev cX6_way : ByteArray := prog_25_method_79_code
def yX6_way : MethodName := ⟨RX6, "way", "(I)I"⟩
def dkwX6_way_5 : List UInt8 := [21, 5, 61, 21, 4, 62, 132, 4, 1, 167, 255, 180, 28, 155, 0, 8, 42, 29, 181, 0, 80, 28, 172]
abbrev dktX6_way_5 : List UInt8 := dkwX6_way_5 ++ []
def dkwX6_way_4 : List UInt8 := [182, 1, 128, 54, 5, 21, 5, 155, 0, 22, 28, 155, 0, 12, 21, 5, 28, 161, 0, 6, 167, 0, 9]
abbrev dktX6_way_4 : List UInt8 := dkwX6_way_4 ++ dktX6_way_5
def dkwX6_way_3 : List UInt8 := [184, 0, 246, 153, 0, 49, 42, 21, 4, 27, 182, 1, 79, 154, 0, 6, 167, 0, 36, 42, 21, 4, 27]
abbrev dktX6_way_3 : List UInt8 := dkwX6_way_3 ++ dktX6_way_4
def dkwX6_way_2 : List UInt8 := [3, 54, 4, 21, 4, 42, 180, 0, 33, 5, 46, 162, 0, 71, 28, 153, 0, 67, 42, 180, 1, 26, 21, 4]
abbrev dktX6_way_2 : List UInt8 := dkwX6_way_2 ++ dktX6_way_3
def dkwX6_way_1 : List UInt8 := [154, 0, 5, 2, 172, 42, 180, 1, 26, 27, 184, 0, 246, 153, 0, 7, 3, 167, 0, 4, 2, 61, 2, 62]
abbrev dktX6_way_1 : List UInt8 := dkwX6_way_1 ++ dktX6_way_2
def dkwX6_way_0 : List UInt8 := [42, 3, 181, 0, 1, 42, 27, 182, 1, 59, 154, 0, 5, 2, 172, 42, 182, 1, 66, 42, 27, 182, 1, 69]
abbrev dktX6_way_0 : List UInt8 := dkwX6_way_0 ++ dktX6_way_1
theorem dksX6_way_0 : cX6_way.data.toList.drop 0 = dktX6_way_0 := by decide +kernel
theorem dksX6_way_1 : cX6_way.data.toList.drop 24 = dktX6_way_1 := dk_seg dksX6_way_0 24 rfl rfl
theorem dksX6_way_2 : cX6_way.data.toList.drop 48 = dktX6_way_2 := dk_seg dksX6_way_1 24 rfl rfl
theorem dksX6_way_3 : cX6_way.data.toList.drop 72 = dktX6_way_3 := dk_seg dksX6_way_2 24 rfl rfl
theorem dksX6_way_4 : cX6_way.data.toList.drop 95 = dktX6_way_4 := dk_seg dksX6_way_3 23 rfl rfl
theorem dksX6_way_5 : cX6_way.data.toList.drop 118 = dktX6_way_5 := dk_seg dksX6_way_4 23 rfl rfl
theorem dX6_way_0 : decode cX6_way 0 = .ok (.aload_n 0, 1) := dk_42 (dk_at dksX6_way_0 0 rfl rfl)
theorem dX6_way_1 : decode cX6_way 1 = .ok (.iconst 0, 1) := dk_3 (dk_at dksX6_way_0 1 rfl rfl)
theorem dX6_way_2 : decode cX6_way 2 = .ok (.putfield 1, 3) := dk_181 0 1 (dk_at dksX6_way_0 2 rfl rfl)
theorem dX6_way_5 : decode cX6_way 5 = .ok (.aload_n 0, 1) := dk_42 (dk_at dksX6_way_0 5 rfl rfl)
theorem dX6_way_6 : decode cX6_way 6 = .ok (.iload_n 1, 1) := dk_27 (dk_at dksX6_way_0 6 rfl rfl)
theorem dX6_way_7 : decode cX6_way 7 = .ok (.invokevirtual 315, 3) := dk_182 1 59 (dk_at dksX6_way_0 7 rfl rfl)
theorem dX6_way_10 : decode cX6_way 10 = .ok (.ifCond .ne 5, 3) := dk_154 0 5 (dk_at dksX6_way_0 10 rfl rfl)
theorem dX6_way_13 : decode cX6_way 13 = .ok (.iconst (-1), 1) := dk_2 (dk_at dksX6_way_0 13 rfl rfl)
theorem dX6_way_14 : decode cX6_way 14 = .ok (.ireturn, 1) := dk_172 (dk_at dksX6_way_0 14 rfl rfl)
theorem dX6_way_15 : decode cX6_way 15 = .ok (.aload_n 0, 1) := dk_42 (dk_at dksX6_way_0 15 rfl rfl)
theorem dX6_way_16 : decode cX6_way 16 = .ok (.invokevirtual 322, 3) := dk_182 1 66 (dk_at dksX6_way_0 16 rfl rfl)
theorem dX6_way_19 : decode cX6_way 19 = .ok (.aload_n 0, 1) := dk_42 (dk_at dksX6_way_0 19 rfl rfl)
theorem dX6_way_20 : decode cX6_way 20 = .ok (.iload_n 1, 1) := dk_27 (dk_at dksX6_way_0 20 rfl rfl)
theorem dX6_way_21 : decode cX6_way 21 = .ok (.invokevirtual 325, 3) := dk_182 1 69 (dk_at dksX6_way_0 21 rfl rfl)
theorem dX6_way_24 : decode cX6_way 24 = .ok (.ifCond .ne 5, 3) := dk_154 0 5 (dk_at dksX6_way_1 0 rfl rfl)
theorem dX6_way_27 : decode cX6_way 27 = .ok (.iconst (-1), 1) := dk_2 (dk_at dksX6_way_1 3 rfl rfl)
theorem dX6_way_28 : decode cX6_way 28 = .ok (.ireturn, 1) := dk_172 (dk_at dksX6_way_1 4 rfl rfl)
theorem dX6_way_29 : decode cX6_way 29 = .ok (.aload_n 0, 1) := dk_42 (dk_at dksX6_way_1 5 rfl rfl)
theorem dX6_way_30 : decode cX6_way 30 = .ok (.getfield 282, 3) := dk_180 1 26 (dk_at dksX6_way_1 6 rfl rfl)
theorem dX6_way_33 : decode cX6_way 33 = .ok (.iload_n 1, 1) := dk_27 (dk_at dksX6_way_1 9 rfl rfl)
theorem dX6_way_34 : decode cX6_way 34 = .ok (.invokestatic 246, 3) := dk_184 0 246 (dk_at dksX6_way_1 10 rfl rfl)
theorem dX6_way_37 : decode cX6_way 37 = .ok (.ifCond .eq 7, 3) := dk_153 0 7 (dk_at dksX6_way_1 13 rfl rfl)
theorem dX6_way_40 : decode cX6_way 40 = .ok (.iconst 0, 1) := dk_3 (dk_at dksX6_way_1 16 rfl rfl)
theorem dX6_way_41 : decode cX6_way 41 = .ok (.goto 4, 3) := dk_167 0 4 (dk_at dksX6_way_1 17 rfl rfl)
theorem dX6_way_44 : decode cX6_way 44 = .ok (.iconst (-1), 1) := dk_2 (dk_at dksX6_way_1 20 rfl rfl)
theorem dX6_way_45 : decode cX6_way 45 = .ok (.istore_n 2, 1) := dk_61 (dk_at dksX6_way_1 21 rfl rfl)
theorem dX6_way_46 : decode cX6_way 46 = .ok (.iconst (-1), 1) := dk_2 (dk_at dksX6_way_1 22 rfl rfl)
theorem dX6_way_47 : decode cX6_way 47 = .ok (.istore_n 3, 1) := dk_62 (dk_at dksX6_way_1 23 rfl rfl)
theorem dX6_way_48 : decode cX6_way 48 = .ok (.iconst 0, 1) := dk_3 (dk_at dksX6_way_2 0 rfl rfl)
theorem dX6_way_49 : decode cX6_way 49 = .ok (.istore 4, 2) := dk_54 4 (dk_at dksX6_way_2 1 rfl rfl)
theorem dX6_way_51 : decode cX6_way 51 = .ok (.iload 4, 2) := dk_21 4 (dk_at dksX6_way_2 3 rfl rfl)
theorem dX6_way_53 : decode cX6_way 53 = .ok (.aload_n 0, 1) := dk_42 (dk_at dksX6_way_2 5 rfl rfl)
theorem dX6_way_54 : decode cX6_way 54 = .ok (.getfield 33, 3) := dk_180 0 33 (dk_at dksX6_way_2 6 rfl rfl)
theorem dX6_way_57 : decode cX6_way 57 = .ok (.iconst 2, 1) := dk_5 (dk_at dksX6_way_2 9 rfl rfl)
theorem dX6_way_58 : decode cX6_way 58 = .ok (.iaload, 1) := dk_46 (dk_at dksX6_way_2 10 rfl rfl)
theorem dX6_way_59 : decode cX6_way 59 = .ok (.if_icmp .ge 71, 3) := dk_162 0 71 (dk_at dksX6_way_2 11 rfl rfl)
theorem dX6_way_62 : decode cX6_way 62 = .ok (.iload_n 2, 1) := dk_28 (dk_at dksX6_way_2 14 rfl rfl)
theorem dX6_way_63 : decode cX6_way 63 = .ok (.ifCond .eq 67, 3) := dk_153 0 67 (dk_at dksX6_way_2 15 rfl rfl)
theorem dX6_way_66 : decode cX6_way 66 = .ok (.aload_n 0, 1) := dk_42 (dk_at dksX6_way_2 18 rfl rfl)
theorem dX6_way_67 : decode cX6_way 67 = .ok (.getfield 282, 3) := dk_180 1 26 (dk_at dksX6_way_2 19 rfl rfl)
theorem dX6_way_70 : decode cX6_way 70 = .ok (.iload 4, 2) := dk_21 4 (dk_at dksX6_way_2 22 rfl rfl)
theorem dX6_way_72 : decode cX6_way 72 = .ok (.invokestatic 246, 3) := dk_184 0 246 (dk_at dksX6_way_3 0 rfl rfl)
theorem dX6_way_75 : decode cX6_way 75 = .ok (.ifCond .eq 49, 3) := dk_153 0 49 (dk_at dksX6_way_3 3 rfl rfl)
theorem dX6_way_78 : decode cX6_way 78 = .ok (.aload_n 0, 1) := dk_42 (dk_at dksX6_way_3 6 rfl rfl)
theorem dX6_way_79 : decode cX6_way 79 = .ok (.iload 4, 2) := dk_21 4 (dk_at dksX6_way_3 7 rfl rfl)
theorem dX6_way_81 : decode cX6_way 81 = .ok (.iload_n 1, 1) := dk_27 (dk_at dksX6_way_3 9 rfl rfl)
theorem dX6_way_82 : decode cX6_way 82 = .ok (.invokevirtual 335, 3) := dk_182 1 79 (dk_at dksX6_way_3 10 rfl rfl)
theorem dX6_way_85 : decode cX6_way 85 = .ok (.ifCond .ne 6, 3) := dk_154 0 6 (dk_at dksX6_way_3 13 rfl rfl)
theorem dX6_way_88 : decode cX6_way 88 = .ok (.goto 36, 3) := dk_167 0 36 (dk_at dksX6_way_3 16 rfl rfl)
theorem dX6_way_91 : decode cX6_way 91 = .ok (.aload_n 0, 1) := dk_42 (dk_at dksX6_way_3 19 rfl rfl)
theorem dX6_way_92 : decode cX6_way 92 = .ok (.iload 4, 2) := dk_21 4 (dk_at dksX6_way_3 20 rfl rfl)
theorem dX6_way_94 : decode cX6_way 94 = .ok (.iload_n 1, 1) := dk_27 (dk_at dksX6_way_3 22 rfl rfl)
theorem dX6_way_95 : decode cX6_way 95 = .ok (.invokevirtual 384, 3) := dk_182 1 128 (dk_at dksX6_way_4 0 rfl rfl)
theorem dX6_way_98 : decode cX6_way 98 = .ok (.istore 5, 2) := dk_54 5 (dk_at dksX6_way_4 3 rfl rfl)
theorem dX6_way_100 : decode cX6_way 100 = .ok (.iload 5, 2) := dk_21 5 (dk_at dksX6_way_4 5 rfl rfl)
theorem dX6_way_102 : decode cX6_way 102 = .ok (.ifCond .lt 22, 3) := dk_155 0 22 (dk_at dksX6_way_4 7 rfl rfl)
theorem dX6_way_105 : decode cX6_way 105 = .ok (.iload_n 2, 1) := dk_28 (dk_at dksX6_way_4 10 rfl rfl)
theorem dX6_way_106 : decode cX6_way 106 = .ok (.ifCond .lt 12, 3) := dk_155 0 12 (dk_at dksX6_way_4 11 rfl rfl)
theorem dX6_way_109 : decode cX6_way 109 = .ok (.iload 5, 2) := dk_21 5 (dk_at dksX6_way_4 14 rfl rfl)
theorem dX6_way_111 : decode cX6_way 111 = .ok (.iload_n 2, 1) := dk_28 (dk_at dksX6_way_4 16 rfl rfl)
theorem dX6_way_112 : decode cX6_way 112 = .ok (.if_icmp .lt 6, 3) := dk_161 0 6 (dk_at dksX6_way_4 17 rfl rfl)
theorem dX6_way_115 : decode cX6_way 115 = .ok (.goto 9, 3) := dk_167 0 9 (dk_at dksX6_way_4 20 rfl rfl)
theorem dX6_way_118 : decode cX6_way 118 = .ok (.iload 5, 2) := dk_21 5 (dk_at dksX6_way_5 0 rfl rfl)
theorem dX6_way_120 : decode cX6_way 120 = .ok (.istore_n 2, 1) := dk_61 (dk_at dksX6_way_5 2 rfl rfl)
theorem dX6_way_121 : decode cX6_way 121 = .ok (.iload 4, 2) := dk_21 4 (dk_at dksX6_way_5 3 rfl rfl)
theorem dX6_way_123 : decode cX6_way 123 = .ok (.istore_n 3, 1) := dk_62 (dk_at dksX6_way_5 5 rfl rfl)
theorem dX6_way_124 : decode cX6_way 124 = .ok (.iinc 4 1, 3) := dk_132 4 1 (dk_at dksX6_way_5 6 rfl rfl)
theorem dX6_way_127 : decode cX6_way 127 = .ok (.goto (-76), 3) := dk_167 255 180 (dk_at dksX6_way_5 9 rfl rfl)
theorem dX6_way_130 : decode cX6_way 130 = .ok (.iload_n 2, 1) := dk_28 (dk_at dksX6_way_5 12 rfl rfl)
theorem dX6_way_131 : decode cX6_way 131 = .ok (.ifCond .lt 8, 3) := dk_155 0 8 (dk_at dksX6_way_5 13 rfl rfl)
theorem dX6_way_134 : decode cX6_way 134 = .ok (.aload_n 0, 1) := dk_42 (dk_at dksX6_way_5 16 rfl rfl)
theorem dX6_way_135 : decode cX6_way 135 = .ok (.iload_n 3, 1) := dk_29 (dk_at dksX6_way_5 17 rfl rfl)
theorem dX6_way_136 : decode cX6_way 136 = .ok (.putfield 80, 3) := dk_181 0 80 (dk_at dksX6_way_5 18 rfl rfl)
theorem dX6_way_139 : decode cX6_way 139 = .ok (.iload_n 2, 1) := dk_28 (dk_at dksX6_way_5 21 rfl rfl)
theorem dX6_way_140 : decode cX6_way 140 = .ok (.ireturn, 1) := dk_172 (dk_at dksX6_way_5 22 rfl rfl)
abbrev cX6_wayFrom : ByteArray := prog_25_method_80_code
def yX6_wayFrom : MethodName := ⟨RX6, "wayFrom", "()I"⟩
def dkwX6_wayFrom_0 : List UInt8 := [42, 3, 181, 0, 1, 42, 180, 0, 80, 172]
abbrev dktX6_wayFrom_0 : List UInt8 := dkwX6_wayFrom_0 ++ []
theorem dksX6_wayFrom_0 : cX6_wayFrom.data.toList.drop 0 = dktX6_wayFrom_0 := by decide +kernel
theorem dX6_wayFrom_0 : decode cX6_wayFrom 0 = .ok (.aload_n 0, 1) := dk_42 (dk_at dksX6_wayFrom_0 0 rfl rfl)
theorem dX6_wayFrom_1 : decode cX6_wayFrom 1 = .ok (.iconst 0, 1) := dk_3 (dk_at dksX6_wayFrom_0 1 rfl rfl)
theorem dX6_wayFrom_2 : decode cX6_wayFrom 2 = .ok (.putfield 1, 3) := dk_181 0 1 (dk_at dksX6_wayFrom_0 2 rfl rfl)
theorem dX6_wayFrom_5 : decode cX6_wayFrom 5 = .ok (.aload_n 0, 1) := dk_42 (dk_at dksX6_wayFrom_0 5 rfl rfl)
theorem dX6_wayFrom_6 : decode cX6_wayFrom 6 = .ok (.getfield 80, 3) := dk_180 0 80 (dk_at dksX6_wayFrom_0 6 rfl rfl)
theorem dX6_wayFrom_9 : decode cX6_wayFrom 9 = .ok (.ireturn, 1) := dk_172 (dk_at dksX6_wayFrom_0 9 rfl rfl)
abbrev cX6_clash : ByteArray := prog_25_method_82_code
def yX6_clash : MethodName := ⟨RX6, "clash", "()I"⟩
def dkwX6_clash_0 : List UInt8 := [42, 3, 181, 0, 1, 42, 3, 182, 1, 131, 155, 0, 7, 4, 167, 0, 4, 3, 184, 1, 75, 172]
abbrev dktX6_clash_0 : List UInt8 := dkwX6_clash_0 ++ []
theorem dksX6_clash_0 : cX6_clash.data.toList.drop 0 = dktX6_clash_0 := by decide +kernel
theorem dX6_clash_0 : decode cX6_clash 0 = .ok (.aload_n 0, 1) := dk_42 (dk_at dksX6_clash_0 0 rfl rfl)
theorem dX6_clash_1 : decode cX6_clash 1 = .ok (.iconst 0, 1) := dk_3 (dk_at dksX6_clash_0 1 rfl rfl)
theorem dX6_clash_2 : decode cX6_clash 2 = .ok (.putfield 1, 3) := dk_181 0 1 (dk_at dksX6_clash_0 2 rfl rfl)
theorem dX6_clash_5 : decode cX6_clash 5 = .ok (.aload_n 0, 1) := dk_42 (dk_at dksX6_clash_0 5 rfl rfl)
theorem dX6_clash_6 : decode cX6_clash 6 = .ok (.iconst 0, 1) := dk_3 (dk_at dksX6_clash_0 6 rfl rfl)
theorem dX6_clash_7 : decode cX6_clash 7 = .ok (.invokevirtual 387, 3) := dk_182 1 131 (dk_at dksX6_clash_0 7 rfl rfl)
theorem dX6_clash_10 : decode cX6_clash 10 = .ok (.ifCond .lt 7, 3) := dk_155 0 7 (dk_at dksX6_clash_0 10 rfl rfl)
theorem dX6_clash_13 : decode cX6_clash 13 = .ok (.iconst 1, 1) := dk_4 (dk_at dksX6_clash_0 13 rfl rfl)
theorem dX6_clash_14 : decode cX6_clash 14 = .ok (.goto 4, 3) := dk_167 0 4 (dk_at dksX6_clash_0 14 rfl rfl)
theorem dX6_clash_17 : decode cX6_clash 17 = .ok (.iconst 0, 1) := dk_3 (dk_at dksX6_clash_0 17 rfl rfl)
theorem dX6_clash_18 : decode cX6_clash 18 = .ok (.invokestatic 331, 3) := dk_184 1 75 (dk_at dksX6_clash_0 18 rfl rfl)
theorem dX6_clash_21 : decode cX6_clash 21 = .ok (.ireturn, 1) := dk_172 (dk_at dksX6_clash_0 21 rfl rfl)
abbrev cX6_clashOf : ByteArray := prog_25_method_81_code
def yX6_clashOf : MethodName := ⟨RX6, "clashOf", "(I)I"⟩
def dkwX6_clashOf_4 : List UInt8 := [167, 255, 170, 2, 172]
abbrev dktX6_clashOf_4 : List UInt8 := dkwX6_clashOf_4 ++ []
def dkwX6_clashOf_3 : List UInt8 := [167, 0, 13, 27, 154, 0, 7, 28, 167, 0, 4, 29, 172, 132, 3, 1, 167, 255, 190, 132, 2, 1]
abbrev dktX6_clashOf_3 : List UInt8 := dkwX6_clashOf_3 ++ dktX6_clashOf_4
def dkwX6_clashOf_2 : List UInt8 := [184, 0, 246, 153, 0, 34, 42, 28, 29, 182, 1, 79, 154, 0, 25, 42, 29, 28, 182, 1, 79, 153, 0, 6]
abbrev dktX6_clashOf_2 : List UInt8 := dkwX6_clashOf_2 ++ dktX6_clashOf_3
def dkwX6_clashOf_1 : List UInt8 := [180, 0, 33, 5, 46, 162, 0, 62, 42, 180, 1, 29, 28, 184, 0, 246, 153, 0, 45, 42, 180, 1, 29, 29]
abbrev dktX6_clashOf_1 : List UInt8 := dkwX6_clashOf_1 ++ dktX6_clashOf_2
def dkwX6_clashOf_0 : List UInt8 := [42, 182, 1, 66, 3, 61, 28, 42, 180, 0, 33, 5, 46, 162, 0, 82, 28, 4, 96, 62, 29, 42]
abbrev dktX6_clashOf_0 : List UInt8 := dkwX6_clashOf_0 ++ dktX6_clashOf_1
theorem dksX6_clashOf_0 : cX6_clashOf.data.toList.drop 0 = dktX6_clashOf_0 := by decide +kernel
theorem dksX6_clashOf_1 : cX6_clashOf.data.toList.drop 22 = dktX6_clashOf_1 := dk_seg dksX6_clashOf_0 22 rfl rfl
theorem dksX6_clashOf_2 : cX6_clashOf.data.toList.drop 46 = dktX6_clashOf_2 := dk_seg dksX6_clashOf_1 24 rfl rfl
theorem dksX6_clashOf_3 : cX6_clashOf.data.toList.drop 70 = dktX6_clashOf_3 := dk_seg dksX6_clashOf_2 24 rfl rfl
theorem dksX6_clashOf_4 : cX6_clashOf.data.toList.drop 92 = dktX6_clashOf_4 := dk_seg dksX6_clashOf_3 22 rfl rfl
theorem dX6_clashOf_0 : decode cX6_clashOf 0 = .ok (.aload_n 0, 1) := dk_42 (dk_at dksX6_clashOf_0 0 rfl rfl)
theorem dX6_clashOf_1 : decode cX6_clashOf 1 = .ok (.invokevirtual 322, 3) := dk_182 1 66 (dk_at dksX6_clashOf_0 1 rfl rfl)
theorem dX6_clashOf_4 : decode cX6_clashOf 4 = .ok (.iconst 0, 1) := dk_3 (dk_at dksX6_clashOf_0 4 rfl rfl)
theorem dX6_clashOf_5 : decode cX6_clashOf 5 = .ok (.istore_n 2, 1) := dk_61 (dk_at dksX6_clashOf_0 5 rfl rfl)
theorem dX6_clashOf_6 : decode cX6_clashOf 6 = .ok (.iload_n 2, 1) := dk_28 (dk_at dksX6_clashOf_0 6 rfl rfl)
theorem dX6_clashOf_7 : decode cX6_clashOf 7 = .ok (.aload_n 0, 1) := dk_42 (dk_at dksX6_clashOf_0 7 rfl rfl)
theorem dX6_clashOf_8 : decode cX6_clashOf 8 = .ok (.getfield 33, 3) := dk_180 0 33 (dk_at dksX6_clashOf_0 8 rfl rfl)
theorem dX6_clashOf_11 : decode cX6_clashOf 11 = .ok (.iconst 2, 1) := dk_5 (dk_at dksX6_clashOf_0 11 rfl rfl)
theorem dX6_clashOf_12 : decode cX6_clashOf 12 = .ok (.iaload, 1) := dk_46 (dk_at dksX6_clashOf_0 12 rfl rfl)
theorem dX6_clashOf_13 : decode cX6_clashOf 13 = .ok (.if_icmp .ge 82, 3) := dk_162 0 82 (dk_at dksX6_clashOf_0 13 rfl rfl)
theorem dX6_clashOf_16 : decode cX6_clashOf 16 = .ok (.iload_n 2, 1) := dk_28 (dk_at dksX6_clashOf_0 16 rfl rfl)
theorem dX6_clashOf_17 : decode cX6_clashOf 17 = .ok (.iconst 1, 1) := dk_4 (dk_at dksX6_clashOf_0 17 rfl rfl)
theorem dX6_clashOf_18 : decode cX6_clashOf 18 = .ok (.iadd, 1) := dk_96 (dk_at dksX6_clashOf_0 18 rfl rfl)
theorem dX6_clashOf_19 : decode cX6_clashOf 19 = .ok (.istore_n 3, 1) := dk_62 (dk_at dksX6_clashOf_0 19 rfl rfl)
theorem dX6_clashOf_20 : decode cX6_clashOf 20 = .ok (.iload_n 3, 1) := dk_29 (dk_at dksX6_clashOf_0 20 rfl rfl)
theorem dX6_clashOf_21 : decode cX6_clashOf 21 = .ok (.aload_n 0, 1) := dk_42 (dk_at dksX6_clashOf_0 21 rfl rfl)
theorem dX6_clashOf_22 : decode cX6_clashOf 22 = .ok (.getfield 33, 3) := dk_180 0 33 (dk_at dksX6_clashOf_1 0 rfl rfl)
theorem dX6_clashOf_25 : decode cX6_clashOf 25 = .ok (.iconst 2, 1) := dk_5 (dk_at dksX6_clashOf_1 3 rfl rfl)
theorem dX6_clashOf_26 : decode cX6_clashOf 26 = .ok (.iaload, 1) := dk_46 (dk_at dksX6_clashOf_1 4 rfl rfl)
theorem dX6_clashOf_27 : decode cX6_clashOf 27 = .ok (.if_icmp .ge 62, 3) := dk_162 0 62 (dk_at dksX6_clashOf_1 5 rfl rfl)
theorem dX6_clashOf_30 : decode cX6_clashOf 30 = .ok (.aload_n 0, 1) := dk_42 (dk_at dksX6_clashOf_1 8 rfl rfl)
theorem dX6_clashOf_31 : decode cX6_clashOf 31 = .ok (.getfield 285, 3) := dk_180 1 29 (dk_at dksX6_clashOf_1 9 rfl rfl)
theorem dX6_clashOf_34 : decode cX6_clashOf 34 = .ok (.iload_n 2, 1) := dk_28 (dk_at dksX6_clashOf_1 12 rfl rfl)
theorem dX6_clashOf_35 : decode cX6_clashOf 35 = .ok (.invokestatic 246, 3) := dk_184 0 246 (dk_at dksX6_clashOf_1 13 rfl rfl)
theorem dX6_clashOf_38 : decode cX6_clashOf 38 = .ok (.ifCond .eq 45, 3) := dk_153 0 45 (dk_at dksX6_clashOf_1 16 rfl rfl)
theorem dX6_clashOf_41 : decode cX6_clashOf 41 = .ok (.aload_n 0, 1) := dk_42 (dk_at dksX6_clashOf_1 19 rfl rfl)
theorem dX6_clashOf_42 : decode cX6_clashOf 42 = .ok (.getfield 285, 3) := dk_180 1 29 (dk_at dksX6_clashOf_1 20 rfl rfl)
theorem dX6_clashOf_45 : decode cX6_clashOf 45 = .ok (.iload_n 3, 1) := dk_29 (dk_at dksX6_clashOf_1 23 rfl rfl)
theorem dX6_clashOf_46 : decode cX6_clashOf 46 = .ok (.invokestatic 246, 3) := dk_184 0 246 (dk_at dksX6_clashOf_2 0 rfl rfl)
theorem dX6_clashOf_49 : decode cX6_clashOf 49 = .ok (.ifCond .eq 34, 3) := dk_153 0 34 (dk_at dksX6_clashOf_2 3 rfl rfl)
theorem dX6_clashOf_52 : decode cX6_clashOf 52 = .ok (.aload_n 0, 1) := dk_42 (dk_at dksX6_clashOf_2 6 rfl rfl)
theorem dX6_clashOf_53 : decode cX6_clashOf 53 = .ok (.iload_n 2, 1) := dk_28 (dk_at dksX6_clashOf_2 7 rfl rfl)
theorem dX6_clashOf_54 : decode cX6_clashOf 54 = .ok (.iload_n 3, 1) := dk_29 (dk_at dksX6_clashOf_2 8 rfl rfl)
theorem dX6_clashOf_55 : decode cX6_clashOf 55 = .ok (.invokevirtual 335, 3) := dk_182 1 79 (dk_at dksX6_clashOf_2 9 rfl rfl)
theorem dX6_clashOf_58 : decode cX6_clashOf 58 = .ok (.ifCond .ne 25, 3) := dk_154 0 25 (dk_at dksX6_clashOf_2 12 rfl rfl)
theorem dX6_clashOf_61 : decode cX6_clashOf 61 = .ok (.aload_n 0, 1) := dk_42 (dk_at dksX6_clashOf_2 15 rfl rfl)
theorem dX6_clashOf_62 : decode cX6_clashOf 62 = .ok (.iload_n 3, 1) := dk_29 (dk_at dksX6_clashOf_2 16 rfl rfl)
theorem dX6_clashOf_63 : decode cX6_clashOf 63 = .ok (.iload_n 2, 1) := dk_28 (dk_at dksX6_clashOf_2 17 rfl rfl)
theorem dX6_clashOf_64 : decode cX6_clashOf 64 = .ok (.invokevirtual 335, 3) := dk_182 1 79 (dk_at dksX6_clashOf_2 18 rfl rfl)
theorem dX6_clashOf_67 : decode cX6_clashOf 67 = .ok (.ifCond .eq 6, 3) := dk_153 0 6 (dk_at dksX6_clashOf_2 21 rfl rfl)
theorem dX6_clashOf_70 : decode cX6_clashOf 70 = .ok (.goto 13, 3) := dk_167 0 13 (dk_at dksX6_clashOf_3 0 rfl rfl)
theorem dX6_clashOf_73 : decode cX6_clashOf 73 = .ok (.iload_n 1, 1) := dk_27 (dk_at dksX6_clashOf_3 3 rfl rfl)
theorem dX6_clashOf_74 : decode cX6_clashOf 74 = .ok (.ifCond .ne 7, 3) := dk_154 0 7 (dk_at dksX6_clashOf_3 4 rfl rfl)
theorem dX6_clashOf_77 : decode cX6_clashOf 77 = .ok (.iload_n 2, 1) := dk_28 (dk_at dksX6_clashOf_3 7 rfl rfl)
theorem dX6_clashOf_78 : decode cX6_clashOf 78 = .ok (.goto 4, 3) := dk_167 0 4 (dk_at dksX6_clashOf_3 8 rfl rfl)
theorem dX6_clashOf_81 : decode cX6_clashOf 81 = .ok (.iload_n 3, 1) := dk_29 (dk_at dksX6_clashOf_3 11 rfl rfl)
theorem dX6_clashOf_82 : decode cX6_clashOf 82 = .ok (.ireturn, 1) := dk_172 (dk_at dksX6_clashOf_3 12 rfl rfl)
theorem dX6_clashOf_83 : decode cX6_clashOf 83 = .ok (.iinc 3 1, 3) := dk_132 3 1 (dk_at dksX6_clashOf_3 13 rfl rfl)
theorem dX6_clashOf_86 : decode cX6_clashOf 86 = .ok (.goto (-66), 3) := dk_167 255 190 (dk_at dksX6_clashOf_3 16 rfl rfl)
theorem dX6_clashOf_89 : decode cX6_clashOf 89 = .ok (.iinc 2 1, 3) := dk_132 2 1 (dk_at dksX6_clashOf_3 19 rfl rfl)
theorem dX6_clashOf_92 : decode cX6_clashOf 92 = .ok (.goto (-86), 3) := dk_167 255 170 (dk_at dksX6_clashOf_4 0 rfl rfl)
theorem dX6_clashOf_95 : decode cX6_clashOf 95 = .ok (.iconst (-1), 1) := dk_2 (dk_at dksX6_clashOf_4 3 rfl rfl)
theorem dX6_clashOf_96 : decode cX6_clashOf 96 = .ok (.ireturn, 1) := dk_172 (dk_at dksX6_clashOf_4 4 rfl rfl)
abbrev cX6_clashAt : ByteArray := prog_25_method_83_code
def yX6_clashAt : MethodName := ⟨RX6, "clashAt", "(I)I"⟩
def dkwX6_clashAt_0 : List UInt8 := [42, 3, 181, 0, 1, 27, 3, 4, 184, 0, 189, 153, 0, 11, 42, 27, 182, 1, 131, 167, 0, 4, 2, 172]
abbrev dktX6_clashAt_0 : List UInt8 := dkwX6_clashAt_0 ++ []
theorem dksX6_clashAt_0 : cX6_clashAt.data.toList.drop 0 = dktX6_clashAt_0 := by decide +kernel
theorem dX6_clashAt_0 : decode cX6_clashAt 0 = .ok (.aload_n 0, 1) := dk_42 (dk_at dksX6_clashAt_0 0 rfl rfl)
theorem dX6_clashAt_1 : decode cX6_clashAt 1 = .ok (.iconst 0, 1) := dk_3 (dk_at dksX6_clashAt_0 1 rfl rfl)
theorem dX6_clashAt_2 : decode cX6_clashAt 2 = .ok (.putfield 1, 3) := dk_181 0 1 (dk_at dksX6_clashAt_0 2 rfl rfl)
theorem dX6_clashAt_5 : decode cX6_clashAt 5 = .ok (.iload_n 1, 1) := dk_27 (dk_at dksX6_clashAt_0 5 rfl rfl)
theorem dX6_clashAt_6 : decode cX6_clashAt 6 = .ok (.iconst 0, 1) := dk_3 (dk_at dksX6_clashAt_0 6 rfl rfl)
theorem dX6_clashAt_7 : decode cX6_clashAt 7 = .ok (.iconst 1, 1) := dk_4 (dk_at dksX6_clashAt_0 7 rfl rfl)
theorem dX6_clashAt_8 : decode cX6_clashAt 8 = .ok (.invokestatic 189, 3) := dk_184 0 189 (dk_at dksX6_clashAt_0 8 rfl rfl)
theorem dX6_clashAt_11 : decode cX6_clashAt 11 = .ok (.ifCond .eq 11, 3) := dk_153 0 11 (dk_at dksX6_clashAt_0 11 rfl rfl)
theorem dX6_clashAt_14 : decode cX6_clashAt 14 = .ok (.aload_n 0, 1) := dk_42 (dk_at dksX6_clashAt_0 14 rfl rfl)
theorem dX6_clashAt_15 : decode cX6_clashAt 15 = .ok (.iload_n 1, 1) := dk_27 (dk_at dksX6_clashAt_0 15 rfl rfl)
theorem dX6_clashAt_16 : decode cX6_clashAt 16 = .ok (.invokevirtual 387, 3) := dk_182 1 131 (dk_at dksX6_clashAt_0 16 rfl rfl)
theorem dX6_clashAt_19 : decode cX6_clashAt 19 = .ok (.goto 4, 3) := dk_167 0 4 (dk_at dksX6_clashAt_0 19 rfl rfl)
theorem dX6_clashAt_22 : decode cX6_clashAt 22 = .ok (.iconst (-1), 1) := dk_2 (dk_at dksX6_clashAt_0 22 rfl rfl)
theorem dX6_clashAt_23 : decode cX6_clashAt 23 = .ok (.ireturn, 1) := dk_172 (dk_at dksX6_clashAt_0 23 rfl rfl)
abbrev cX6_guilt : ByteArray := prog_25_method_85_code
def yX6_guilt : MethodName := ⟨RX6, "guilt", "(I)I"⟩
def dkwX6_guilt_4 : List UInt8 := [172, 29, 28, 27, 184, 1, 134, 172]
abbrev dktX6_guilt_4 : List UInt8 := dkwX6_guilt_4 ++ []
def dkwX6_guilt_3 : List UInt8 := [153, 0, 12, 27, 3, 4, 184, 0, 189, 154, 0, 7, 4, 167, 0, 4, 3, 182, 1, 62, 153, 0, 5, 3]
abbrev dktX6_guilt_3 : List UInt8 := dkwX6_guilt_3 ++ dktX6_guilt_4
def dkwX6_guilt_2 : List UInt8 := [180, 0, 33, 7, 21, 4, 96, 46, 167, 0, 4, 3, 96, 62, 132, 4, 1, 167, 255, 202, 42, 28]
abbrev dktX6_guilt_2 : List UInt8 := dkwX6_guilt_2 ++ dktX6_guilt_3
def dkwX6_guilt_1 : List UInt8 := [180, 0, 33, 7, 21, 4, 96, 46, 96, 61, 29, 42, 180, 1, 14, 21, 4, 184, 0, 246, 153, 0, 15, 42]
abbrev dktX6_guilt_1 : List UInt8 := dkwX6_guilt_1 ++ dktX6_guilt_2
def dkwX6_guilt_0 : List UInt8 := [42, 182, 1, 66, 3, 61, 3, 62, 3, 54, 4, 21, 4, 42, 180, 0, 33, 4, 46, 162, 0, 49, 28, 42]
abbrev dktX6_guilt_0 : List UInt8 := dkwX6_guilt_0 ++ dktX6_guilt_1
theorem dksX6_guilt_0 : cX6_guilt.data.toList.drop 0 = dktX6_guilt_0 := by decide +kernel
theorem dksX6_guilt_1 : cX6_guilt.data.toList.drop 24 = dktX6_guilt_1 := dk_seg dksX6_guilt_0 24 rfl rfl
theorem dksX6_guilt_2 : cX6_guilt.data.toList.drop 48 = dktX6_guilt_2 := dk_seg dksX6_guilt_1 24 rfl rfl
theorem dksX6_guilt_3 : cX6_guilt.data.toList.drop 70 = dktX6_guilt_3 := dk_seg dksX6_guilt_2 22 rfl rfl
theorem dksX6_guilt_4 : cX6_guilt.data.toList.drop 94 = dktX6_guilt_4 := dk_seg dksX6_guilt_3 24 rfl rfl
theorem dX6_guilt_0 : decode cX6_guilt 0 = .ok (.aload_n 0, 1) := dk_42 (dk_at dksX6_guilt_0 0 rfl rfl)
theorem dX6_guilt_1 : decode cX6_guilt 1 = .ok (.invokevirtual 322, 3) := dk_182 1 66 (dk_at dksX6_guilt_0 1 rfl rfl)
theorem dX6_guilt_4 : decode cX6_guilt 4 = .ok (.iconst 0, 1) := dk_3 (dk_at dksX6_guilt_0 4 rfl rfl)
theorem dX6_guilt_5 : decode cX6_guilt 5 = .ok (.istore_n 2, 1) := dk_61 (dk_at dksX6_guilt_0 5 rfl rfl)
theorem dX6_guilt_6 : decode cX6_guilt 6 = .ok (.iconst 0, 1) := dk_3 (dk_at dksX6_guilt_0 6 rfl rfl)
theorem dX6_guilt_7 : decode cX6_guilt 7 = .ok (.istore_n 3, 1) := dk_62 (dk_at dksX6_guilt_0 7 rfl rfl)
theorem dX6_guilt_8 : decode cX6_guilt 8 = .ok (.iconst 0, 1) := dk_3 (dk_at dksX6_guilt_0 8 rfl rfl)
theorem dX6_guilt_9 : decode cX6_guilt 9 = .ok (.istore 4, 2) := dk_54 4 (dk_at dksX6_guilt_0 9 rfl rfl)
theorem dX6_guilt_11 : decode cX6_guilt 11 = .ok (.iload 4, 2) := dk_21 4 (dk_at dksX6_guilt_0 11 rfl rfl)
theorem dX6_guilt_13 : decode cX6_guilt 13 = .ok (.aload_n 0, 1) := dk_42 (dk_at dksX6_guilt_0 13 rfl rfl)
theorem dX6_guilt_14 : decode cX6_guilt 14 = .ok (.getfield 33, 3) := dk_180 0 33 (dk_at dksX6_guilt_0 14 rfl rfl)
theorem dX6_guilt_17 : decode cX6_guilt 17 = .ok (.iconst 1, 1) := dk_4 (dk_at dksX6_guilt_0 17 rfl rfl)
theorem dX6_guilt_18 : decode cX6_guilt 18 = .ok (.iaload, 1) := dk_46 (dk_at dksX6_guilt_0 18 rfl rfl)
theorem dX6_guilt_19 : decode cX6_guilt 19 = .ok (.if_icmp .ge 49, 3) := dk_162 0 49 (dk_at dksX6_guilt_0 19 rfl rfl)
theorem dX6_guilt_22 : decode cX6_guilt 22 = .ok (.iload_n 2, 1) := dk_28 (dk_at dksX6_guilt_0 22 rfl rfl)
theorem dX6_guilt_23 : decode cX6_guilt 23 = .ok (.aload_n 0, 1) := dk_42 (dk_at dksX6_guilt_0 23 rfl rfl)
theorem dX6_guilt_24 : decode cX6_guilt 24 = .ok (.getfield 33, 3) := dk_180 0 33 (dk_at dksX6_guilt_1 0 rfl rfl)
theorem dX6_guilt_27 : decode cX6_guilt 27 = .ok (.iconst 4, 1) := dk_7 (dk_at dksX6_guilt_1 3 rfl rfl)
theorem dX6_guilt_28 : decode cX6_guilt 28 = .ok (.iload 4, 2) := dk_21 4 (dk_at dksX6_guilt_1 4 rfl rfl)
theorem dX6_guilt_30 : decode cX6_guilt 30 = .ok (.iadd, 1) := dk_96 (dk_at dksX6_guilt_1 6 rfl rfl)
theorem dX6_guilt_31 : decode cX6_guilt 31 = .ok (.iaload, 1) := dk_46 (dk_at dksX6_guilt_1 7 rfl rfl)
theorem dX6_guilt_32 : decode cX6_guilt 32 = .ok (.iadd, 1) := dk_96 (dk_at dksX6_guilt_1 8 rfl rfl)
theorem dX6_guilt_33 : decode cX6_guilt 33 = .ok (.istore_n 2, 1) := dk_61 (dk_at dksX6_guilt_1 9 rfl rfl)
theorem dX6_guilt_34 : decode cX6_guilt 34 = .ok (.iload_n 3, 1) := dk_29 (dk_at dksX6_guilt_1 10 rfl rfl)
theorem dX6_guilt_35 : decode cX6_guilt 35 = .ok (.aload_n 0, 1) := dk_42 (dk_at dksX6_guilt_1 11 rfl rfl)
theorem dX6_guilt_36 : decode cX6_guilt 36 = .ok (.getfield 270, 3) := dk_180 1 14 (dk_at dksX6_guilt_1 12 rfl rfl)
theorem dX6_guilt_39 : decode cX6_guilt 39 = .ok (.iload 4, 2) := dk_21 4 (dk_at dksX6_guilt_1 15 rfl rfl)
theorem dX6_guilt_41 : decode cX6_guilt 41 = .ok (.invokestatic 246, 3) := dk_184 0 246 (dk_at dksX6_guilt_1 17 rfl rfl)
theorem dX6_guilt_44 : decode cX6_guilt 44 = .ok (.ifCond .eq 15, 3) := dk_153 0 15 (dk_at dksX6_guilt_1 20 rfl rfl)
theorem dX6_guilt_47 : decode cX6_guilt 47 = .ok (.aload_n 0, 1) := dk_42 (dk_at dksX6_guilt_1 23 rfl rfl)
theorem dX6_guilt_48 : decode cX6_guilt 48 = .ok (.getfield 33, 3) := dk_180 0 33 (dk_at dksX6_guilt_2 0 rfl rfl)
theorem dX6_guilt_51 : decode cX6_guilt 51 = .ok (.iconst 4, 1) := dk_7 (dk_at dksX6_guilt_2 3 rfl rfl)
theorem dX6_guilt_52 : decode cX6_guilt 52 = .ok (.iload 4, 2) := dk_21 4 (dk_at dksX6_guilt_2 4 rfl rfl)
theorem dX6_guilt_54 : decode cX6_guilt 54 = .ok (.iadd, 1) := dk_96 (dk_at dksX6_guilt_2 6 rfl rfl)
theorem dX6_guilt_55 : decode cX6_guilt 55 = .ok (.iaload, 1) := dk_46 (dk_at dksX6_guilt_2 7 rfl rfl)
theorem dX6_guilt_56 : decode cX6_guilt 56 = .ok (.goto 4, 3) := dk_167 0 4 (dk_at dksX6_guilt_2 8 rfl rfl)
theorem dX6_guilt_59 : decode cX6_guilt 59 = .ok (.iconst 0, 1) := dk_3 (dk_at dksX6_guilt_2 11 rfl rfl)
theorem dX6_guilt_60 : decode cX6_guilt 60 = .ok (.iadd, 1) := dk_96 (dk_at dksX6_guilt_2 12 rfl rfl)
theorem dX6_guilt_61 : decode cX6_guilt 61 = .ok (.istore_n 3, 1) := dk_62 (dk_at dksX6_guilt_2 13 rfl rfl)
theorem dX6_guilt_62 : decode cX6_guilt 62 = .ok (.iinc 4 1, 3) := dk_132 4 1 (dk_at dksX6_guilt_2 14 rfl rfl)
theorem dX6_guilt_65 : decode cX6_guilt 65 = .ok (.goto (-54), 3) := dk_167 255 202 (dk_at dksX6_guilt_2 17 rfl rfl)
theorem dX6_guilt_68 : decode cX6_guilt 68 = .ok (.aload_n 0, 1) := dk_42 (dk_at dksX6_guilt_2 20 rfl rfl)
theorem dX6_guilt_69 : decode cX6_guilt 69 = .ok (.iload_n 2, 1) := dk_28 (dk_at dksX6_guilt_2 21 rfl rfl)
theorem dX6_guilt_70 : decode cX6_guilt 70 = .ok (.ifCond .eq 12, 3) := dk_153 0 12 (dk_at dksX6_guilt_3 0 rfl rfl)
theorem dX6_guilt_73 : decode cX6_guilt 73 = .ok (.iload_n 1, 1) := dk_27 (dk_at dksX6_guilt_3 3 rfl rfl)
theorem dX6_guilt_74 : decode cX6_guilt 74 = .ok (.iconst 0, 1) := dk_3 (dk_at dksX6_guilt_3 4 rfl rfl)
theorem dX6_guilt_75 : decode cX6_guilt 75 = .ok (.iconst 1, 1) := dk_4 (dk_at dksX6_guilt_3 5 rfl rfl)
theorem dX6_guilt_76 : decode cX6_guilt 76 = .ok (.invokestatic 189, 3) := dk_184 0 189 (dk_at dksX6_guilt_3 6 rfl rfl)
theorem dX6_guilt_79 : decode cX6_guilt 79 = .ok (.ifCond .ne 7, 3) := dk_154 0 7 (dk_at dksX6_guilt_3 9 rfl rfl)
theorem dX6_guilt_82 : decode cX6_guilt 82 = .ok (.iconst 1, 1) := dk_4 (dk_at dksX6_guilt_3 12 rfl rfl)
theorem dX6_guilt_83 : decode cX6_guilt 83 = .ok (.goto 4, 3) := dk_167 0 4 (dk_at dksX6_guilt_3 13 rfl rfl)
theorem dX6_guilt_86 : decode cX6_guilt 86 = .ok (.iconst 0, 1) := dk_3 (dk_at dksX6_guilt_3 16 rfl rfl)
theorem dX6_guilt_87 : decode cX6_guilt 87 = .ok (.invokevirtual 318, 3) := dk_182 1 62 (dk_at dksX6_guilt_3 17 rfl rfl)
theorem dX6_guilt_90 : decode cX6_guilt 90 = .ok (.ifCond .eq 5, 3) := dk_153 0 5 (dk_at dksX6_guilt_3 20 rfl rfl)
theorem dX6_guilt_93 : decode cX6_guilt 93 = .ok (.iconst 0, 1) := dk_3 (dk_at dksX6_guilt_3 23 rfl rfl)
theorem dX6_guilt_94 : decode cX6_guilt 94 = .ok (.ireturn, 1) := dk_172 (dk_at dksX6_guilt_4 0 rfl rfl)
theorem dX6_guilt_95 : decode cX6_guilt 95 = .ok (.iload_n 3, 1) := dk_29 (dk_at dksX6_guilt_4 1 rfl rfl)
theorem dX6_guilt_96 : decode cX6_guilt 96 = .ok (.iload_n 2, 1) := dk_28 (dk_at dksX6_guilt_4 2 rfl rfl)
theorem dX6_guilt_97 : decode cX6_guilt 97 = .ok (.iload_n 1, 1) := dk_27 (dk_at dksX6_guilt_4 3 rfl rfl)
theorem dX6_guilt_98 : decode cX6_guilt 98 = .ok (.invokestatic 390, 3) := dk_184 1 134 (dk_at dksX6_guilt_4 4 rfl rfl)
theorem dX6_guilt_101 : decode cX6_guilt 101 = .ok (.ireturn, 1) := dk_172 (dk_at dksX6_guilt_4 7 rfl rfl)
abbrev cX6_least : ByteArray := prog_25_method_84_code
def yX6_least : MethodName := ⟨RX6, "least", "(III)I"⟩
def dkwX6_least_1 : List UInt8 := [167, 255, 238, 28, 154, 0, 7, 26, 167, 0, 4, 27, 29, 108, 172]
abbrev dktX6_least_1 : List UInt8 := dkwX6_least_1 ++ []
def dkwX6_least_0 : List UInt8 := [27, 62, 26, 54, 4, 21, 4, 153, 0, 19, 29, 21, 4, 112, 54, 5, 21, 4, 62, 21, 5, 54, 4]
abbrev dktX6_least_0 : List UInt8 := dkwX6_least_0 ++ dktX6_least_1
theorem dksX6_least_0 : cX6_least.data.toList.drop 0 = dktX6_least_0 := by decide +kernel
theorem dksX6_least_1 : cX6_least.data.toList.drop 23 = dktX6_least_1 := dk_seg dksX6_least_0 23 rfl rfl
theorem dX6_least_0 : decode cX6_least 0 = .ok (.iload_n 1, 1) := dk_27 (dk_at dksX6_least_0 0 rfl rfl)
theorem dX6_least_1 : decode cX6_least 1 = .ok (.istore_n 3, 1) := dk_62 (dk_at dksX6_least_0 1 rfl rfl)
theorem dX6_least_2 : decode cX6_least 2 = .ok (.iload_n 0, 1) := dk_26 (dk_at dksX6_least_0 2 rfl rfl)
theorem dX6_least_3 : decode cX6_least 3 = .ok (.istore 4, 2) := dk_54 4 (dk_at dksX6_least_0 3 rfl rfl)
theorem dX6_least_5 : decode cX6_least 5 = .ok (.iload 4, 2) := dk_21 4 (dk_at dksX6_least_0 5 rfl rfl)
theorem dX6_least_7 : decode cX6_least 7 = .ok (.ifCond .eq 19, 3) := dk_153 0 19 (dk_at dksX6_least_0 7 rfl rfl)
theorem dX6_least_10 : decode cX6_least 10 = .ok (.iload_n 3, 1) := dk_29 (dk_at dksX6_least_0 10 rfl rfl)
theorem dX6_least_11 : decode cX6_least 11 = .ok (.iload 4, 2) := dk_21 4 (dk_at dksX6_least_0 11 rfl rfl)
theorem dX6_least_13 : decode cX6_least 13 = .ok (.irem, 1) := dk_112 (dk_at dksX6_least_0 13 rfl rfl)
theorem dX6_least_14 : decode cX6_least 14 = .ok (.istore 5, 2) := dk_54 5 (dk_at dksX6_least_0 14 rfl rfl)
theorem dX6_least_16 : decode cX6_least 16 = .ok (.iload 4, 2) := dk_21 4 (dk_at dksX6_least_0 16 rfl rfl)
theorem dX6_least_18 : decode cX6_least 18 = .ok (.istore_n 3, 1) := dk_62 (dk_at dksX6_least_0 18 rfl rfl)
theorem dX6_least_19 : decode cX6_least 19 = .ok (.iload 5, 2) := dk_21 5 (dk_at dksX6_least_0 19 rfl rfl)
theorem dX6_least_21 : decode cX6_least 21 = .ok (.istore 4, 2) := dk_54 4 (dk_at dksX6_least_0 21 rfl rfl)
theorem dX6_least_23 : decode cX6_least 23 = .ok (.goto (-18), 3) := dk_167 255 238 (dk_at dksX6_least_1 0 rfl rfl)
theorem dX6_least_26 : decode cX6_least 26 = .ok (.iload_n 2, 1) := dk_28 (dk_at dksX6_least_1 3 rfl rfl)
theorem dX6_least_27 : decode cX6_least 27 = .ok (.ifCond .ne 7, 3) := dk_154 0 7 (dk_at dksX6_least_1 4 rfl rfl)
theorem dX6_least_30 : decode cX6_least 30 = .ok (.iload_n 0, 1) := dk_26 (dk_at dksX6_least_1 7 rfl rfl)
theorem dX6_least_31 : decode cX6_least 31 = .ok (.goto 4, 3) := dk_167 0 4 (dk_at dksX6_least_1 8 rfl rfl)
theorem dX6_least_34 : decode cX6_least 34 = .ok (.iload_n 1, 1) := dk_27 (dk_at dksX6_least_1 11 rfl rfl)
theorem dX6_least_35 : decode cX6_least 35 = .ok (.iload_n 3, 1) := dk_29 (dk_at dksX6_least_1 12 rfl rfl)
theorem dX6_least_36 : decode cX6_least 36 = .ok (.idiv, 1) := dk_108 (dk_at dksX6_least_1 13 rfl rfl)
theorem dX6_least_37 : decode cX6_least 37 = .ok (.ireturn, 1) := dk_172 (dk_at dksX6_least_1 14 rfl rfl)
abbrev cX6_mean : ByteArray := prog_25_method_86_code
def yX6_mean : MethodName := ⟨RX6, "mean", "(I)I"⟩
def dkwX6_mean_3 : List UInt8 := [180, 0, 53, 21, 4, 46, 96, 61, 132, 3, 1, 132, 4, 1, 167, 255, 217, 28, 29, 27, 184, 1, 134, 172]
abbrev dktX6_mean_3 : List UInt8 := dkwX6_mean_3 ++ []
def dkwX6_mean_2 : List UInt8 := [180, 0, 33, 5, 46, 162, 0, 34, 42, 21, 4, 182, 1, 72, 153, 0, 6, 167, 0, 16, 28, 42]
abbrev dktX6_mean_2 : List UInt8 := dkwX6_mean_2 ++ dktX6_mean_3
def dkwX6_mean_1 : List UInt8 := [182, 1, 62, 153, 0, 5, 3, 172, 42, 182, 1, 66, 3, 61, 3, 62, 3, 54, 4, 21, 4, 42]
abbrev dktX6_mean_1 : List UInt8 := dkwX6_mean_1 ++ dktX6_mean_2
def dkwX6_mean_0 : List UInt8 := [42, 42, 180, 0, 33, 5, 46, 153, 0, 12, 27, 3, 4, 184, 0, 189, 154, 0, 7, 4, 167, 0, 4, 3]
abbrev dktX6_mean_0 : List UInt8 := dkwX6_mean_0 ++ dktX6_mean_1
theorem dksX6_mean_0 : cX6_mean.data.toList.drop 0 = dktX6_mean_0 := by decide +kernel
theorem dksX6_mean_1 : cX6_mean.data.toList.drop 24 = dktX6_mean_1 := dk_seg dksX6_mean_0 24 rfl rfl
theorem dksX6_mean_2 : cX6_mean.data.toList.drop 46 = dktX6_mean_2 := dk_seg dksX6_mean_1 22 rfl rfl
theorem dksX6_mean_3 : cX6_mean.data.toList.drop 68 = dktX6_mean_3 := dk_seg dksX6_mean_2 22 rfl rfl
theorem dX6_mean_0 : decode cX6_mean 0 = .ok (.aload_n 0, 1) := dk_42 (dk_at dksX6_mean_0 0 rfl rfl)
theorem dX6_mean_1 : decode cX6_mean 1 = .ok (.aload_n 0, 1) := dk_42 (dk_at dksX6_mean_0 1 rfl rfl)
theorem dX6_mean_2 : decode cX6_mean 2 = .ok (.getfield 33, 3) := dk_180 0 33 (dk_at dksX6_mean_0 2 rfl rfl)
theorem dX6_mean_5 : decode cX6_mean 5 = .ok (.iconst 2, 1) := dk_5 (dk_at dksX6_mean_0 5 rfl rfl)
theorem dX6_mean_6 : decode cX6_mean 6 = .ok (.iaload, 1) := dk_46 (dk_at dksX6_mean_0 6 rfl rfl)
theorem dX6_mean_7 : decode cX6_mean 7 = .ok (.ifCond .eq 12, 3) := dk_153 0 12 (dk_at dksX6_mean_0 7 rfl rfl)
theorem dX6_mean_10 : decode cX6_mean 10 = .ok (.iload_n 1, 1) := dk_27 (dk_at dksX6_mean_0 10 rfl rfl)
theorem dX6_mean_11 : decode cX6_mean 11 = .ok (.iconst 0, 1) := dk_3 (dk_at dksX6_mean_0 11 rfl rfl)
theorem dX6_mean_12 : decode cX6_mean 12 = .ok (.iconst 1, 1) := dk_4 (dk_at dksX6_mean_0 12 rfl rfl)
theorem dX6_mean_13 : decode cX6_mean 13 = .ok (.invokestatic 189, 3) := dk_184 0 189 (dk_at dksX6_mean_0 13 rfl rfl)
theorem dX6_mean_16 : decode cX6_mean 16 = .ok (.ifCond .ne 7, 3) := dk_154 0 7 (dk_at dksX6_mean_0 16 rfl rfl)
theorem dX6_mean_19 : decode cX6_mean 19 = .ok (.iconst 1, 1) := dk_4 (dk_at dksX6_mean_0 19 rfl rfl)
theorem dX6_mean_20 : decode cX6_mean 20 = .ok (.goto 4, 3) := dk_167 0 4 (dk_at dksX6_mean_0 20 rfl rfl)
theorem dX6_mean_23 : decode cX6_mean 23 = .ok (.iconst 0, 1) := dk_3 (dk_at dksX6_mean_0 23 rfl rfl)
theorem dX6_mean_24 : decode cX6_mean 24 = .ok (.invokevirtual 318, 3) := dk_182 1 62 (dk_at dksX6_mean_1 0 rfl rfl)
theorem dX6_mean_27 : decode cX6_mean 27 = .ok (.ifCond .eq 5, 3) := dk_153 0 5 (dk_at dksX6_mean_1 3 rfl rfl)
theorem dX6_mean_30 : decode cX6_mean 30 = .ok (.iconst 0, 1) := dk_3 (dk_at dksX6_mean_1 6 rfl rfl)
theorem dX6_mean_31 : decode cX6_mean 31 = .ok (.ireturn, 1) := dk_172 (dk_at dksX6_mean_1 7 rfl rfl)
theorem dX6_mean_32 : decode cX6_mean 32 = .ok (.aload_n 0, 1) := dk_42 (dk_at dksX6_mean_1 8 rfl rfl)
theorem dX6_mean_33 : decode cX6_mean 33 = .ok (.invokevirtual 322, 3) := dk_182 1 66 (dk_at dksX6_mean_1 9 rfl rfl)
theorem dX6_mean_36 : decode cX6_mean 36 = .ok (.iconst 0, 1) := dk_3 (dk_at dksX6_mean_1 12 rfl rfl)
theorem dX6_mean_37 : decode cX6_mean 37 = .ok (.istore_n 2, 1) := dk_61 (dk_at dksX6_mean_1 13 rfl rfl)
theorem dX6_mean_38 : decode cX6_mean 38 = .ok (.iconst 0, 1) := dk_3 (dk_at dksX6_mean_1 14 rfl rfl)
theorem dX6_mean_39 : decode cX6_mean 39 = .ok (.istore_n 3, 1) := dk_62 (dk_at dksX6_mean_1 15 rfl rfl)
theorem dX6_mean_40 : decode cX6_mean 40 = .ok (.iconst 0, 1) := dk_3 (dk_at dksX6_mean_1 16 rfl rfl)
theorem dX6_mean_41 : decode cX6_mean 41 = .ok (.istore 4, 2) := dk_54 4 (dk_at dksX6_mean_1 17 rfl rfl)
theorem dX6_mean_43 : decode cX6_mean 43 = .ok (.iload 4, 2) := dk_21 4 (dk_at dksX6_mean_1 19 rfl rfl)
theorem dX6_mean_45 : decode cX6_mean 45 = .ok (.aload_n 0, 1) := dk_42 (dk_at dksX6_mean_1 21 rfl rfl)
theorem dX6_mean_46 : decode cX6_mean 46 = .ok (.getfield 33, 3) := dk_180 0 33 (dk_at dksX6_mean_2 0 rfl rfl)
theorem dX6_mean_49 : decode cX6_mean 49 = .ok (.iconst 2, 1) := dk_5 (dk_at dksX6_mean_2 3 rfl rfl)
theorem dX6_mean_50 : decode cX6_mean 50 = .ok (.iaload, 1) := dk_46 (dk_at dksX6_mean_2 4 rfl rfl)
theorem dX6_mean_51 : decode cX6_mean 51 = .ok (.if_icmp .ge 34, 3) := dk_162 0 34 (dk_at dksX6_mean_2 5 rfl rfl)
theorem dX6_mean_54 : decode cX6_mean 54 = .ok (.aload_n 0, 1) := dk_42 (dk_at dksX6_mean_2 8 rfl rfl)
theorem dX6_mean_55 : decode cX6_mean 55 = .ok (.iload 4, 2) := dk_21 4 (dk_at dksX6_mean_2 9 rfl rfl)
theorem dX6_mean_57 : decode cX6_mean 57 = .ok (.invokevirtual 328, 3) := dk_182 1 72 (dk_at dksX6_mean_2 11 rfl rfl)
theorem dX6_mean_60 : decode cX6_mean 60 = .ok (.ifCond .eq 6, 3) := dk_153 0 6 (dk_at dksX6_mean_2 14 rfl rfl)
theorem dX6_mean_63 : decode cX6_mean 63 = .ok (.goto 16, 3) := dk_167 0 16 (dk_at dksX6_mean_2 17 rfl rfl)
theorem dX6_mean_66 : decode cX6_mean 66 = .ok (.iload_n 2, 1) := dk_28 (dk_at dksX6_mean_2 20 rfl rfl)
theorem dX6_mean_67 : decode cX6_mean 67 = .ok (.aload_n 0, 1) := dk_42 (dk_at dksX6_mean_2 21 rfl rfl)
theorem dX6_mean_68 : decode cX6_mean 68 = .ok (.getfield 53, 3) := dk_180 0 53 (dk_at dksX6_mean_3 0 rfl rfl)
theorem dX6_mean_71 : decode cX6_mean 71 = .ok (.iload 4, 2) := dk_21 4 (dk_at dksX6_mean_3 3 rfl rfl)
theorem dX6_mean_73 : decode cX6_mean 73 = .ok (.iaload, 1) := dk_46 (dk_at dksX6_mean_3 5 rfl rfl)
theorem dX6_mean_74 : decode cX6_mean 74 = .ok (.iadd, 1) := dk_96 (dk_at dksX6_mean_3 6 rfl rfl)
theorem dX6_mean_75 : decode cX6_mean 75 = .ok (.istore_n 2, 1) := dk_61 (dk_at dksX6_mean_3 7 rfl rfl)
theorem dX6_mean_76 : decode cX6_mean 76 = .ok (.iinc 3 1, 3) := dk_132 3 1 (dk_at dksX6_mean_3 8 rfl rfl)
theorem dX6_mean_79 : decode cX6_mean 79 = .ok (.iinc 4 1, 3) := dk_132 4 1 (dk_at dksX6_mean_3 11 rfl rfl)
theorem dX6_mean_82 : decode cX6_mean 82 = .ok (.goto (-39), 3) := dk_167 255 217 (dk_at dksX6_mean_3 14 rfl rfl)
theorem dX6_mean_85 : decode cX6_mean 85 = .ok (.iload_n 2, 1) := dk_28 (dk_at dksX6_mean_3 17 rfl rfl)
theorem dX6_mean_86 : decode cX6_mean 86 = .ok (.iload_n 3, 1) := dk_29 (dk_at dksX6_mean_3 18 rfl rfl)
theorem dX6_mean_87 : decode cX6_mean 87 = .ok (.iload_n 1, 1) := dk_27 (dk_at dksX6_mean_3 19 rfl rfl)
theorem dX6_mean_88 : decode cX6_mean 88 = .ok (.invokestatic 390, 3) := dk_184 1 134 (dk_at dksX6_mean_3 20 rfl rfl)
theorem dX6_mean_91 : decode cX6_mean 91 = .ok (.ireturn, 1) := dk_172 (dk_at dksX6_mean_3 23 rfl rfl)
abbrev cX6_tag : ByteArray := prog_25_method_90_code
def yX6_tag : MethodName := ⟨RX6, "tag", "(I)I"⟩
def dkwX6_tag_3 : List UInt8 := [182, 1, 145, 42, 42, 180, 0, 33, 17, 0, 168, 27, 96, 46, 182, 1, 151, 42, 180, 1, 137, 172]
abbrev dktX6_tag_3 : List UInt8 := dkwX6_tag_3 ++ []
def dkwX6_tag_2 : List UInt8 := [20, 1, 149, 182, 1, 145, 42, 42, 180, 0, 33, 16, 120, 27, 96, 46, 182, 1, 151, 42, 20, 1, 154]
abbrev dktX6_tag_2 : List UInt8 := dkwX6_tag_2 ++ dktX6_tag_3
def dkwX6_tag_1 : List UInt8 := [3, 181, 1, 137, 42, 42, 180, 0, 46, 42, 180, 0, 33, 16, 72, 27, 96, 46, 47, 182, 1, 145, 42]
abbrev dktX6_tag_1 : List UInt8 := dkwX6_tag_1 ++ dktX6_tag_2
def dkwX6_tag_0 : List UInt8 := [42, 3, 181, 0, 1, 27, 3, 42, 180, 0, 33, 6, 46, 4, 100, 184, 0, 189, 154, 0, 5, 2, 172, 42]
abbrev dktX6_tag_0 : List UInt8 := dkwX6_tag_0 ++ dktX6_tag_1
theorem dksX6_tag_0 : cX6_tag.data.toList.drop 0 = dktX6_tag_0 := by decide +kernel
theorem dksX6_tag_1 : cX6_tag.data.toList.drop 24 = dktX6_tag_1 := dk_seg dksX6_tag_0 24 rfl rfl
theorem dksX6_tag_2 : cX6_tag.data.toList.drop 47 = dktX6_tag_2 := dk_seg dksX6_tag_1 23 rfl rfl
theorem dksX6_tag_3 : cX6_tag.data.toList.drop 70 = dktX6_tag_3 := dk_seg dksX6_tag_2 23 rfl rfl
theorem dX6_tag_0 : decode cX6_tag 0 = .ok (.aload_n 0, 1) := dk_42 (dk_at dksX6_tag_0 0 rfl rfl)
theorem dX6_tag_1 : decode cX6_tag 1 = .ok (.iconst 0, 1) := dk_3 (dk_at dksX6_tag_0 1 rfl rfl)
theorem dX6_tag_2 : decode cX6_tag 2 = .ok (.putfield 1, 3) := dk_181 0 1 (dk_at dksX6_tag_0 2 rfl rfl)
theorem dX6_tag_5 : decode cX6_tag 5 = .ok (.iload_n 1, 1) := dk_27 (dk_at dksX6_tag_0 5 rfl rfl)
theorem dX6_tag_6 : decode cX6_tag 6 = .ok (.iconst 0, 1) := dk_3 (dk_at dksX6_tag_0 6 rfl rfl)
theorem dX6_tag_7 : decode cX6_tag 7 = .ok (.aload_n 0, 1) := dk_42 (dk_at dksX6_tag_0 7 rfl rfl)
theorem dX6_tag_8 : decode cX6_tag 8 = .ok (.getfield 33, 3) := dk_180 0 33 (dk_at dksX6_tag_0 8 rfl rfl)
theorem dX6_tag_11 : decode cX6_tag 11 = .ok (.iconst 3, 1) := dk_6 (dk_at dksX6_tag_0 11 rfl rfl)
theorem dX6_tag_12 : decode cX6_tag 12 = .ok (.iaload, 1) := dk_46 (dk_at dksX6_tag_0 12 rfl rfl)
theorem dX6_tag_13 : decode cX6_tag 13 = .ok (.iconst 1, 1) := dk_4 (dk_at dksX6_tag_0 13 rfl rfl)
theorem dX6_tag_14 : decode cX6_tag 14 = .ok (.isub, 1) := dk_100 (dk_at dksX6_tag_0 14 rfl rfl)
theorem dX6_tag_15 : decode cX6_tag 15 = .ok (.invokestatic 189, 3) := dk_184 0 189 (dk_at dksX6_tag_0 15 rfl rfl)
theorem dX6_tag_18 : decode cX6_tag 18 = .ok (.ifCond .ne 5, 3) := dk_154 0 5 (dk_at dksX6_tag_0 18 rfl rfl)
theorem dX6_tag_21 : decode cX6_tag 21 = .ok (.iconst (-1), 1) := dk_2 (dk_at dksX6_tag_0 21 rfl rfl)
theorem dX6_tag_22 : decode cX6_tag 22 = .ok (.ireturn, 1) := dk_172 (dk_at dksX6_tag_0 22 rfl rfl)
theorem dX6_tag_23 : decode cX6_tag 23 = .ok (.aload_n 0, 1) := dk_42 (dk_at dksX6_tag_0 23 rfl rfl)
theorem dX6_tag_24 : decode cX6_tag 24 = .ok (.iconst 0, 1) := dk_3 (dk_at dksX6_tag_1 0 rfl rfl)
theorem dX6_tag_25 : decode cX6_tag 25 = .ok (.putfield 393, 3) := dk_181 1 137 (dk_at dksX6_tag_1 1 rfl rfl)
theorem dX6_tag_28 : decode cX6_tag 28 = .ok (.aload_n 0, 1) := dk_42 (dk_at dksX6_tag_1 4 rfl rfl)
theorem dX6_tag_29 : decode cX6_tag 29 = .ok (.aload_n 0, 1) := dk_42 (dk_at dksX6_tag_1 5 rfl rfl)
theorem dX6_tag_30 : decode cX6_tag 30 = .ok (.getfield 46, 3) := dk_180 0 46 (dk_at dksX6_tag_1 6 rfl rfl)
theorem dX6_tag_33 : decode cX6_tag 33 = .ok (.aload_n 0, 1) := dk_42 (dk_at dksX6_tag_1 9 rfl rfl)
theorem dX6_tag_34 : decode cX6_tag 34 = .ok (.getfield 33, 3) := dk_180 0 33 (dk_at dksX6_tag_1 10 rfl rfl)
theorem dX6_tag_37 : decode cX6_tag 37 = .ok (.bipush 72, 2) := dk_16 72 (dk_at dksX6_tag_1 13 rfl rfl)
theorem dX6_tag_39 : decode cX6_tag 39 = .ok (.iload_n 1, 1) := dk_27 (dk_at dksX6_tag_1 15 rfl rfl)
theorem dX6_tag_40 : decode cX6_tag 40 = .ok (.iadd, 1) := dk_96 (dk_at dksX6_tag_1 16 rfl rfl)
theorem dX6_tag_41 : decode cX6_tag 41 = .ok (.iaload, 1) := dk_46 (dk_at dksX6_tag_1 17 rfl rfl)
theorem dX6_tag_42 : decode cX6_tag 42 = .ok (.laload, 1) := dk_47 (dk_at dksX6_tag_1 18 rfl rfl)
theorem dX6_tag_43 : decode cX6_tag 43 = .ok (.invokevirtual 401, 3) := dk_182 1 145 (dk_at dksX6_tag_1 19 rfl rfl)
theorem dX6_tag_46 : decode cX6_tag 46 = .ok (.aload_n 0, 1) := dk_42 (dk_at dksX6_tag_1 22 rfl rfl)
theorem dX6_tag_47 : decode cX6_tag 47 = .ok (.ldc2_w 405, 3) := dk_20 1 149 (dk_at dksX6_tag_2 0 rfl rfl)
theorem dX6_tag_50 : decode cX6_tag 50 = .ok (.invokevirtual 401, 3) := dk_182 1 145 (dk_at dksX6_tag_2 3 rfl rfl)
theorem dX6_tag_53 : decode cX6_tag 53 = .ok (.aload_n 0, 1) := dk_42 (dk_at dksX6_tag_2 6 rfl rfl)
theorem dX6_tag_54 : decode cX6_tag 54 = .ok (.aload_n 0, 1) := dk_42 (dk_at dksX6_tag_2 7 rfl rfl)
theorem dX6_tag_55 : decode cX6_tag 55 = .ok (.getfield 33, 3) := dk_180 0 33 (dk_at dksX6_tag_2 8 rfl rfl)
theorem dX6_tag_58 : decode cX6_tag 58 = .ok (.bipush 120, 2) := dk_16 120 (dk_at dksX6_tag_2 11 rfl rfl)
theorem dX6_tag_60 : decode cX6_tag 60 = .ok (.iload_n 1, 1) := dk_27 (dk_at dksX6_tag_2 13 rfl rfl)
theorem dX6_tag_61 : decode cX6_tag 61 = .ok (.iadd, 1) := dk_96 (dk_at dksX6_tag_2 14 rfl rfl)
theorem dX6_tag_62 : decode cX6_tag 62 = .ok (.iaload, 1) := dk_46 (dk_at dksX6_tag_2 15 rfl rfl)
theorem dX6_tag_63 : decode cX6_tag 63 = .ok (.invokevirtual 407, 3) := dk_182 1 151 (dk_at dksX6_tag_2 16 rfl rfl)
theorem dX6_tag_66 : decode cX6_tag 66 = .ok (.aload_n 0, 1) := dk_42 (dk_at dksX6_tag_2 19 rfl rfl)
theorem dX6_tag_67 : decode cX6_tag 67 = .ok (.ldc2_w 410, 3) := dk_20 1 154 (dk_at dksX6_tag_2 20 rfl rfl)
theorem dX6_tag_70 : decode cX6_tag 70 = .ok (.invokevirtual 401, 3) := dk_182 1 145 (dk_at dksX6_tag_3 0 rfl rfl)
theorem dX6_tag_73 : decode cX6_tag 73 = .ok (.aload_n 0, 1) := dk_42 (dk_at dksX6_tag_3 3 rfl rfl)
theorem dX6_tag_74 : decode cX6_tag 74 = .ok (.aload_n 0, 1) := dk_42 (dk_at dksX6_tag_3 4 rfl rfl)
theorem dX6_tag_75 : decode cX6_tag 75 = .ok (.getfield 33, 3) := dk_180 0 33 (dk_at dksX6_tag_3 5 rfl rfl)
theorem dX6_tag_78 : decode cX6_tag 78 = .ok (.sipush 168, 3) := dk_17 0 168 (dk_at dksX6_tag_3 8 rfl rfl)
theorem dX6_tag_81 : decode cX6_tag 81 = .ok (.iload_n 1, 1) := dk_27 (dk_at dksX6_tag_3 11 rfl rfl)
theorem dX6_tag_82 : decode cX6_tag 82 = .ok (.iadd, 1) := dk_96 (dk_at dksX6_tag_3 12 rfl rfl)
theorem dX6_tag_83 : decode cX6_tag 83 = .ok (.iaload, 1) := dk_46 (dk_at dksX6_tag_3 13 rfl rfl)
theorem dX6_tag_84 : decode cX6_tag 84 = .ok (.invokevirtual 407, 3) := dk_182 1 151 (dk_at dksX6_tag_3 14 rfl rfl)
theorem dX6_tag_87 : decode cX6_tag 87 = .ok (.aload_n 0, 1) := dk_42 (dk_at dksX6_tag_3 17 rfl rfl)
theorem dX6_tag_88 : decode cX6_tag 88 = .ok (.getfield 393, 3) := dk_180 1 137 (dk_at dksX6_tag_3 18 rfl rfl)
theorem dX6_tag_91 : decode cX6_tag 91 = .ok (.ireturn, 1) := dk_172 (dk_at dksX6_tag_3 21 rfl rfl)
abbrev cX6_spells : ByteArray := prog_25_method_88_code
def yX6_spells : MethodName := ⟨RX6, "spells", "(J)V"⟩
def dkwX6_spells_1 : List UInt8 := [20, 1, 140, 127, 136, 182, 1, 142, 132, 3, 248, 167, 255, 225, 177]
abbrev dktX6_spells_1 : List UInt8 := dkwX6_spells_1 ++ []
def dkwX6_spells_0 : List UInt8 := [16, 56, 62, 29, 155, 0, 33, 31, 29, 123, 20, 1, 140, 127, 9, 148, 153, 0, 15, 42, 31, 29, 123]
abbrev dktX6_spells_0 : List UInt8 := dkwX6_spells_0 ++ dktX6_spells_1
theorem dksX6_spells_0 : cX6_spells.data.toList.drop 0 = dktX6_spells_0 := by decide +kernel
theorem dksX6_spells_1 : cX6_spells.data.toList.drop 23 = dktX6_spells_1 := dk_seg dksX6_spells_0 23 rfl rfl
theorem dX6_spells_0 : decode cX6_spells 0 = .ok (.bipush 56, 2) := dk_16 56 (dk_at dksX6_spells_0 0 rfl rfl)
theorem dX6_spells_2 : decode cX6_spells 2 = .ok (.istore_n 3, 1) := dk_62 (dk_at dksX6_spells_0 2 rfl rfl)
theorem dX6_spells_3 : decode cX6_spells 3 = .ok (.iload_n 3, 1) := dk_29 (dk_at dksX6_spells_0 3 rfl rfl)
theorem dX6_spells_4 : decode cX6_spells 4 = .ok (.ifCond .lt 33, 3) := dk_155 0 33 (dk_at dksX6_spells_0 4 rfl rfl)
theorem dX6_spells_7 : decode cX6_spells 7 = .ok (.lload_n 1, 1) := dk_31 (dk_at dksX6_spells_0 7 rfl rfl)
theorem dX6_spells_8 : decode cX6_spells 8 = .ok (.iload_n 3, 1) := dk_29 (dk_at dksX6_spells_0 8 rfl rfl)
theorem dX6_spells_9 : decode cX6_spells 9 = .ok (.lshr, 1) := dk_123 (dk_at dksX6_spells_0 9 rfl rfl)
theorem dX6_spells_10 : decode cX6_spells 10 = .ok (.ldc2_w 396, 3) := dk_20 1 140 (dk_at dksX6_spells_0 10 rfl rfl)
theorem dX6_spells_13 : decode cX6_spells 13 = .ok (.land, 1) := dk_127 (dk_at dksX6_spells_0 13 rfl rfl)
theorem dX6_spells_14 : decode cX6_spells 14 = .ok (.lconst 0, 1) := dk_9 (dk_at dksX6_spells_0 14 rfl rfl)
theorem dX6_spells_15 : decode cX6_spells 15 = .ok (.lcmp, 1) := dk_148 (dk_at dksX6_spells_0 15 rfl rfl)
theorem dX6_spells_16 : decode cX6_spells 16 = .ok (.ifCond .eq 15, 3) := dk_153 0 15 (dk_at dksX6_spells_0 16 rfl rfl)
theorem dX6_spells_19 : decode cX6_spells 19 = .ok (.aload_n 0, 1) := dk_42 (dk_at dksX6_spells_0 19 rfl rfl)
theorem dX6_spells_20 : decode cX6_spells 20 = .ok (.lload_n 1, 1) := dk_31 (dk_at dksX6_spells_0 20 rfl rfl)
theorem dX6_spells_21 : decode cX6_spells 21 = .ok (.iload_n 3, 1) := dk_29 (dk_at dksX6_spells_0 21 rfl rfl)
theorem dX6_spells_22 : decode cX6_spells 22 = .ok (.lshr, 1) := dk_123 (dk_at dksX6_spells_0 22 rfl rfl)
theorem dX6_spells_23 : decode cX6_spells 23 = .ok (.ldc2_w 396, 3) := dk_20 1 140 (dk_at dksX6_spells_1 0 rfl rfl)
theorem dX6_spells_26 : decode cX6_spells 26 = .ok (.land, 1) := dk_127 (dk_at dksX6_spells_1 3 rfl rfl)
theorem dX6_spells_27 : decode cX6_spells 27 = .ok (.l2i, 1) := dk_136 (dk_at dksX6_spells_1 4 rfl rfl)
theorem dX6_spells_28 : decode cX6_spells 28 = .ok (.invokevirtual 398, 3) := dk_182 1 142 (dk_at dksX6_spells_1 5 rfl rfl)
theorem dX6_spells_31 : decode cX6_spells 31 = .ok (.iinc 3 (-8), 3) := dk_132 3 248 (dk_at dksX6_spells_1 8 rfl rfl)
theorem dX6_spells_34 : decode cX6_spells 34 = .ok (.goto (-31), 3) := dk_167 255 225 (dk_at dksX6_spells_1 11 rfl rfl)
theorem dX6_spells_37 : decode cX6_spells 37 = .ok (.return_, 1) := dk_177 (dk_at dksX6_spells_1 14 rfl rfl)
abbrev cX6_puts : ByteArray := prog_25_method_87_code
def yX6_puts : MethodName := ⟨RX6, "puts", "(I)V"⟩
def dkwX6_puts_0 : List UInt8 := [42, 180, 0, 83, 42, 180, 1, 137, 27, 145, 84, 42, 89, 180, 1, 137, 4, 96, 181, 1, 137, 177]
abbrev dktX6_puts_0 : List UInt8 := dkwX6_puts_0 ++ []
theorem dksX6_puts_0 : cX6_puts.data.toList.drop 0 = dktX6_puts_0 := by decide +kernel
theorem dX6_puts_0 : decode cX6_puts 0 = .ok (.aload_n 0, 1) := dk_42 (dk_at dksX6_puts_0 0 rfl rfl)
theorem dX6_puts_1 : decode cX6_puts 1 = .ok (.getfield 83, 3) := dk_180 0 83 (dk_at dksX6_puts_0 1 rfl rfl)
theorem dX6_puts_4 : decode cX6_puts 4 = .ok (.aload_n 0, 1) := dk_42 (dk_at dksX6_puts_0 4 rfl rfl)
theorem dX6_puts_5 : decode cX6_puts 5 = .ok (.getfield 393, 3) := dk_180 1 137 (dk_at dksX6_puts_0 5 rfl rfl)
theorem dX6_puts_8 : decode cX6_puts 8 = .ok (.iload_n 1, 1) := dk_27 (dk_at dksX6_puts_0 8 rfl rfl)
theorem dX6_puts_9 : decode cX6_puts 9 = .ok (.i2b, 1) := dk_145 (dk_at dksX6_puts_0 9 rfl rfl)
theorem dX6_puts_10 : decode cX6_puts 10 = .ok (.bastore, 1) := dk_84 (dk_at dksX6_puts_0 10 rfl rfl)
theorem dX6_puts_11 : decode cX6_puts 11 = .ok (.aload_n 0, 1) := dk_42 (dk_at dksX6_puts_0 11 rfl rfl)
theorem dX6_puts_12 : decode cX6_puts 12 = .ok (.dup, 1) := dk_89 (dk_at dksX6_puts_0 12 rfl rfl)
theorem dX6_puts_13 : decode cX6_puts 13 = .ok (.getfield 393, 3) := dk_180 1 137 (dk_at dksX6_puts_0 13 rfl rfl)
theorem dX6_puts_16 : decode cX6_puts 16 = .ok (.iconst 1, 1) := dk_4 (dk_at dksX6_puts_0 16 rfl rfl)
theorem dX6_puts_17 : decode cX6_puts 17 = .ok (.iadd, 1) := dk_96 (dk_at dksX6_puts_0 17 rfl rfl)
theorem dX6_puts_18 : decode cX6_puts 18 = .ok (.putfield 393, 3) := dk_181 1 137 (dk_at dksX6_puts_0 18 rfl rfl)
theorem dX6_puts_21 : decode cX6_puts 21 = .ok (.return_, 1) := dk_177 (dk_at dksX6_puts_0 21 rfl rfl)
abbrev cX6_laysNumber : ByteArray := prog_25_method_89_code
def yX6_laysNumber : MethodName := ⟨RX6, "laysNumber", "(I)V"⟩
def dkwX6_laysNumber_1 : List UInt8 := [96, 182, 1, 142, 177]
abbrev dktX6_laysNumber_1 : List UInt8 := dkwX6_laysNumber_1 ++ []
def dkwX6_laysNumber_0 : List UInt8 := [27, 16, 9, 164, 0, 14, 42, 16, 48, 27, 16, 10, 108, 96, 182, 1, 142, 42, 16, 48, 27, 16, 10, 112]
abbrev dktX6_laysNumber_0 : List UInt8 := dkwX6_laysNumber_0 ++ dktX6_laysNumber_1
theorem dksX6_laysNumber_0 : cX6_laysNumber.data.toList.drop 0 = dktX6_laysNumber_0 := by decide +kernel
theorem dksX6_laysNumber_1 : cX6_laysNumber.data.toList.drop 24 = dktX6_laysNumber_1 := dk_seg dksX6_laysNumber_0 24 rfl rfl
theorem dX6_laysNumber_0 : decode cX6_laysNumber 0 = .ok (.iload_n 1, 1) := dk_27 (dk_at dksX6_laysNumber_0 0 rfl rfl)
theorem dX6_laysNumber_1 : decode cX6_laysNumber 1 = .ok (.bipush 9, 2) := dk_16 9 (dk_at dksX6_laysNumber_0 1 rfl rfl)
theorem dX6_laysNumber_3 : decode cX6_laysNumber 3 = .ok (.if_icmp .le 14, 3) := dk_164 0 14 (dk_at dksX6_laysNumber_0 3 rfl rfl)
theorem dX6_laysNumber_6 : decode cX6_laysNumber 6 = .ok (.aload_n 0, 1) := dk_42 (dk_at dksX6_laysNumber_0 6 rfl rfl)
theorem dX6_laysNumber_7 : decode cX6_laysNumber 7 = .ok (.bipush 48, 2) := dk_16 48 (dk_at dksX6_laysNumber_0 7 rfl rfl)
theorem dX6_laysNumber_9 : decode cX6_laysNumber 9 = .ok (.iload_n 1, 1) := dk_27 (dk_at dksX6_laysNumber_0 9 rfl rfl)
theorem dX6_laysNumber_10 : decode cX6_laysNumber 10 = .ok (.bipush 10, 2) := dk_16 10 (dk_at dksX6_laysNumber_0 10 rfl rfl)
theorem dX6_laysNumber_12 : decode cX6_laysNumber 12 = .ok (.idiv, 1) := dk_108 (dk_at dksX6_laysNumber_0 12 rfl rfl)
theorem dX6_laysNumber_13 : decode cX6_laysNumber 13 = .ok (.iadd, 1) := dk_96 (dk_at dksX6_laysNumber_0 13 rfl rfl)
theorem dX6_laysNumber_14 : decode cX6_laysNumber 14 = .ok (.invokevirtual 398, 3) := dk_182 1 142 (dk_at dksX6_laysNumber_0 14 rfl rfl)
theorem dX6_laysNumber_17 : decode cX6_laysNumber 17 = .ok (.aload_n 0, 1) := dk_42 (dk_at dksX6_laysNumber_0 17 rfl rfl)
theorem dX6_laysNumber_18 : decode cX6_laysNumber 18 = .ok (.bipush 48, 2) := dk_16 48 (dk_at dksX6_laysNumber_0 18 rfl rfl)
theorem dX6_laysNumber_20 : decode cX6_laysNumber 20 = .ok (.iload_n 1, 1) := dk_27 (dk_at dksX6_laysNumber_0 20 rfl rfl)
theorem dX6_laysNumber_21 : decode cX6_laysNumber 21 = .ok (.bipush 10, 2) := dk_16 10 (dk_at dksX6_laysNumber_0 21 rfl rfl)
theorem dX6_laysNumber_23 : decode cX6_laysNumber 23 = .ok (.irem, 1) := dk_112 (dk_at dksX6_laysNumber_0 23 rfl rfl)
theorem dX6_laysNumber_24 : decode cX6_laysNumber 24 = .ok (.iadd, 1) := dk_96 (dk_at dksX6_laysNumber_1 0 rfl rfl)
theorem dX6_laysNumber_25 : decode cX6_laysNumber 25 = .ok (.invokevirtual 398, 3) := dk_182 1 142 (dk_at dksX6_laysNumber_1 1 rfl rfl)
theorem dX6_laysNumber_28 : decode cX6_laysNumber 28 = .ok (.return_, 1) := dk_177 (dk_at dksX6_laysNumber_1 4 rfl rfl)
abbrev cX6_byteAt : ByteArray := prog_25_method_91_code
def yX6_byteAt : MethodName := ⟨RX6, "byteAt", "(I)I"⟩
def dkwX6_byteAt_1 : List UInt8 := [51, 167, 0, 4, 2, 172]
abbrev dktX6_byteAt_1 : List UInt8 := dkwX6_byteAt_1 ++ []
def dkwX6_byteAt_0 : List UInt8 := [42, 3, 181, 0, 1, 27, 3, 42, 180, 1, 137, 4, 100, 184, 0, 189, 153, 0, 12, 42, 180, 0, 83, 27]
abbrev dktX6_byteAt_0 : List UInt8 := dkwX6_byteAt_0 ++ dktX6_byteAt_1
theorem dksX6_byteAt_0 : cX6_byteAt.data.toList.drop 0 = dktX6_byteAt_0 := by decide +kernel
theorem dksX6_byteAt_1 : cX6_byteAt.data.toList.drop 24 = dktX6_byteAt_1 := dk_seg dksX6_byteAt_0 24 rfl rfl
theorem dX6_byteAt_0 : decode cX6_byteAt 0 = .ok (.aload_n 0, 1) := dk_42 (dk_at dksX6_byteAt_0 0 rfl rfl)
theorem dX6_byteAt_1 : decode cX6_byteAt 1 = .ok (.iconst 0, 1) := dk_3 (dk_at dksX6_byteAt_0 1 rfl rfl)
theorem dX6_byteAt_2 : decode cX6_byteAt 2 = .ok (.putfield 1, 3) := dk_181 0 1 (dk_at dksX6_byteAt_0 2 rfl rfl)
theorem dX6_byteAt_5 : decode cX6_byteAt 5 = .ok (.iload_n 1, 1) := dk_27 (dk_at dksX6_byteAt_0 5 rfl rfl)
theorem dX6_byteAt_6 : decode cX6_byteAt 6 = .ok (.iconst 0, 1) := dk_3 (dk_at dksX6_byteAt_0 6 rfl rfl)
theorem dX6_byteAt_7 : decode cX6_byteAt 7 = .ok (.aload_n 0, 1) := dk_42 (dk_at dksX6_byteAt_0 7 rfl rfl)
theorem dX6_byteAt_8 : decode cX6_byteAt 8 = .ok (.getfield 393, 3) := dk_180 1 137 (dk_at dksX6_byteAt_0 8 rfl rfl)
theorem dX6_byteAt_11 : decode cX6_byteAt 11 = .ok (.iconst 1, 1) := dk_4 (dk_at dksX6_byteAt_0 11 rfl rfl)
theorem dX6_byteAt_12 : decode cX6_byteAt 12 = .ok (.isub, 1) := dk_100 (dk_at dksX6_byteAt_0 12 rfl rfl)
theorem dX6_byteAt_13 : decode cX6_byteAt 13 = .ok (.invokestatic 189, 3) := dk_184 0 189 (dk_at dksX6_byteAt_0 13 rfl rfl)
theorem dX6_byteAt_16 : decode cX6_byteAt 16 = .ok (.ifCond .eq 12, 3) := dk_153 0 12 (dk_at dksX6_byteAt_0 16 rfl rfl)
theorem dX6_byteAt_19 : decode cX6_byteAt 19 = .ok (.aload_n 0, 1) := dk_42 (dk_at dksX6_byteAt_0 19 rfl rfl)
theorem dX6_byteAt_20 : decode cX6_byteAt 20 = .ok (.getfield 83, 3) := dk_180 0 83 (dk_at dksX6_byteAt_0 20 rfl rfl)
theorem dX6_byteAt_23 : decode cX6_byteAt 23 = .ok (.iload_n 1, 1) := dk_27 (dk_at dksX6_byteAt_0 23 rfl rfl)
theorem dX6_byteAt_24 : decode cX6_byteAt 24 = .ok (.baload, 1) := dk_51 (dk_at dksX6_byteAt_1 0 rfl rfl)
theorem dX6_byteAt_25 : decode cX6_byteAt 25 = .ok (.goto 4, 3) := dk_167 0 4 (dk_at dksX6_byteAt_1 1 rfl rfl)
theorem dX6_byteAt_28 : decode cX6_byteAt 28 = .ok (.iconst (-1), 1) := dk_2 (dk_at dksX6_byteAt_1 4 rfl rfl)
theorem dX6_byteAt_29 : decode cX6_byteAt 29 = .ok (.ireturn, 1) := dk_172 (dk_at dksX6_byteAt_1 5 rfl rfl)
abbrev cX6_drawn : ByteArray := prog_25_method_94_code
def yX6_drawn : MethodName := ⟨RX6, "drawn", "(II)I"⟩
def dkwX6_drawn_3 : List UInt8 := [167, 255, 232, 29, 158, 0, 11, 42, 42, 180, 0, 71, 182, 1, 112, 29, 172]
abbrev dktX6_drawn_3 : List UInt8 := dkwX6_drawn_3 ++ []
def dkwX6_drawn_2 : List UInt8 := [21, 4, 27, 162, 0, 24, 29, 42, 182, 1, 163, 153, 0, 7, 4, 167, 0, 4, 3, 96, 62, 132, 4, 1]
abbrev dktX6_drawn_2 : List UInt8 := dkwX6_drawn_2 ++ dktX6_drawn_3
def dkwX6_drawn_1 : List UInt8 := [154, 0, 5, 3, 172, 42, 42, 180, 0, 71, 182, 1, 108, 42, 28, 181, 1, 156, 3, 62, 3, 54, 4]
abbrev dktX6_drawn_1 : List UInt8 := dkwX6_drawn_1 ++ dktX6_drawn_2
def dkwX6_drawn_0 : List UInt8 := [42, 3, 181, 0, 1, 27, 4, 16, 60, 184, 0, 189, 154, 0, 5, 2, 172, 42, 180, 0, 33, 5, 46]
abbrev dktX6_drawn_0 : List UInt8 := dkwX6_drawn_0 ++ dktX6_drawn_1
theorem dksX6_drawn_0 : cX6_drawn.data.toList.drop 0 = dktX6_drawn_0 := by decide +kernel
theorem dksX6_drawn_1 : cX6_drawn.data.toList.drop 23 = dktX6_drawn_1 := dk_seg dksX6_drawn_0 23 rfl rfl
theorem dksX6_drawn_2 : cX6_drawn.data.toList.drop 46 = dktX6_drawn_2 := dk_seg dksX6_drawn_1 23 rfl rfl
theorem dksX6_drawn_3 : cX6_drawn.data.toList.drop 70 = dktX6_drawn_3 := dk_seg dksX6_drawn_2 24 rfl rfl
theorem dX6_drawn_0 : decode cX6_drawn 0 = .ok (.aload_n 0, 1) := dk_42 (dk_at dksX6_drawn_0 0 rfl rfl)
theorem dX6_drawn_1 : decode cX6_drawn 1 = .ok (.iconst 0, 1) := dk_3 (dk_at dksX6_drawn_0 1 rfl rfl)
theorem dX6_drawn_2 : decode cX6_drawn 2 = .ok (.putfield 1, 3) := dk_181 0 1 (dk_at dksX6_drawn_0 2 rfl rfl)
theorem dX6_drawn_5 : decode cX6_drawn 5 = .ok (.iload_n 1, 1) := dk_27 (dk_at dksX6_drawn_0 5 rfl rfl)
theorem dX6_drawn_6 : decode cX6_drawn 6 = .ok (.iconst 1, 1) := dk_4 (dk_at dksX6_drawn_0 6 rfl rfl)
theorem dX6_drawn_7 : decode cX6_drawn 7 = .ok (.bipush 60, 2) := dk_16 60 (dk_at dksX6_drawn_0 7 rfl rfl)
theorem dX6_drawn_9 : decode cX6_drawn 9 = .ok (.invokestatic 189, 3) := dk_184 0 189 (dk_at dksX6_drawn_0 9 rfl rfl)
theorem dX6_drawn_12 : decode cX6_drawn 12 = .ok (.ifCond .ne 5, 3) := dk_154 0 5 (dk_at dksX6_drawn_0 12 rfl rfl)
theorem dX6_drawn_15 : decode cX6_drawn 15 = .ok (.iconst (-1), 1) := dk_2 (dk_at dksX6_drawn_0 15 rfl rfl)
theorem dX6_drawn_16 : decode cX6_drawn 16 = .ok (.ireturn, 1) := dk_172 (dk_at dksX6_drawn_0 16 rfl rfl)
theorem dX6_drawn_17 : decode cX6_drawn 17 = .ok (.aload_n 0, 1) := dk_42 (dk_at dksX6_drawn_0 17 rfl rfl)
theorem dX6_drawn_18 : decode cX6_drawn 18 = .ok (.getfield 33, 3) := dk_180 0 33 (dk_at dksX6_drawn_0 18 rfl rfl)
theorem dX6_drawn_21 : decode cX6_drawn 21 = .ok (.iconst 2, 1) := dk_5 (dk_at dksX6_drawn_0 21 rfl rfl)
theorem dX6_drawn_22 : decode cX6_drawn 22 = .ok (.iaload, 1) := dk_46 (dk_at dksX6_drawn_0 22 rfl rfl)
theorem dX6_drawn_23 : decode cX6_drawn 23 = .ok (.ifCond .ne 5, 3) := dk_154 0 5 (dk_at dksX6_drawn_1 0 rfl rfl)
theorem dX6_drawn_26 : decode cX6_drawn 26 = .ok (.iconst 0, 1) := dk_3 (dk_at dksX6_drawn_1 3 rfl rfl)
theorem dX6_drawn_27 : decode cX6_drawn 27 = .ok (.ireturn, 1) := dk_172 (dk_at dksX6_drawn_1 4 rfl rfl)
theorem dX6_drawn_28 : decode cX6_drawn 28 = .ok (.aload_n 0, 1) := dk_42 (dk_at dksX6_drawn_1 5 rfl rfl)
theorem dX6_drawn_29 : decode cX6_drawn 29 = .ok (.aload_n 0, 1) := dk_42 (dk_at dksX6_drawn_1 6 rfl rfl)
theorem dX6_drawn_30 : decode cX6_drawn 30 = .ok (.getfield 71, 3) := dk_180 0 71 (dk_at dksX6_drawn_1 7 rfl rfl)
theorem dX6_drawn_33 : decode cX6_drawn 33 = .ok (.invokevirtual 364, 3) := dk_182 1 108 (dk_at dksX6_drawn_1 10 rfl rfl)
theorem dX6_drawn_36 : decode cX6_drawn 36 = .ok (.aload_n 0, 1) := dk_42 (dk_at dksX6_drawn_1 13 rfl rfl)
theorem dX6_drawn_37 : decode cX6_drawn 37 = .ok (.iload_n 2, 1) := dk_28 (dk_at dksX6_drawn_1 14 rfl rfl)
theorem dX6_drawn_38 : decode cX6_drawn 38 = .ok (.putfield 412, 3) := dk_181 1 156 (dk_at dksX6_drawn_1 15 rfl rfl)
theorem dX6_drawn_41 : decode cX6_drawn 41 = .ok (.iconst 0, 1) := dk_3 (dk_at dksX6_drawn_1 18 rfl rfl)
theorem dX6_drawn_42 : decode cX6_drawn 42 = .ok (.istore_n 3, 1) := dk_62 (dk_at dksX6_drawn_1 19 rfl rfl)
theorem dX6_drawn_43 : decode cX6_drawn 43 = .ok (.iconst 0, 1) := dk_3 (dk_at dksX6_drawn_1 20 rfl rfl)
theorem dX6_drawn_44 : decode cX6_drawn 44 = .ok (.istore 4, 2) := dk_54 4 (dk_at dksX6_drawn_1 21 rfl rfl)
theorem dX6_drawn_46 : decode cX6_drawn 46 = .ok (.iload 4, 2) := dk_21 4 (dk_at dksX6_drawn_2 0 rfl rfl)
theorem dX6_drawn_48 : decode cX6_drawn 48 = .ok (.iload_n 1, 1) := dk_27 (dk_at dksX6_drawn_2 2 rfl rfl)
theorem dX6_drawn_49 : decode cX6_drawn 49 = .ok (.if_icmp .ge 24, 3) := dk_162 0 24 (dk_at dksX6_drawn_2 3 rfl rfl)
theorem dX6_drawn_52 : decode cX6_drawn 52 = .ok (.iload_n 3, 1) := dk_29 (dk_at dksX6_drawn_2 6 rfl rfl)
theorem dX6_drawn_53 : decode cX6_drawn 53 = .ok (.aload_n 0, 1) := dk_42 (dk_at dksX6_drawn_2 7 rfl rfl)
theorem dX6_drawn_54 : decode cX6_drawn 54 = .ok (.invokevirtual 419, 3) := dk_182 1 163 (dk_at dksX6_drawn_2 8 rfl rfl)
theorem dX6_drawn_57 : decode cX6_drawn 57 = .ok (.ifCond .eq 7, 3) := dk_153 0 7 (dk_at dksX6_drawn_2 11 rfl rfl)
theorem dX6_drawn_60 : decode cX6_drawn 60 = .ok (.iconst 1, 1) := dk_4 (dk_at dksX6_drawn_2 14 rfl rfl)
theorem dX6_drawn_61 : decode cX6_drawn 61 = .ok (.goto 4, 3) := dk_167 0 4 (dk_at dksX6_drawn_2 15 rfl rfl)
theorem dX6_drawn_64 : decode cX6_drawn 64 = .ok (.iconst 0, 1) := dk_3 (dk_at dksX6_drawn_2 18 rfl rfl)
theorem dX6_drawn_65 : decode cX6_drawn 65 = .ok (.iadd, 1) := dk_96 (dk_at dksX6_drawn_2 19 rfl rfl)
theorem dX6_drawn_66 : decode cX6_drawn 66 = .ok (.istore_n 3, 1) := dk_62 (dk_at dksX6_drawn_2 20 rfl rfl)
theorem dX6_drawn_67 : decode cX6_drawn 67 = .ok (.iinc 4 1, 3) := dk_132 4 1 (dk_at dksX6_drawn_2 21 rfl rfl)
theorem dX6_drawn_70 : decode cX6_drawn 70 = .ok (.goto (-24), 3) := dk_167 255 232 (dk_at dksX6_drawn_3 0 rfl rfl)
theorem dX6_drawn_73 : decode cX6_drawn 73 = .ok (.iload_n 3, 1) := dk_29 (dk_at dksX6_drawn_3 3 rfl rfl)
theorem dX6_drawn_74 : decode cX6_drawn 74 = .ok (.ifCond .le 11, 3) := dk_158 0 11 (dk_at dksX6_drawn_3 4 rfl rfl)
theorem dX6_drawn_77 : decode cX6_drawn 77 = .ok (.aload_n 0, 1) := dk_42 (dk_at dksX6_drawn_3 7 rfl rfl)
theorem dX6_drawn_78 : decode cX6_drawn 78 = .ok (.aload_n 0, 1) := dk_42 (dk_at dksX6_drawn_3 8 rfl rfl)
theorem dX6_drawn_79 : decode cX6_drawn 79 = .ok (.getfield 71, 3) := dk_180 0 71 (dk_at dksX6_drawn_3 9 rfl rfl)
theorem dX6_drawn_82 : decode cX6_drawn 82 = .ok (.invokevirtual 368, 3) := dk_182 1 112 (dk_at dksX6_drawn_3 12 rfl rfl)
theorem dX6_drawn_85 : decode cX6_drawn 85 = .ok (.iload_n 3, 1) := dk_29 (dk_at dksX6_drawn_3 15 rfl rfl)
theorem dX6_drawn_86 : decode cX6_drawn 86 = .ok (.ireturn, 1) := dk_172 (dk_at dksX6_drawn_3 16 rfl rfl)
abbrev cX6_drawDeed : ByteArray := prog_25_method_93_code
def yX6_drawDeed : MethodName := ⟨RX6, "drawDeed", "()Z"⟩
def dkwX6_drawDeed_5 : List UInt8 := [42, 29, 28, 21, 4, 182, 1, 97, 4, 172]
abbrev dktX6_drawDeed_5 : List UInt8 := dkwX6_drawDeed_5 ++ []
def dkwX6_drawDeed_4 : List UInt8 := [42, 180, 0, 33, 5, 46, 182, 1, 160, 54, 4, 42, 29, 28, 21, 4, 182, 1, 91, 158, 0, 5, 3, 172]
abbrev dktX6_drawDeed_4 : List UInt8 := dkwX6_drawDeed_4 ++ dktX6_drawDeed_5
def dkwX6_drawDeed_3 : List UInt8 := [180, 0, 33, 17, 0, 216, 29, 96, 46, 28, 160, 0, 5, 3, 172, 42, 29, 28, 182, 1, 101, 4, 172, 42]
abbrev dktX6_drawDeed_3 : List UInt8 := dkwX6_drawDeed_3 ++ dktX6_drawDeed_4
def dkwX6_drawDeed_2 : List UInt8 := [46, 154, 0, 5, 3, 172, 42, 42, 180, 0, 33, 4, 46, 182, 1, 160, 62, 27, 6, 162, 0, 27, 42]
abbrev dktX6_drawDeed_2 : List UInt8 := dkwX6_drawDeed_2 ++ dktX6_drawDeed_3
def dkwX6_drawDeed_1 : List UInt8 := [180, 0, 33, 5, 46, 16, 20, 160, 0, 5, 3, 172, 42, 28, 182, 1, 105, 4, 172, 42, 180, 0, 33, 4]
abbrev dktX6_drawDeed_1 : List UInt8 := dkwX6_drawDeed_1 ++ dktX6_drawDeed_2
def dkwX6_drawDeed_0 : List UInt8 := [42, 16, 8, 182, 1, 160, 60, 42, 42, 180, 0, 33, 5, 46, 182, 1, 160, 61, 27, 154, 0, 23, 42]
abbrev dktX6_drawDeed_0 : List UInt8 := dkwX6_drawDeed_0 ++ dktX6_drawDeed_1
theorem dksX6_drawDeed_0 : cX6_drawDeed.data.toList.drop 0 = dktX6_drawDeed_0 := by decide +kernel
theorem dksX6_drawDeed_1 : cX6_drawDeed.data.toList.drop 23 = dktX6_drawDeed_1 := dk_seg dksX6_drawDeed_0 23 rfl rfl
theorem dksX6_drawDeed_2 : cX6_drawDeed.data.toList.drop 47 = dktX6_drawDeed_2 := dk_seg dksX6_drawDeed_1 24 rfl rfl
theorem dksX6_drawDeed_3 : cX6_drawDeed.data.toList.drop 70 = dktX6_drawDeed_3 := dk_seg dksX6_drawDeed_2 23 rfl rfl
theorem dksX6_drawDeed_4 : cX6_drawDeed.data.toList.drop 94 = dktX6_drawDeed_4 := dk_seg dksX6_drawDeed_3 24 rfl rfl
theorem dksX6_drawDeed_5 : cX6_drawDeed.data.toList.drop 118 = dktX6_drawDeed_5 := dk_seg dksX6_drawDeed_4 24 rfl rfl
theorem dX6_drawDeed_0 : decode cX6_drawDeed 0 = .ok (.aload_n 0, 1) := dk_42 (dk_at dksX6_drawDeed_0 0 rfl rfl)
theorem dX6_drawDeed_1 : decode cX6_drawDeed 1 = .ok (.bipush 8, 2) := dk_16 8 (dk_at dksX6_drawDeed_0 1 rfl rfl)
theorem dX6_drawDeed_3 : decode cX6_drawDeed 3 = .ok (.invokevirtual 416, 3) := dk_182 1 160 (dk_at dksX6_drawDeed_0 3 rfl rfl)
theorem dX6_drawDeed_6 : decode cX6_drawDeed 6 = .ok (.istore_n 1, 1) := dk_60 (dk_at dksX6_drawDeed_0 6 rfl rfl)
theorem dX6_drawDeed_7 : decode cX6_drawDeed 7 = .ok (.aload_n 0, 1) := dk_42 (dk_at dksX6_drawDeed_0 7 rfl rfl)
theorem dX6_drawDeed_8 : decode cX6_drawDeed 8 = .ok (.aload_n 0, 1) := dk_42 (dk_at dksX6_drawDeed_0 8 rfl rfl)
theorem dX6_drawDeed_9 : decode cX6_drawDeed 9 = .ok (.getfield 33, 3) := dk_180 0 33 (dk_at dksX6_drawDeed_0 9 rfl rfl)
theorem dX6_drawDeed_12 : decode cX6_drawDeed 12 = .ok (.iconst 2, 1) := dk_5 (dk_at dksX6_drawDeed_0 12 rfl rfl)
theorem dX6_drawDeed_13 : decode cX6_drawDeed 13 = .ok (.iaload, 1) := dk_46 (dk_at dksX6_drawDeed_0 13 rfl rfl)
theorem dX6_drawDeed_14 : decode cX6_drawDeed 14 = .ok (.invokevirtual 416, 3) := dk_182 1 160 (dk_at dksX6_drawDeed_0 14 rfl rfl)
theorem dX6_drawDeed_17 : decode cX6_drawDeed 17 = .ok (.istore_n 2, 1) := dk_61 (dk_at dksX6_drawDeed_0 17 rfl rfl)
theorem dX6_drawDeed_18 : decode cX6_drawDeed 18 = .ok (.iload_n 1, 1) := dk_27 (dk_at dksX6_drawDeed_0 18 rfl rfl)
theorem dX6_drawDeed_19 : decode cX6_drawDeed 19 = .ok (.ifCond .ne 23, 3) := dk_154 0 23 (dk_at dksX6_drawDeed_0 19 rfl rfl)
theorem dX6_drawDeed_22 : decode cX6_drawDeed 22 = .ok (.aload_n 0, 1) := dk_42 (dk_at dksX6_drawDeed_0 22 rfl rfl)
theorem dX6_drawDeed_23 : decode cX6_drawDeed 23 = .ok (.getfield 33, 3) := dk_180 0 33 (dk_at dksX6_drawDeed_1 0 rfl rfl)
theorem dX6_drawDeed_26 : decode cX6_drawDeed 26 = .ok (.iconst 2, 1) := dk_5 (dk_at dksX6_drawDeed_1 3 rfl rfl)
theorem dX6_drawDeed_27 : decode cX6_drawDeed 27 = .ok (.iaload, 1) := dk_46 (dk_at dksX6_drawDeed_1 4 rfl rfl)
theorem dX6_drawDeed_28 : decode cX6_drawDeed 28 = .ok (.bipush 20, 2) := dk_16 20 (dk_at dksX6_drawDeed_1 5 rfl rfl)
theorem dX6_drawDeed_30 : decode cX6_drawDeed 30 = .ok (.if_icmp .ne 5, 3) := dk_160 0 5 (dk_at dksX6_drawDeed_1 7 rfl rfl)
theorem dX6_drawDeed_33 : decode cX6_drawDeed 33 = .ok (.iconst 0, 1) := dk_3 (dk_at dksX6_drawDeed_1 10 rfl rfl)
theorem dX6_drawDeed_34 : decode cX6_drawDeed 34 = .ok (.ireturn, 1) := dk_172 (dk_at dksX6_drawDeed_1 11 rfl rfl)
theorem dX6_drawDeed_35 : decode cX6_drawDeed 35 = .ok (.aload_n 0, 1) := dk_42 (dk_at dksX6_drawDeed_1 12 rfl rfl)
theorem dX6_drawDeed_36 : decode cX6_drawDeed 36 = .ok (.iload_n 2, 1) := dk_28 (dk_at dksX6_drawDeed_1 13 rfl rfl)
theorem dX6_drawDeed_37 : decode cX6_drawDeed 37 = .ok (.invokevirtual 361, 3) := dk_182 1 105 (dk_at dksX6_drawDeed_1 14 rfl rfl)
theorem dX6_drawDeed_40 : decode cX6_drawDeed 40 = .ok (.iconst 1, 1) := dk_4 (dk_at dksX6_drawDeed_1 17 rfl rfl)
theorem dX6_drawDeed_41 : decode cX6_drawDeed 41 = .ok (.ireturn, 1) := dk_172 (dk_at dksX6_drawDeed_1 18 rfl rfl)
theorem dX6_drawDeed_42 : decode cX6_drawDeed 42 = .ok (.aload_n 0, 1) := dk_42 (dk_at dksX6_drawDeed_1 19 rfl rfl)
theorem dX6_drawDeed_43 : decode cX6_drawDeed 43 = .ok (.getfield 33, 3) := dk_180 0 33 (dk_at dksX6_drawDeed_1 20 rfl rfl)
theorem dX6_drawDeed_46 : decode cX6_drawDeed 46 = .ok (.iconst 1, 1) := dk_4 (dk_at dksX6_drawDeed_1 23 rfl rfl)
theorem dX6_drawDeed_47 : decode cX6_drawDeed 47 = .ok (.iaload, 1) := dk_46 (dk_at dksX6_drawDeed_2 0 rfl rfl)
theorem dX6_drawDeed_48 : decode cX6_drawDeed 48 = .ok (.ifCond .ne 5, 3) := dk_154 0 5 (dk_at dksX6_drawDeed_2 1 rfl rfl)
theorem dX6_drawDeed_51 : decode cX6_drawDeed 51 = .ok (.iconst 0, 1) := dk_3 (dk_at dksX6_drawDeed_2 4 rfl rfl)
theorem dX6_drawDeed_52 : decode cX6_drawDeed 52 = .ok (.ireturn, 1) := dk_172 (dk_at dksX6_drawDeed_2 5 rfl rfl)
theorem dX6_drawDeed_53 : decode cX6_drawDeed 53 = .ok (.aload_n 0, 1) := dk_42 (dk_at dksX6_drawDeed_2 6 rfl rfl)
theorem dX6_drawDeed_54 : decode cX6_drawDeed 54 = .ok (.aload_n 0, 1) := dk_42 (dk_at dksX6_drawDeed_2 7 rfl rfl)
theorem dX6_drawDeed_55 : decode cX6_drawDeed 55 = .ok (.getfield 33, 3) := dk_180 0 33 (dk_at dksX6_drawDeed_2 8 rfl rfl)
theorem dX6_drawDeed_58 : decode cX6_drawDeed 58 = .ok (.iconst 1, 1) := dk_4 (dk_at dksX6_drawDeed_2 11 rfl rfl)
theorem dX6_drawDeed_59 : decode cX6_drawDeed 59 = .ok (.iaload, 1) := dk_46 (dk_at dksX6_drawDeed_2 12 rfl rfl)
theorem dX6_drawDeed_60 : decode cX6_drawDeed 60 = .ok (.invokevirtual 416, 3) := dk_182 1 160 (dk_at dksX6_drawDeed_2 13 rfl rfl)
theorem dX6_drawDeed_63 : decode cX6_drawDeed 63 = .ok (.istore_n 3, 1) := dk_62 (dk_at dksX6_drawDeed_2 16 rfl rfl)
theorem dX6_drawDeed_64 : decode cX6_drawDeed 64 = .ok (.iload_n 1, 1) := dk_27 (dk_at dksX6_drawDeed_2 17 rfl rfl)
theorem dX6_drawDeed_65 : decode cX6_drawDeed 65 = .ok (.iconst 3, 1) := dk_6 (dk_at dksX6_drawDeed_2 18 rfl rfl)
theorem dX6_drawDeed_66 : decode cX6_drawDeed 66 = .ok (.if_icmp .ge 27, 3) := dk_162 0 27 (dk_at dksX6_drawDeed_2 19 rfl rfl)
theorem dX6_drawDeed_69 : decode cX6_drawDeed 69 = .ok (.aload_n 0, 1) := dk_42 (dk_at dksX6_drawDeed_2 22 rfl rfl)
theorem dX6_drawDeed_70 : decode cX6_drawDeed 70 = .ok (.getfield 33, 3) := dk_180 0 33 (dk_at dksX6_drawDeed_3 0 rfl rfl)
theorem dX6_drawDeed_73 : decode cX6_drawDeed 73 = .ok (.sipush 216, 3) := dk_17 0 216 (dk_at dksX6_drawDeed_3 3 rfl rfl)
theorem dX6_drawDeed_76 : decode cX6_drawDeed 76 = .ok (.iload_n 3, 1) := dk_29 (dk_at dksX6_drawDeed_3 6 rfl rfl)
theorem dX6_drawDeed_77 : decode cX6_drawDeed 77 = .ok (.iadd, 1) := dk_96 (dk_at dksX6_drawDeed_3 7 rfl rfl)
theorem dX6_drawDeed_78 : decode cX6_drawDeed 78 = .ok (.iaload, 1) := dk_46 (dk_at dksX6_drawDeed_3 8 rfl rfl)
theorem dX6_drawDeed_79 : decode cX6_drawDeed 79 = .ok (.iload_n 2, 1) := dk_28 (dk_at dksX6_drawDeed_3 9 rfl rfl)
theorem dX6_drawDeed_80 : decode cX6_drawDeed 80 = .ok (.if_icmp .ne 5, 3) := dk_160 0 5 (dk_at dksX6_drawDeed_3 10 rfl rfl)
theorem dX6_drawDeed_83 : decode cX6_drawDeed 83 = .ok (.iconst 0, 1) := dk_3 (dk_at dksX6_drawDeed_3 13 rfl rfl)
theorem dX6_drawDeed_84 : decode cX6_drawDeed 84 = .ok (.ireturn, 1) := dk_172 (dk_at dksX6_drawDeed_3 14 rfl rfl)
theorem dX6_drawDeed_85 : decode cX6_drawDeed 85 = .ok (.aload_n 0, 1) := dk_42 (dk_at dksX6_drawDeed_3 15 rfl rfl)
theorem dX6_drawDeed_86 : decode cX6_drawDeed 86 = .ok (.iload_n 3, 1) := dk_29 (dk_at dksX6_drawDeed_3 16 rfl rfl)
theorem dX6_drawDeed_87 : decode cX6_drawDeed 87 = .ok (.iload_n 2, 1) := dk_28 (dk_at dksX6_drawDeed_3 17 rfl rfl)
theorem dX6_drawDeed_88 : decode cX6_drawDeed 88 = .ok (.invokevirtual 357, 3) := dk_182 1 101 (dk_at dksX6_drawDeed_3 18 rfl rfl)
theorem dX6_drawDeed_91 : decode cX6_drawDeed 91 = .ok (.iconst 1, 1) := dk_4 (dk_at dksX6_drawDeed_3 21 rfl rfl)
theorem dX6_drawDeed_92 : decode cX6_drawDeed 92 = .ok (.ireturn, 1) := dk_172 (dk_at dksX6_drawDeed_3 22 rfl rfl)
theorem dX6_drawDeed_93 : decode cX6_drawDeed 93 = .ok (.aload_n 0, 1) := dk_42 (dk_at dksX6_drawDeed_3 23 rfl rfl)
theorem dX6_drawDeed_94 : decode cX6_drawDeed 94 = .ok (.aload_n 0, 1) := dk_42 (dk_at dksX6_drawDeed_4 0 rfl rfl)
theorem dX6_drawDeed_95 : decode cX6_drawDeed 95 = .ok (.getfield 33, 3) := dk_180 0 33 (dk_at dksX6_drawDeed_4 1 rfl rfl)
theorem dX6_drawDeed_98 : decode cX6_drawDeed 98 = .ok (.iconst 2, 1) := dk_5 (dk_at dksX6_drawDeed_4 4 rfl rfl)
theorem dX6_drawDeed_99 : decode cX6_drawDeed 99 = .ok (.iaload, 1) := dk_46 (dk_at dksX6_drawDeed_4 5 rfl rfl)
theorem dX6_drawDeed_100 : decode cX6_drawDeed 100 = .ok (.invokevirtual 416, 3) := dk_182 1 160 (dk_at dksX6_drawDeed_4 6 rfl rfl)
theorem dX6_drawDeed_103 : decode cX6_drawDeed 103 = .ok (.istore 4, 2) := dk_54 4 (dk_at dksX6_drawDeed_4 9 rfl rfl)
theorem dX6_drawDeed_105 : decode cX6_drawDeed 105 = .ok (.aload_n 0, 1) := dk_42 (dk_at dksX6_drawDeed_4 11 rfl rfl)
theorem dX6_drawDeed_106 : decode cX6_drawDeed 106 = .ok (.iload_n 3, 1) := dk_29 (dk_at dksX6_drawDeed_4 12 rfl rfl)
theorem dX6_drawDeed_107 : decode cX6_drawDeed 107 = .ok (.iload_n 2, 1) := dk_28 (dk_at dksX6_drawDeed_4 13 rfl rfl)
theorem dX6_drawDeed_108 : decode cX6_drawDeed 108 = .ok (.iload 4, 2) := dk_21 4 (dk_at dksX6_drawDeed_4 14 rfl rfl)
theorem dX6_drawDeed_110 : decode cX6_drawDeed 110 = .ok (.invokevirtual 347, 3) := dk_182 1 91 (dk_at dksX6_drawDeed_4 16 rfl rfl)
theorem dX6_drawDeed_113 : decode cX6_drawDeed 113 = .ok (.ifCond .le 5, 3) := dk_158 0 5 (dk_at dksX6_drawDeed_4 19 rfl rfl)
theorem dX6_drawDeed_116 : decode cX6_drawDeed 116 = .ok (.iconst 0, 1) := dk_3 (dk_at dksX6_drawDeed_4 22 rfl rfl)
theorem dX6_drawDeed_117 : decode cX6_drawDeed 117 = .ok (.ireturn, 1) := dk_172 (dk_at dksX6_drawDeed_4 23 rfl rfl)
theorem dX6_drawDeed_118 : decode cX6_drawDeed 118 = .ok (.aload_n 0, 1) := dk_42 (dk_at dksX6_drawDeed_5 0 rfl rfl)
theorem dX6_drawDeed_119 : decode cX6_drawDeed 119 = .ok (.iload_n 3, 1) := dk_29 (dk_at dksX6_drawDeed_5 1 rfl rfl)
theorem dX6_drawDeed_120 : decode cX6_drawDeed 120 = .ok (.iload_n 2, 1) := dk_28 (dk_at dksX6_drawDeed_5 2 rfl rfl)
theorem dX6_drawDeed_121 : decode cX6_drawDeed 121 = .ok (.iload 4, 2) := dk_21 4 (dk_at dksX6_drawDeed_5 3 rfl rfl)
theorem dX6_drawDeed_123 : decode cX6_drawDeed 123 = .ok (.invokevirtual 353, 3) := dk_182 1 97 (dk_at dksX6_drawDeed_5 5 rfl rfl)
theorem dX6_drawDeed_126 : decode cX6_drawDeed 126 = .ok (.iconst 1, 1) := dk_4 (dk_at dksX6_drawDeed_5 8 rfl rfl)
theorem dX6_drawDeed_127 : decode cX6_drawDeed 127 = .ok (.ireturn, 1) := dk_172 (dk_at dksX6_drawDeed_5 9 rfl rfl)
abbrev cX6_draw : ByteArray := prog_25_method_92_code
def yX6_draw : MethodName := ⟨RX6, "draw", "(I)I"⟩
def dkwX6_draw_1 : List UInt8 := [112, 172]
abbrev dktX6_draw_1 : List UInt8 := dkwX6_draw_1 ++ []
def dkwX6_draw_0 : List UInt8 := [42, 42, 180, 1, 156, 19, 1, 159, 104, 17, 48, 57, 96, 181, 1, 156, 42, 180, 1, 156, 16, 8, 124, 27]
abbrev dktX6_draw_0 : List UInt8 := dkwX6_draw_0 ++ dktX6_draw_1
theorem dksX6_draw_0 : cX6_draw.data.toList.drop 0 = dktX6_draw_0 := by decide +kernel
theorem dksX6_draw_1 : cX6_draw.data.toList.drop 24 = dktX6_draw_1 := dk_seg dksX6_draw_0 24 rfl rfl
theorem dX6_draw_0 : decode cX6_draw 0 = .ok (.aload_n 0, 1) := dk_42 (dk_at dksX6_draw_0 0 rfl rfl)
theorem dX6_draw_1 : decode cX6_draw 1 = .ok (.aload_n 0, 1) := dk_42 (dk_at dksX6_draw_0 1 rfl rfl)
theorem dX6_draw_2 : decode cX6_draw 2 = .ok (.getfield 412, 3) := dk_180 1 156 (dk_at dksX6_draw_0 2 rfl rfl)
theorem dX6_draw_5 : decode cX6_draw 5 = .ok (.ldc_w 415, 3) := dk_19 1 159 (dk_at dksX6_draw_0 5 rfl rfl)
theorem dX6_draw_8 : decode cX6_draw 8 = .ok (.imul, 1) := dk_104 (dk_at dksX6_draw_0 8 rfl rfl)
theorem dX6_draw_9 : decode cX6_draw 9 = .ok (.sipush 12345, 3) := dk_17 48 57 (dk_at dksX6_draw_0 9 rfl rfl)
theorem dX6_draw_12 : decode cX6_draw 12 = .ok (.iadd, 1) := dk_96 (dk_at dksX6_draw_0 12 rfl rfl)
theorem dX6_draw_13 : decode cX6_draw 13 = .ok (.putfield 412, 3) := dk_181 1 156 (dk_at dksX6_draw_0 13 rfl rfl)
theorem dX6_draw_16 : decode cX6_draw 16 = .ok (.aload_n 0, 1) := dk_42 (dk_at dksX6_draw_0 16 rfl rfl)
theorem dX6_draw_17 : decode cX6_draw 17 = .ok (.getfield 412, 3) := dk_180 1 156 (dk_at dksX6_draw_0 17 rfl rfl)
theorem dX6_draw_20 : decode cX6_draw 20 = .ok (.bipush 8, 2) := dk_16 8 (dk_at dksX6_draw_0 20 rfl rfl)
theorem dX6_draw_22 : decode cX6_draw 22 = .ok (.iushr, 1) := dk_124 (dk_at dksX6_draw_0 22 rfl rfl)
theorem dX6_draw_23 : decode cX6_draw 23 = .ok (.iload_n 1, 1) := dk_27 (dk_at dksX6_draw_0 23 rfl rfl)
theorem dX6_draw_24 : decode cX6_draw 24 = .ok (.irem, 1) := dk_112 (dk_at dksX6_draw_1 0 rfl rfl)
theorem dX6_draw_25 : decode cX6_draw 25 = .ok (.ireturn, 1) := dk_172 (dk_at dksX6_draw_1 1 rfl rfl)
abbrev cX6_odds : ByteArray := prog_25_method_96_code
def yX6_odds : MethodName := ⟨RX6, "odds", "(III)I"⟩
def dkwX6_odds_4 : List UInt8 := [180, 0, 74, 3, 182, 1, 115, 132, 5, 1, 167, 255, 191, 21, 4, 172]
abbrev dktX6_odds_4 : List UInt8 := dkwX6_odds_4 ++ []
def dkwX6_odds_3 : List UInt8 := [167, 255, 241, 21, 4, 42, 27, 182, 1, 166, 153, 0, 7, 4, 167, 0, 4, 3, 96, 54, 4, 42, 42]
abbrev dktX6_odds_3 : List UInt8 := dkwX6_odds_3 ++ dktX6_odds_4
def dkwX6_odds_2 : List UInt8 := [21, 5, 96, 181, 1, 156, 3, 54, 6, 21, 6, 16, 12, 162, 0, 14, 42, 182, 1, 163, 87, 132, 6, 1]
abbrev dktX6_odds_2 : List UInt8 := dkwX6_odds_2 ++ dktX6_odds_3
def dkwX6_odds_1 : List UInt8 := [172, 42, 42, 180, 0, 74, 182, 1, 108, 3, 54, 4, 3, 54, 5, 21, 5, 28, 162, 0, 65, 42, 29]
abbrev dktX6_odds_1 : List UInt8 := dkwX6_odds_1 ++ dktX6_odds_2
def dkwX6_odds_0 : List UInt8 := [42, 3, 181, 0, 1, 42, 27, 182, 1, 59, 153, 0, 13, 28, 4, 16, 20, 184, 0, 189, 154, 0, 5, 2]
abbrev dktX6_odds_0 : List UInt8 := dkwX6_odds_0 ++ dktX6_odds_1
theorem dksX6_odds_0 : cX6_odds.data.toList.drop 0 = dktX6_odds_0 := by decide +kernel
theorem dksX6_odds_1 : cX6_odds.data.toList.drop 24 = dktX6_odds_1 := dk_seg dksX6_odds_0 24 rfl rfl
theorem dksX6_odds_2 : cX6_odds.data.toList.drop 47 = dktX6_odds_2 := dk_seg dksX6_odds_1 23 rfl rfl
theorem dksX6_odds_3 : cX6_odds.data.toList.drop 71 = dktX6_odds_3 := dk_seg dksX6_odds_2 24 rfl rfl
theorem dksX6_odds_4 : cX6_odds.data.toList.drop 94 = dktX6_odds_4 := dk_seg dksX6_odds_3 23 rfl rfl
theorem dX6_odds_0 : decode cX6_odds 0 = .ok (.aload_n 0, 1) := dk_42 (dk_at dksX6_odds_0 0 rfl rfl)
theorem dX6_odds_1 : decode cX6_odds 1 = .ok (.iconst 0, 1) := dk_3 (dk_at dksX6_odds_0 1 rfl rfl)
theorem dX6_odds_2 : decode cX6_odds 2 = .ok (.putfield 1, 3) := dk_181 0 1 (dk_at dksX6_odds_0 2 rfl rfl)
theorem dX6_odds_5 : decode cX6_odds 5 = .ok (.aload_n 0, 1) := dk_42 (dk_at dksX6_odds_0 5 rfl rfl)
theorem dX6_odds_6 : decode cX6_odds 6 = .ok (.iload_n 1, 1) := dk_27 (dk_at dksX6_odds_0 6 rfl rfl)
theorem dX6_odds_7 : decode cX6_odds 7 = .ok (.invokevirtual 315, 3) := dk_182 1 59 (dk_at dksX6_odds_0 7 rfl rfl)
theorem dX6_odds_10 : decode cX6_odds 10 = .ok (.ifCond .eq 13, 3) := dk_153 0 13 (dk_at dksX6_odds_0 10 rfl rfl)
theorem dX6_odds_13 : decode cX6_odds 13 = .ok (.iload_n 2, 1) := dk_28 (dk_at dksX6_odds_0 13 rfl rfl)
theorem dX6_odds_14 : decode cX6_odds 14 = .ok (.iconst 1, 1) := dk_4 (dk_at dksX6_odds_0 14 rfl rfl)
theorem dX6_odds_15 : decode cX6_odds 15 = .ok (.bipush 20, 2) := dk_16 20 (dk_at dksX6_odds_0 15 rfl rfl)
theorem dX6_odds_17 : decode cX6_odds 17 = .ok (.invokestatic 189, 3) := dk_184 0 189 (dk_at dksX6_odds_0 17 rfl rfl)
theorem dX6_odds_20 : decode cX6_odds 20 = .ok (.ifCond .ne 5, 3) := dk_154 0 5 (dk_at dksX6_odds_0 20 rfl rfl)
theorem dX6_odds_23 : decode cX6_odds 23 = .ok (.iconst (-1), 1) := dk_2 (dk_at dksX6_odds_0 23 rfl rfl)
theorem dX6_odds_24 : decode cX6_odds 24 = .ok (.ireturn, 1) := dk_172 (dk_at dksX6_odds_1 0 rfl rfl)
theorem dX6_odds_25 : decode cX6_odds 25 = .ok (.aload_n 0, 1) := dk_42 (dk_at dksX6_odds_1 1 rfl rfl)
theorem dX6_odds_26 : decode cX6_odds 26 = .ok (.aload_n 0, 1) := dk_42 (dk_at dksX6_odds_1 2 rfl rfl)
theorem dX6_odds_27 : decode cX6_odds 27 = .ok (.getfield 74, 3) := dk_180 0 74 (dk_at dksX6_odds_1 3 rfl rfl)
theorem dX6_odds_30 : decode cX6_odds 30 = .ok (.invokevirtual 364, 3) := dk_182 1 108 (dk_at dksX6_odds_1 6 rfl rfl)
theorem dX6_odds_33 : decode cX6_odds 33 = .ok (.iconst 0, 1) := dk_3 (dk_at dksX6_odds_1 9 rfl rfl)
theorem dX6_odds_34 : decode cX6_odds 34 = .ok (.istore 4, 2) := dk_54 4 (dk_at dksX6_odds_1 10 rfl rfl)
theorem dX6_odds_36 : decode cX6_odds 36 = .ok (.iconst 0, 1) := dk_3 (dk_at dksX6_odds_1 12 rfl rfl)
theorem dX6_odds_37 : decode cX6_odds 37 = .ok (.istore 5, 2) := dk_54 5 (dk_at dksX6_odds_1 13 rfl rfl)
theorem dX6_odds_39 : decode cX6_odds 39 = .ok (.iload 5, 2) := dk_21 5 (dk_at dksX6_odds_1 15 rfl rfl)
theorem dX6_odds_41 : decode cX6_odds 41 = .ok (.iload_n 2, 1) := dk_28 (dk_at dksX6_odds_1 17 rfl rfl)
theorem dX6_odds_42 : decode cX6_odds 42 = .ok (.if_icmp .ge 65, 3) := dk_162 0 65 (dk_at dksX6_odds_1 18 rfl rfl)
theorem dX6_odds_45 : decode cX6_odds 45 = .ok (.aload_n 0, 1) := dk_42 (dk_at dksX6_odds_1 21 rfl rfl)
theorem dX6_odds_46 : decode cX6_odds 46 = .ok (.iload_n 3, 1) := dk_29 (dk_at dksX6_odds_1 22 rfl rfl)
theorem dX6_odds_47 : decode cX6_odds 47 = .ok (.iload 5, 2) := dk_21 5 (dk_at dksX6_odds_2 0 rfl rfl)
theorem dX6_odds_49 : decode cX6_odds 49 = .ok (.iadd, 1) := dk_96 (dk_at dksX6_odds_2 2 rfl rfl)
theorem dX6_odds_50 : decode cX6_odds 50 = .ok (.putfield 412, 3) := dk_181 1 156 (dk_at dksX6_odds_2 3 rfl rfl)
theorem dX6_odds_53 : decode cX6_odds 53 = .ok (.iconst 0, 1) := dk_3 (dk_at dksX6_odds_2 6 rfl rfl)
theorem dX6_odds_54 : decode cX6_odds 54 = .ok (.istore 6, 2) := dk_54 6 (dk_at dksX6_odds_2 7 rfl rfl)
theorem dX6_odds_56 : decode cX6_odds 56 = .ok (.iload 6, 2) := dk_21 6 (dk_at dksX6_odds_2 9 rfl rfl)
theorem dX6_odds_58 : decode cX6_odds 58 = .ok (.bipush 12, 2) := dk_16 12 (dk_at dksX6_odds_2 11 rfl rfl)
theorem dX6_odds_60 : decode cX6_odds 60 = .ok (.if_icmp .ge 14, 3) := dk_162 0 14 (dk_at dksX6_odds_2 13 rfl rfl)
theorem dX6_odds_63 : decode cX6_odds 63 = .ok (.aload_n 0, 1) := dk_42 (dk_at dksX6_odds_2 16 rfl rfl)
theorem dX6_odds_64 : decode cX6_odds 64 = .ok (.invokevirtual 419, 3) := dk_182 1 163 (dk_at dksX6_odds_2 17 rfl rfl)
theorem dX6_odds_67 : decode cX6_odds 67 = .ok (.pop, 1) := dk_87 (dk_at dksX6_odds_2 20 rfl rfl)
theorem dX6_odds_68 : decode cX6_odds 68 = .ok (.iinc 6 1, 3) := dk_132 6 1 (dk_at dksX6_odds_2 21 rfl rfl)
theorem dX6_odds_71 : decode cX6_odds 71 = .ok (.goto (-15), 3) := dk_167 255 241 (dk_at dksX6_odds_3 0 rfl rfl)
theorem dX6_odds_74 : decode cX6_odds 74 = .ok (.iload 4, 2) := dk_21 4 (dk_at dksX6_odds_3 3 rfl rfl)
theorem dX6_odds_76 : decode cX6_odds 76 = .ok (.aload_n 0, 1) := dk_42 (dk_at dksX6_odds_3 5 rfl rfl)
theorem dX6_odds_77 : decode cX6_odds 77 = .ok (.iload_n 1, 1) := dk_27 (dk_at dksX6_odds_3 6 rfl rfl)
theorem dX6_odds_78 : decode cX6_odds 78 = .ok (.invokevirtual 422, 3) := dk_182 1 166 (dk_at dksX6_odds_3 7 rfl rfl)
theorem dX6_odds_81 : decode cX6_odds 81 = .ok (.ifCond .eq 7, 3) := dk_153 0 7 (dk_at dksX6_odds_3 10 rfl rfl)
theorem dX6_odds_84 : decode cX6_odds 84 = .ok (.iconst 1, 1) := dk_4 (dk_at dksX6_odds_3 13 rfl rfl)
theorem dX6_odds_85 : decode cX6_odds 85 = .ok (.goto 4, 3) := dk_167 0 4 (dk_at dksX6_odds_3 14 rfl rfl)
theorem dX6_odds_88 : decode cX6_odds 88 = .ok (.iconst 0, 1) := dk_3 (dk_at dksX6_odds_3 17 rfl rfl)
theorem dX6_odds_89 : decode cX6_odds 89 = .ok (.iadd, 1) := dk_96 (dk_at dksX6_odds_3 18 rfl rfl)
theorem dX6_odds_90 : decode cX6_odds 90 = .ok (.istore 4, 2) := dk_54 4 (dk_at dksX6_odds_3 19 rfl rfl)
theorem dX6_odds_92 : decode cX6_odds 92 = .ok (.aload_n 0, 1) := dk_42 (dk_at dksX6_odds_3 21 rfl rfl)
theorem dX6_odds_93 : decode cX6_odds 93 = .ok (.aload_n 0, 1) := dk_42 (dk_at dksX6_odds_3 22 rfl rfl)
theorem dX6_odds_94 : decode cX6_odds 94 = .ok (.getfield 74, 3) := dk_180 0 74 (dk_at dksX6_odds_4 0 rfl rfl)
theorem dX6_odds_97 : decode cX6_odds 97 = .ok (.iconst 0, 1) := dk_3 (dk_at dksX6_odds_4 3 rfl rfl)
theorem dX6_odds_98 : decode cX6_odds 98 = .ok (.invokevirtual 371, 3) := dk_182 1 115 (dk_at dksX6_odds_4 4 rfl rfl)
theorem dX6_odds_101 : decode cX6_odds 101 = .ok (.iinc 5 1, 3) := dk_132 5 1 (dk_at dksX6_odds_4 7 rfl rfl)
theorem dX6_odds_104 : decode cX6_odds 104 = .ok (.goto (-65), 3) := dk_167 255 191 (dk_at dksX6_odds_4 10 rfl rfl)
theorem dX6_odds_107 : decode cX6_odds 107 = .ok (.iload 4, 2) := dk_21 4 (dk_at dksX6_odds_4 13 rfl rfl)
theorem dX6_odds_109 : decode cX6_odds 109 = .ok (.ireturn, 1) := dk_172 (dk_at dksX6_odds_4 15 rfl rfl)
abbrev cX6_isChosen : ByteArray := prog_25_method_95_code
def yX6_isChosen : MethodName := ⟨RX6, "isChosen", "(I)Z"⟩
def dkwX6_isChosen_1 : List UInt8 := [29, 46, 27, 160, 0, 7, 4, 167, 0, 4, 3, 61, 132, 3, 1, 167, 255, 225, 28, 172]
abbrev dktX6_isChosen_1 : List UInt8 := dkwX6_isChosen_1 ++ []
def dkwX6_isChosen_0 : List UInt8 := [42, 182, 1, 66, 3, 61, 3, 62, 29, 42, 180, 1, 41, 162, 0, 29, 28, 154, 0, 13, 42, 180, 0, 65]
abbrev dktX6_isChosen_0 : List UInt8 := dkwX6_isChosen_0 ++ dktX6_isChosen_1
theorem dksX6_isChosen_0 : cX6_isChosen.data.toList.drop 0 = dktX6_isChosen_0 := by decide +kernel
theorem dksX6_isChosen_1 : cX6_isChosen.data.toList.drop 24 = dktX6_isChosen_1 := dk_seg dksX6_isChosen_0 24 rfl rfl
theorem dX6_isChosen_0 : decode cX6_isChosen 0 = .ok (.aload_n 0, 1) := dk_42 (dk_at dksX6_isChosen_0 0 rfl rfl)
theorem dX6_isChosen_1 : decode cX6_isChosen 1 = .ok (.invokevirtual 322, 3) := dk_182 1 66 (dk_at dksX6_isChosen_0 1 rfl rfl)
theorem dX6_isChosen_4 : decode cX6_isChosen 4 = .ok (.iconst 0, 1) := dk_3 (dk_at dksX6_isChosen_0 4 rfl rfl)
theorem dX6_isChosen_5 : decode cX6_isChosen 5 = .ok (.istore_n 2, 1) := dk_61 (dk_at dksX6_isChosen_0 5 rfl rfl)
theorem dX6_isChosen_6 : decode cX6_isChosen 6 = .ok (.iconst 0, 1) := dk_3 (dk_at dksX6_isChosen_0 6 rfl rfl)
theorem dX6_isChosen_7 : decode cX6_isChosen 7 = .ok (.istore_n 3, 1) := dk_62 (dk_at dksX6_isChosen_0 7 rfl rfl)
theorem dX6_isChosen_8 : decode cX6_isChosen 8 = .ok (.iload_n 3, 1) := dk_29 (dk_at dksX6_isChosen_0 8 rfl rfl)
theorem dX6_isChosen_9 : decode cX6_isChosen 9 = .ok (.aload_n 0, 1) := dk_42 (dk_at dksX6_isChosen_0 9 rfl rfl)
theorem dX6_isChosen_10 : decode cX6_isChosen 10 = .ok (.getfield 297, 3) := dk_180 1 41 (dk_at dksX6_isChosen_0 10 rfl rfl)
theorem dX6_isChosen_13 : decode cX6_isChosen 13 = .ok (.if_icmp .ge 29, 3) := dk_162 0 29 (dk_at dksX6_isChosen_0 13 rfl rfl)
theorem dX6_isChosen_16 : decode cX6_isChosen 16 = .ok (.iload_n 2, 1) := dk_28 (dk_at dksX6_isChosen_0 16 rfl rfl)
theorem dX6_isChosen_17 : decode cX6_isChosen 17 = .ok (.ifCond .ne 13, 3) := dk_154 0 13 (dk_at dksX6_isChosen_0 17 rfl rfl)
theorem dX6_isChosen_20 : decode cX6_isChosen 20 = .ok (.aload_n 0, 1) := dk_42 (dk_at dksX6_isChosen_0 20 rfl rfl)
theorem dX6_isChosen_21 : decode cX6_isChosen 21 = .ok (.getfield 65, 3) := dk_180 0 65 (dk_at dksX6_isChosen_0 21 rfl rfl)
theorem dX6_isChosen_24 : decode cX6_isChosen 24 = .ok (.iload_n 3, 1) := dk_29 (dk_at dksX6_isChosen_1 0 rfl rfl)
theorem dX6_isChosen_25 : decode cX6_isChosen 25 = .ok (.iaload, 1) := dk_46 (dk_at dksX6_isChosen_1 1 rfl rfl)
theorem dX6_isChosen_26 : decode cX6_isChosen 26 = .ok (.iload_n 1, 1) := dk_27 (dk_at dksX6_isChosen_1 2 rfl rfl)
theorem dX6_isChosen_27 : decode cX6_isChosen 27 = .ok (.if_icmp .ne 7, 3) := dk_160 0 7 (dk_at dksX6_isChosen_1 3 rfl rfl)
theorem dX6_isChosen_30 : decode cX6_isChosen 30 = .ok (.iconst 1, 1) := dk_4 (dk_at dksX6_isChosen_1 6 rfl rfl)
theorem dX6_isChosen_31 : decode cX6_isChosen 31 = .ok (.goto 4, 3) := dk_167 0 4 (dk_at dksX6_isChosen_1 7 rfl rfl)
theorem dX6_isChosen_34 : decode cX6_isChosen 34 = .ok (.iconst 0, 1) := dk_3 (dk_at dksX6_isChosen_1 10 rfl rfl)
theorem dX6_isChosen_35 : decode cX6_isChosen 35 = .ok (.istore_n 2, 1) := dk_61 (dk_at dksX6_isChosen_1 11 rfl rfl)
theorem dX6_isChosen_36 : decode cX6_isChosen 36 = .ok (.iinc 3 1, 3) := dk_132 3 1 (dk_at dksX6_isChosen_1 12 rfl rfl)
theorem dX6_isChosen_39 : decode cX6_isChosen 39 = .ok (.goto (-31), 3) := dk_167 255 225 (dk_at dksX6_isChosen_1 15 rfl rfl)
theorem dX6_isChosen_42 : decode cX6_isChosen 42 = .ok (.iload_n 2, 1) := dk_28 (dk_at dksX6_isChosen_1 18 rfl rfl)
theorem dX6_isChosen_43 : decode cX6_isChosen 43 = .ok (.ireturn, 1) := dk_172 (dk_at dksX6_isChosen_1 19 rfl rfl)
abbrev cX6_book : ByteArray := prog_25_method_99_code
def yX6_book : MethodName := ⟨RX6, "book", "(I)I"⟩
def dkwX6_book_10 : List UInt8 := [180, 0, 74, 182, 1, 112, 28, 172]
abbrev dktX6_book_10 : List UInt8 := dkwX6_book_10 ++ []
def dkwX6_book_9 : List UInt8 := [42, 42, 180, 0, 74, 3, 182, 1, 115, 167, 0, 20, 42, 180, 0, 86, 4, 46, 158, 0, 11, 42, 42]
abbrev dktX6_book_9 : List UInt8 := dkwX6_book_9 ++ dktX6_book_10
def dkwX6_book_8 : List UInt8 := [167, 0, 14, 42, 180, 0, 65, 42, 180, 1, 41, 4, 100, 46, 79, 42, 4, 181, 1, 178, 27, 154, 0, 15]
abbrev dktX6_book_8 : List UInt8 := dkwX6_book_8 ++ dktX6_book_9
def dkwX6_book_7 : List UInt8 := [79, 42, 180, 0, 86, 5, 42, 180, 1, 29, 79, 42, 180, 0, 86, 6, 42, 180, 1, 41, 154, 0, 7, 2]
abbrev dktX6_book_7 : List UInt8 := dkwX6_book_7 ++ dktX6_book_8
def dkwX6_book_6 : List UInt8 := [167, 255, 217, 42, 182, 1, 66, 42, 180, 0, 86, 4, 28, 156, 0, 10, 42, 180, 1, 169, 167, 0, 4, 28]
abbrev dktX6_book_6 : List UInt8 := dkwX6_book_6 ++ dktX6_book_7
def dkwX6_book_5 : List UInt8 := [3, 42, 7, 29, 104, 182, 1, 175, 79, 42, 180, 0, 86, 3, 46, 158, 0, 5, 29, 61, 132, 3, 1]
abbrev dktX6_book_5 : List UInt8 := dkwX6_book_5 ++ dktX6_book_6
def dkwX6_book_4 : List UInt8 := [180, 0, 86, 3, 3, 79, 3, 62, 29, 42, 180, 1, 169, 162, 0, 37, 28, 156, 0, 33, 42, 180, 0, 86]
abbrev dktX6_book_4 : List UInt8 := dkwX6_book_4 ++ dktX6_book_5
def dkwX6_book_3 : List UInt8 := [42, 89, 180, 1, 169, 4, 96, 181, 1, 169, 167, 255, 215, 42, 42, 180, 0, 74, 182, 1, 108, 2, 61, 42]
abbrev dktX6_book_3 : List UInt8 := dkwX6_book_3 ++ dktX6_book_4
def dkwX6_book_2 : List UInt8 := [42, 182, 1, 172, 153, 0, 12, 42, 16, 59, 182, 0, 236, 154, 0, 11, 16, 254, 42, 180, 0, 177, 100, 172]
abbrev dktX6_book_2 : List UInt8 := dkwX6_book_2 ++ dktX6_book_3
def dkwX6_book_1 : List UInt8 := [182, 0, 230, 42, 3, 181, 0, 174, 42, 3, 181, 1, 169, 42, 182, 0, 186, 42, 180, 0, 157, 153, 0, 40]
abbrev dktX6_book_1 : List UInt8 := dkwX6_book_1 ++ dktX6_book_2
def dkwX6_book_0 : List UInt8 := [42, 3, 181, 0, 1, 27, 3, 4, 184, 0, 189, 154, 0, 7, 17, 252, 24, 172, 42, 17, 1, 144]
abbrev dktX6_book_0 : List UInt8 := dkwX6_book_0 ++ dktX6_book_1
theorem dksX6_book_0 : cX6_book.data.toList.drop 0 = dktX6_book_0 := by decide +kernel
theorem dksX6_book_1 : cX6_book.data.toList.drop 22 = dktX6_book_1 := dk_seg dksX6_book_0 22 rfl rfl
theorem dksX6_book_2 : cX6_book.data.toList.drop 46 = dktX6_book_2 := dk_seg dksX6_book_1 24 rfl rfl
theorem dksX6_book_3 : cX6_book.data.toList.drop 70 = dktX6_book_3 := dk_seg dksX6_book_2 24 rfl rfl
theorem dksX6_book_4 : cX6_book.data.toList.drop 94 = dktX6_book_4 := dk_seg dksX6_book_3 24 rfl rfl
theorem dksX6_book_5 : cX6_book.data.toList.drop 118 = dktX6_book_5 := dk_seg dksX6_book_4 24 rfl rfl
theorem dksX6_book_6 : cX6_book.data.toList.drop 141 = dktX6_book_6 := dk_seg dksX6_book_5 23 rfl rfl
theorem dksX6_book_7 : cX6_book.data.toList.drop 165 = dktX6_book_7 := dk_seg dksX6_book_6 24 rfl rfl
theorem dksX6_book_8 : cX6_book.data.toList.drop 189 = dktX6_book_8 := dk_seg dksX6_book_7 24 rfl rfl
theorem dksX6_book_9 : cX6_book.data.toList.drop 213 = dktX6_book_9 := dk_seg dksX6_book_8 24 rfl rfl
theorem dksX6_book_10 : cX6_book.data.toList.drop 236 = dktX6_book_10 := dk_seg dksX6_book_9 23 rfl rfl
theorem dX6_book_0 : decode cX6_book 0 = .ok (.aload_n 0, 1) := dk_42 (dk_at dksX6_book_0 0 rfl rfl)
theorem dX6_book_1 : decode cX6_book 1 = .ok (.iconst 0, 1) := dk_3 (dk_at dksX6_book_0 1 rfl rfl)
theorem dX6_book_2 : decode cX6_book 2 = .ok (.putfield 1, 3) := dk_181 0 1 (dk_at dksX6_book_0 2 rfl rfl)
theorem dX6_book_5 : decode cX6_book 5 = .ok (.iload_n 1, 1) := dk_27 (dk_at dksX6_book_0 5 rfl rfl)
theorem dX6_book_6 : decode cX6_book 6 = .ok (.iconst 0, 1) := dk_3 (dk_at dksX6_book_0 6 rfl rfl)
theorem dX6_book_7 : decode cX6_book 7 = .ok (.iconst 1, 1) := dk_4 (dk_at dksX6_book_0 7 rfl rfl)
theorem dX6_book_8 : decode cX6_book 8 = .ok (.invokestatic 189, 3) := dk_184 0 189 (dk_at dksX6_book_0 8 rfl rfl)
theorem dX6_book_11 : decode cX6_book 11 = .ok (.ifCond .ne 7, 3) := dk_154 0 7 (dk_at dksX6_book_0 11 rfl rfl)
theorem dX6_book_14 : decode cX6_book 14 = .ok (.sipush (-1000), 3) := dk_17 252 24 (dk_at dksX6_book_0 14 rfl rfl)
theorem dX6_book_17 : decode cX6_book 17 = .ok (.ireturn, 1) := dk_172 (dk_at dksX6_book_0 17 rfl rfl)
theorem dX6_book_18 : decode cX6_book 18 = .ok (.aload_n 0, 1) := dk_42 (dk_at dksX6_book_0 18 rfl rfl)
theorem dX6_book_19 : decode cX6_book 19 = .ok (.sipush 400, 3) := dk_17 1 144 (dk_at dksX6_book_0 19 rfl rfl)
theorem dX6_book_22 : decode cX6_book 22 = .ok (.invokevirtual 230, 3) := dk_182 0 230 (dk_at dksX6_book_1 0 rfl rfl)
theorem dX6_book_25 : decode cX6_book 25 = .ok (.aload_n 0, 1) := dk_42 (dk_at dksX6_book_1 3 rfl rfl)
theorem dX6_book_26 : decode cX6_book 26 = .ok (.iconst 0, 1) := dk_3 (dk_at dksX6_book_1 4 rfl rfl)
theorem dX6_book_27 : decode cX6_book 27 = .ok (.putfield 174, 3) := dk_181 0 174 (dk_at dksX6_book_1 5 rfl rfl)
theorem dX6_book_30 : decode cX6_book 30 = .ok (.aload_n 0, 1) := dk_42 (dk_at dksX6_book_1 8 rfl rfl)
theorem dX6_book_31 : decode cX6_book 31 = .ok (.iconst 0, 1) := dk_3 (dk_at dksX6_book_1 9 rfl rfl)
theorem dX6_book_32 : decode cX6_book 32 = .ok (.putfield 425, 3) := dk_181 1 169 (dk_at dksX6_book_1 10 rfl rfl)
theorem dX6_book_35 : decode cX6_book 35 = .ok (.aload_n 0, 1) := dk_42 (dk_at dksX6_book_1 13 rfl rfl)
theorem dX6_book_36 : decode cX6_book 36 = .ok (.invokevirtual 186, 3) := dk_182 0 186 (dk_at dksX6_book_1 14 rfl rfl)
theorem dX6_book_39 : decode cX6_book 39 = .ok (.aload_n 0, 1) := dk_42 (dk_at dksX6_book_1 17 rfl rfl)
theorem dX6_book_40 : decode cX6_book 40 = .ok (.getfield 157, 3) := dk_180 0 157 (dk_at dksX6_book_1 18 rfl rfl)
theorem dX6_book_43 : decode cX6_book 43 = .ok (.ifCond .eq 40, 3) := dk_153 0 40 (dk_at dksX6_book_1 21 rfl rfl)
theorem dX6_book_46 : decode cX6_book 46 = .ok (.aload_n 0, 1) := dk_42 (dk_at dksX6_book_2 0 rfl rfl)
theorem dX6_book_47 : decode cX6_book 47 = .ok (.invokevirtual 428, 3) := dk_182 1 172 (dk_at dksX6_book_2 1 rfl rfl)
theorem dX6_book_50 : decode cX6_book 50 = .ok (.ifCond .eq 12, 3) := dk_153 0 12 (dk_at dksX6_book_2 4 rfl rfl)
theorem dX6_book_53 : decode cX6_book 53 = .ok (.aload_n 0, 1) := dk_42 (dk_at dksX6_book_2 7 rfl rfl)
theorem dX6_book_54 : decode cX6_book 54 = .ok (.bipush 59, 2) := dk_16 59 (dk_at dksX6_book_2 8 rfl rfl)
theorem dX6_book_56 : decode cX6_book 56 = .ok (.invokevirtual 236, 3) := dk_182 0 236 (dk_at dksX6_book_2 10 rfl rfl)
theorem dX6_book_59 : decode cX6_book 59 = .ok (.ifCond .ne 11, 3) := dk_154 0 11 (dk_at dksX6_book_2 13 rfl rfl)
theorem dX6_book_62 : decode cX6_book 62 = .ok (.bipush (-2), 2) := dk_16 254 (dk_at dksX6_book_2 16 rfl rfl)
theorem dX6_book_64 : decode cX6_book 64 = .ok (.aload_n 0, 1) := dk_42 (dk_at dksX6_book_2 18 rfl rfl)
theorem dX6_book_65 : decode cX6_book 65 = .ok (.getfield 177, 3) := dk_180 0 177 (dk_at dksX6_book_2 19 rfl rfl)
theorem dX6_book_68 : decode cX6_book 68 = .ok (.isub, 1) := dk_100 (dk_at dksX6_book_2 22 rfl rfl)
theorem dX6_book_69 : decode cX6_book 69 = .ok (.ireturn, 1) := dk_172 (dk_at dksX6_book_2 23 rfl rfl)
theorem dX6_book_70 : decode cX6_book 70 = .ok (.aload_n 0, 1) := dk_42 (dk_at dksX6_book_3 0 rfl rfl)
theorem dX6_book_71 : decode cX6_book 71 = .ok (.dup, 1) := dk_89 (dk_at dksX6_book_3 1 rfl rfl)
theorem dX6_book_72 : decode cX6_book 72 = .ok (.getfield 425, 3) := dk_180 1 169 (dk_at dksX6_book_3 2 rfl rfl)
theorem dX6_book_75 : decode cX6_book 75 = .ok (.iconst 1, 1) := dk_4 (dk_at dksX6_book_3 5 rfl rfl)
theorem dX6_book_76 : decode cX6_book 76 = .ok (.iadd, 1) := dk_96 (dk_at dksX6_book_3 6 rfl rfl)
theorem dX6_book_77 : decode cX6_book 77 = .ok (.putfield 425, 3) := dk_181 1 169 (dk_at dksX6_book_3 7 rfl rfl)
theorem dX6_book_80 : decode cX6_book 80 = .ok (.goto (-41), 3) := dk_167 255 215 (dk_at dksX6_book_3 10 rfl rfl)
theorem dX6_book_83 : decode cX6_book 83 = .ok (.aload_n 0, 1) := dk_42 (dk_at dksX6_book_3 13 rfl rfl)
theorem dX6_book_84 : decode cX6_book 84 = .ok (.aload_n 0, 1) := dk_42 (dk_at dksX6_book_3 14 rfl rfl)
theorem dX6_book_85 : decode cX6_book 85 = .ok (.getfield 74, 3) := dk_180 0 74 (dk_at dksX6_book_3 15 rfl rfl)
theorem dX6_book_88 : decode cX6_book 88 = .ok (.invokevirtual 364, 3) := dk_182 1 108 (dk_at dksX6_book_3 18 rfl rfl)
theorem dX6_book_91 : decode cX6_book 91 = .ok (.iconst (-1), 1) := dk_2 (dk_at dksX6_book_3 21 rfl rfl)
theorem dX6_book_92 : decode cX6_book 92 = .ok (.istore_n 2, 1) := dk_61 (dk_at dksX6_book_3 22 rfl rfl)
theorem dX6_book_93 : decode cX6_book 93 = .ok (.aload_n 0, 1) := dk_42 (dk_at dksX6_book_3 23 rfl rfl)
theorem dX6_book_94 : decode cX6_book 94 = .ok (.getfield 86, 3) := dk_180 0 86 (dk_at dksX6_book_4 0 rfl rfl)
theorem dX6_book_97 : decode cX6_book 97 = .ok (.iconst 0, 1) := dk_3 (dk_at dksX6_book_4 3 rfl rfl)
theorem dX6_book_98 : decode cX6_book 98 = .ok (.iconst 0, 1) := dk_3 (dk_at dksX6_book_4 4 rfl rfl)
theorem dX6_book_99 : decode cX6_book 99 = .ok (.iastore, 1) := dk_79 (dk_at dksX6_book_4 5 rfl rfl)
theorem dX6_book_100 : decode cX6_book 100 = .ok (.iconst 0, 1) := dk_3 (dk_at dksX6_book_4 6 rfl rfl)
theorem dX6_book_101 : decode cX6_book 101 = .ok (.istore_n 3, 1) := dk_62 (dk_at dksX6_book_4 7 rfl rfl)
theorem dX6_book_102 : decode cX6_book 102 = .ok (.iload_n 3, 1) := dk_29 (dk_at dksX6_book_4 8 rfl rfl)
theorem dX6_book_103 : decode cX6_book 103 = .ok (.aload_n 0, 1) := dk_42 (dk_at dksX6_book_4 9 rfl rfl)
theorem dX6_book_104 : decode cX6_book 104 = .ok (.getfield 425, 3) := dk_180 1 169 (dk_at dksX6_book_4 10 rfl rfl)
theorem dX6_book_107 : decode cX6_book 107 = .ok (.if_icmp .ge 37, 3) := dk_162 0 37 (dk_at dksX6_book_4 13 rfl rfl)
theorem dX6_book_110 : decode cX6_book 110 = .ok (.iload_n 2, 1) := dk_28 (dk_at dksX6_book_4 16 rfl rfl)
theorem dX6_book_111 : decode cX6_book 111 = .ok (.ifCond .ge 33, 3) := dk_156 0 33 (dk_at dksX6_book_4 17 rfl rfl)
theorem dX6_book_114 : decode cX6_book 114 = .ok (.aload_n 0, 1) := dk_42 (dk_at dksX6_book_4 20 rfl rfl)
theorem dX6_book_115 : decode cX6_book 115 = .ok (.getfield 86, 3) := dk_180 0 86 (dk_at dksX6_book_4 21 rfl rfl)
theorem dX6_book_118 : decode cX6_book 118 = .ok (.iconst 0, 1) := dk_3 (dk_at dksX6_book_5 0 rfl rfl)
theorem dX6_book_119 : decode cX6_book 119 = .ok (.aload_n 0, 1) := dk_42 (dk_at dksX6_book_5 1 rfl rfl)
theorem dX6_book_120 : decode cX6_book 120 = .ok (.iconst 4, 1) := dk_7 (dk_at dksX6_book_5 2 rfl rfl)
theorem dX6_book_121 : decode cX6_book 121 = .ok (.iload_n 3, 1) := dk_29 (dk_at dksX6_book_5 3 rfl rfl)
theorem dX6_book_122 : decode cX6_book 122 = .ok (.imul, 1) := dk_104 (dk_at dksX6_book_5 4 rfl rfl)
theorem dX6_book_123 : decode cX6_book 123 = .ok (.invokevirtual 431, 3) := dk_182 1 175 (dk_at dksX6_book_5 5 rfl rfl)
theorem dX6_book_126 : decode cX6_book 126 = .ok (.iastore, 1) := dk_79 (dk_at dksX6_book_5 8 rfl rfl)
theorem dX6_book_127 : decode cX6_book 127 = .ok (.aload_n 0, 1) := dk_42 (dk_at dksX6_book_5 9 rfl rfl)
theorem dX6_book_128 : decode cX6_book 128 = .ok (.getfield 86, 3) := dk_180 0 86 (dk_at dksX6_book_5 10 rfl rfl)
theorem dX6_book_131 : decode cX6_book 131 = .ok (.iconst 0, 1) := dk_3 (dk_at dksX6_book_5 13 rfl rfl)
theorem dX6_book_132 : decode cX6_book 132 = .ok (.iaload, 1) := dk_46 (dk_at dksX6_book_5 14 rfl rfl)
theorem dX6_book_133 : decode cX6_book 133 = .ok (.ifCond .le 5, 3) := dk_158 0 5 (dk_at dksX6_book_5 15 rfl rfl)
theorem dX6_book_136 : decode cX6_book 136 = .ok (.iload_n 3, 1) := dk_29 (dk_at dksX6_book_5 18 rfl rfl)
theorem dX6_book_137 : decode cX6_book 137 = .ok (.istore_n 2, 1) := dk_61 (dk_at dksX6_book_5 19 rfl rfl)
theorem dX6_book_138 : decode cX6_book 138 = .ok (.iinc 3 1, 3) := dk_132 3 1 (dk_at dksX6_book_5 20 rfl rfl)
theorem dX6_book_141 : decode cX6_book 141 = .ok (.goto (-39), 3) := dk_167 255 217 (dk_at dksX6_book_6 0 rfl rfl)
theorem dX6_book_144 : decode cX6_book 144 = .ok (.aload_n 0, 1) := dk_42 (dk_at dksX6_book_6 3 rfl rfl)
theorem dX6_book_145 : decode cX6_book 145 = .ok (.invokevirtual 322, 3) := dk_182 1 66 (dk_at dksX6_book_6 4 rfl rfl)
theorem dX6_book_148 : decode cX6_book 148 = .ok (.aload_n 0, 1) := dk_42 (dk_at dksX6_book_6 7 rfl rfl)
theorem dX6_book_149 : decode cX6_book 149 = .ok (.getfield 86, 3) := dk_180 0 86 (dk_at dksX6_book_6 8 rfl rfl)
theorem dX6_book_152 : decode cX6_book 152 = .ok (.iconst 1, 1) := dk_4 (dk_at dksX6_book_6 11 rfl rfl)
theorem dX6_book_153 : decode cX6_book 153 = .ok (.iload_n 2, 1) := dk_28 (dk_at dksX6_book_6 12 rfl rfl)
theorem dX6_book_154 : decode cX6_book 154 = .ok (.ifCond .ge 10, 3) := dk_156 0 10 (dk_at dksX6_book_6 13 rfl rfl)
theorem dX6_book_157 : decode cX6_book 157 = .ok (.aload_n 0, 1) := dk_42 (dk_at dksX6_book_6 16 rfl rfl)
theorem dX6_book_158 : decode cX6_book 158 = .ok (.getfield 425, 3) := dk_180 1 169 (dk_at dksX6_book_6 17 rfl rfl)
theorem dX6_book_161 : decode cX6_book 161 = .ok (.goto 4, 3) := dk_167 0 4 (dk_at dksX6_book_6 20 rfl rfl)
theorem dX6_book_164 : decode cX6_book 164 = .ok (.iload_n 2, 1) := dk_28 (dk_at dksX6_book_6 23 rfl rfl)
theorem dX6_book_165 : decode cX6_book 165 = .ok (.iastore, 1) := dk_79 (dk_at dksX6_book_7 0 rfl rfl)
theorem dX6_book_166 : decode cX6_book 166 = .ok (.aload_n 0, 1) := dk_42 (dk_at dksX6_book_7 1 rfl rfl)
theorem dX6_book_167 : decode cX6_book 167 = .ok (.getfield 86, 3) := dk_180 0 86 (dk_at dksX6_book_7 2 rfl rfl)
theorem dX6_book_170 : decode cX6_book 170 = .ok (.iconst 2, 1) := dk_5 (dk_at dksX6_book_7 5 rfl rfl)
theorem dX6_book_171 : decode cX6_book 171 = .ok (.aload_n 0, 1) := dk_42 (dk_at dksX6_book_7 6 rfl rfl)
theorem dX6_book_172 : decode cX6_book 172 = .ok (.getfield 285, 3) := dk_180 1 29 (dk_at dksX6_book_7 7 rfl rfl)
theorem dX6_book_175 : decode cX6_book 175 = .ok (.iastore, 1) := dk_79 (dk_at dksX6_book_7 10 rfl rfl)
theorem dX6_book_176 : decode cX6_book 176 = .ok (.aload_n 0, 1) := dk_42 (dk_at dksX6_book_7 11 rfl rfl)
theorem dX6_book_177 : decode cX6_book 177 = .ok (.getfield 86, 3) := dk_180 0 86 (dk_at dksX6_book_7 12 rfl rfl)
theorem dX6_book_180 : decode cX6_book 180 = .ok (.iconst 3, 1) := dk_6 (dk_at dksX6_book_7 15 rfl rfl)
theorem dX6_book_181 : decode cX6_book 181 = .ok (.aload_n 0, 1) := dk_42 (dk_at dksX6_book_7 16 rfl rfl)
theorem dX6_book_182 : decode cX6_book 182 = .ok (.getfield 297, 3) := dk_180 1 41 (dk_at dksX6_book_7 17 rfl rfl)
theorem dX6_book_185 : decode cX6_book 185 = .ok (.ifCond .ne 7, 3) := dk_154 0 7 (dk_at dksX6_book_7 20 rfl rfl)
theorem dX6_book_188 : decode cX6_book 188 = .ok (.iconst (-1), 1) := dk_2 (dk_at dksX6_book_7 23 rfl rfl)
theorem dX6_book_189 : decode cX6_book 189 = .ok (.goto 14, 3) := dk_167 0 14 (dk_at dksX6_book_8 0 rfl rfl)
theorem dX6_book_192 : decode cX6_book 192 = .ok (.aload_n 0, 1) := dk_42 (dk_at dksX6_book_8 3 rfl rfl)
theorem dX6_book_193 : decode cX6_book 193 = .ok (.getfield 65, 3) := dk_180 0 65 (dk_at dksX6_book_8 4 rfl rfl)
theorem dX6_book_196 : decode cX6_book 196 = .ok (.aload_n 0, 1) := dk_42 (dk_at dksX6_book_8 7 rfl rfl)
theorem dX6_book_197 : decode cX6_book 197 = .ok (.getfield 297, 3) := dk_180 1 41 (dk_at dksX6_book_8 8 rfl rfl)
theorem dX6_book_200 : decode cX6_book 200 = .ok (.iconst 1, 1) := dk_4 (dk_at dksX6_book_8 11 rfl rfl)
theorem dX6_book_201 : decode cX6_book 201 = .ok (.isub, 1) := dk_100 (dk_at dksX6_book_8 12 rfl rfl)
theorem dX6_book_202 : decode cX6_book 202 = .ok (.iaload, 1) := dk_46 (dk_at dksX6_book_8 13 rfl rfl)
theorem dX6_book_203 : decode cX6_book 203 = .ok (.iastore, 1) := dk_79 (dk_at dksX6_book_8 14 rfl rfl)
theorem dX6_book_204 : decode cX6_book 204 = .ok (.aload_n 0, 1) := dk_42 (dk_at dksX6_book_8 15 rfl rfl)
theorem dX6_book_205 : decode cX6_book 205 = .ok (.iconst 1, 1) := dk_4 (dk_at dksX6_book_8 16 rfl rfl)
theorem dX6_book_206 : decode cX6_book 206 = .ok (.putfield 434, 3) := dk_181 1 178 (dk_at dksX6_book_8 17 rfl rfl)
theorem dX6_book_209 : decode cX6_book 209 = .ok (.iload_n 1, 1) := dk_27 (dk_at dksX6_book_8 20 rfl rfl)
theorem dX6_book_210 : decode cX6_book 210 = .ok (.ifCond .ne 15, 3) := dk_154 0 15 (dk_at dksX6_book_8 21 rfl rfl)
theorem dX6_book_213 : decode cX6_book 213 = .ok (.aload_n 0, 1) := dk_42 (dk_at dksX6_book_9 0 rfl rfl)
theorem dX6_book_214 : decode cX6_book 214 = .ok (.aload_n 0, 1) := dk_42 (dk_at dksX6_book_9 1 rfl rfl)
theorem dX6_book_215 : decode cX6_book 215 = .ok (.getfield 74, 3) := dk_180 0 74 (dk_at dksX6_book_9 2 rfl rfl)
theorem dX6_book_218 : decode cX6_book 218 = .ok (.iconst 0, 1) := dk_3 (dk_at dksX6_book_9 5 rfl rfl)
theorem dX6_book_219 : decode cX6_book 219 = .ok (.invokevirtual 371, 3) := dk_182 1 115 (dk_at dksX6_book_9 6 rfl rfl)
theorem dX6_book_222 : decode cX6_book 222 = .ok (.goto 20, 3) := dk_167 0 20 (dk_at dksX6_book_9 9 rfl rfl)
theorem dX6_book_225 : decode cX6_book 225 = .ok (.aload_n 0, 1) := dk_42 (dk_at dksX6_book_9 12 rfl rfl)
theorem dX6_book_226 : decode cX6_book 226 = .ok (.getfield 86, 3) := dk_180 0 86 (dk_at dksX6_book_9 13 rfl rfl)
theorem dX6_book_229 : decode cX6_book 229 = .ok (.iconst 1, 1) := dk_4 (dk_at dksX6_book_9 16 rfl rfl)
theorem dX6_book_230 : decode cX6_book 230 = .ok (.iaload, 1) := dk_46 (dk_at dksX6_book_9 17 rfl rfl)
theorem dX6_book_231 : decode cX6_book 231 = .ok (.ifCond .le 11, 3) := dk_158 0 11 (dk_at dksX6_book_9 18 rfl rfl)
theorem dX6_book_234 : decode cX6_book 234 = .ok (.aload_n 0, 1) := dk_42 (dk_at dksX6_book_9 21 rfl rfl)
theorem dX6_book_235 : decode cX6_book 235 = .ok (.aload_n 0, 1) := dk_42 (dk_at dksX6_book_9 22 rfl rfl)
theorem dX6_book_236 : decode cX6_book 236 = .ok (.getfield 74, 3) := dk_180 0 74 (dk_at dksX6_book_10 0 rfl rfl)
theorem dX6_book_239 : decode cX6_book 239 = .ok (.invokevirtual 368, 3) := dk_182 1 112 (dk_at dksX6_book_10 3 rfl rfl)
theorem dX6_book_242 : decode cX6_book 242 = .ok (.iload_n 2, 1) := dk_28 (dk_at dksX6_book_10 6 rfl rfl)
theorem dX6_book_243 : decode cX6_book 243 = .ok (.ireturn, 1) := dk_172 (dk_at dksX6_book_10 7 rfl rfl)
abbrev cX6_bookLine : ByteArray := prog_25_method_97_code
def yX6_bookLine : MethodName := ⟨RX6, "bookLine", "()Z"⟩
def dkwX6_bookLine_8 : List UInt8 := [180, 0, 43, 27, 6, 96, 42, 180, 0, 193, 79, 4, 172]
abbrev dktX6_bookLine_8 : List UInt8 := dkwX6_bookLine_8 ++ []
def dkwX6_bookLine_7 : List UInt8 := [158, 0, 5, 4, 172, 42, 16, 8, 42, 180, 0, 33, 5, 46, 182, 0, 218, 154, 0, 5, 3, 172, 42]
abbrev dktX6_bookLine_7 : List UInt8 := dkwX6_bookLine_7 ++ dktX6_bookLine_8
def dkwX6_bookLine_6 : List UInt8 := [154, 0, 5, 3, 172, 42, 180, 0, 43, 27, 5, 96, 42, 180, 0, 193, 79, 42, 180, 0, 43, 27, 46]
abbrev dktX6_bookLine_6 : List UInt8 := dkwX6_bookLine_6 ++ dktX6_bookLine_7
def dkwX6_bookLine_5 : List UInt8 := [180, 0, 43, 27, 4, 96, 42, 180, 0, 193, 79, 42, 16, 8, 42, 180, 0, 33, 5, 46, 182, 0, 218]
abbrev dktX6_bookLine_5 : List UInt8 := dkwX6_bookLine_5 ++ dktX6_bookLine_6
def dkwX6_bookLine_4 : List UInt8 := [46, 5, 162, 0, 31, 42, 3, 42, 180, 0, 33, 4, 46, 182, 0, 218, 154, 0, 5, 3, 172, 42]
abbrev dktX6_bookLine_4 : List UInt8 := dkwX6_bookLine_4 ++ dktX6_bookLine_5
def dkwX6_bookLine_3 : List UInt8 := [42, 180, 1, 169, 16, 40, 160, 0, 9, 42, 7, 182, 0, 183, 172, 42, 182, 0, 186, 42, 180, 0, 43, 27]
abbrev dktX6_bookLine_3 : List UInt8 := dkwX6_bookLine_3 ++ dktX6_bookLine_4
def dkwX6_bookLine_2 : List UInt8 := [153, 0, 7, 5, 167, 0, 4, 2, 79, 42, 180, 0, 43, 27, 46, 156, 0, 9, 42, 4, 182, 0, 183, 172]
abbrev dktX6_bookLine_2 : List UInt8 := dkwX6_bookLine_2 ++ dktX6_bookLine_3
def dkwX6_bookLine_1 : List UInt8 := [167, 0, 32, 42, 20, 0, 117, 182, 0, 214, 153, 0, 7, 4, 167, 0, 18, 42, 20, 0, 119, 182, 0, 214]
abbrev dktX6_bookLine_1 : List UInt8 := dkwX6_bookLine_1 ++ dktX6_bookLine_2
def dkwX6_bookLine_0 : List UInt8 := [7, 42, 180, 1, 169, 104, 60, 42, 180, 0, 43, 27, 42, 20, 0, 115, 182, 0, 214, 153, 0, 7, 3]
abbrev dktX6_bookLine_0 : List UInt8 := dkwX6_bookLine_0 ++ dktX6_bookLine_1
theorem dksX6_bookLine_0 : cX6_bookLine.data.toList.drop 0 = dktX6_bookLine_0 := by decide +kernel
theorem dksX6_bookLine_1 : cX6_bookLine.data.toList.drop 23 = dktX6_bookLine_1 := dk_seg dksX6_bookLine_0 23 rfl rfl
theorem dksX6_bookLine_2 : cX6_bookLine.data.toList.drop 47 = dktX6_bookLine_2 := dk_seg dksX6_bookLine_1 24 rfl rfl
theorem dksX6_bookLine_3 : cX6_bookLine.data.toList.drop 71 = dktX6_bookLine_3 := dk_seg dksX6_bookLine_2 24 rfl rfl
theorem dksX6_bookLine_4 : cX6_bookLine.data.toList.drop 95 = dktX6_bookLine_4 := dk_seg dksX6_bookLine_3 24 rfl rfl
theorem dksX6_bookLine_5 : cX6_bookLine.data.toList.drop 117 = dktX6_bookLine_5 := dk_seg dksX6_bookLine_4 22 rfl rfl
theorem dksX6_bookLine_6 : cX6_bookLine.data.toList.drop 140 = dktX6_bookLine_6 := dk_seg dksX6_bookLine_5 23 rfl rfl
theorem dksX6_bookLine_7 : cX6_bookLine.data.toList.drop 163 = dktX6_bookLine_7 := dk_seg dksX6_bookLine_6 23 rfl rfl
theorem dksX6_bookLine_8 : cX6_bookLine.data.toList.drop 186 = dktX6_bookLine_8 := dk_seg dksX6_bookLine_7 23 rfl rfl
theorem dX6_bookLine_0 : decode cX6_bookLine 0 = .ok (.iconst 4, 1) := dk_7 (dk_at dksX6_bookLine_0 0 rfl rfl)
theorem dX6_bookLine_1 : decode cX6_bookLine 1 = .ok (.aload_n 0, 1) := dk_42 (dk_at dksX6_bookLine_0 1 rfl rfl)
theorem dX6_bookLine_2 : decode cX6_bookLine 2 = .ok (.getfield 425, 3) := dk_180 1 169 (dk_at dksX6_bookLine_0 2 rfl rfl)
theorem dX6_bookLine_5 : decode cX6_bookLine 5 = .ok (.imul, 1) := dk_104 (dk_at dksX6_bookLine_0 5 rfl rfl)
theorem dX6_bookLine_6 : decode cX6_bookLine 6 = .ok (.istore_n 1, 1) := dk_60 (dk_at dksX6_bookLine_0 6 rfl rfl)
theorem dX6_bookLine_7 : decode cX6_bookLine 7 = .ok (.aload_n 0, 1) := dk_42 (dk_at dksX6_bookLine_0 7 rfl rfl)
theorem dX6_bookLine_8 : decode cX6_bookLine 8 = .ok (.getfield 43, 3) := dk_180 0 43 (dk_at dksX6_bookLine_0 8 rfl rfl)
theorem dX6_bookLine_11 : decode cX6_bookLine 11 = .ok (.iload_n 1, 1) := dk_27 (dk_at dksX6_bookLine_0 11 rfl rfl)
theorem dX6_bookLine_12 : decode cX6_bookLine 12 = .ok (.aload_n 0, 1) := dk_42 (dk_at dksX6_bookLine_0 12 rfl rfl)
theorem dX6_bookLine_13 : decode cX6_bookLine 13 = .ok (.ldc2_w 115, 3) := dk_20 0 115 (dk_at dksX6_bookLine_0 13 rfl rfl)
theorem dX6_bookLine_16 : decode cX6_bookLine 16 = .ok (.invokevirtual 214, 3) := dk_182 0 214 (dk_at dksX6_bookLine_0 16 rfl rfl)
theorem dX6_bookLine_19 : decode cX6_bookLine 19 = .ok (.ifCond .eq 7, 3) := dk_153 0 7 (dk_at dksX6_bookLine_0 19 rfl rfl)
theorem dX6_bookLine_22 : decode cX6_bookLine 22 = .ok (.iconst 0, 1) := dk_3 (dk_at dksX6_bookLine_0 22 rfl rfl)
theorem dX6_bookLine_23 : decode cX6_bookLine 23 = .ok (.goto 32, 3) := dk_167 0 32 (dk_at dksX6_bookLine_1 0 rfl rfl)
theorem dX6_bookLine_26 : decode cX6_bookLine 26 = .ok (.aload_n 0, 1) := dk_42 (dk_at dksX6_bookLine_1 3 rfl rfl)
theorem dX6_bookLine_27 : decode cX6_bookLine 27 = .ok (.ldc2_w 117, 3) := dk_20 0 117 (dk_at dksX6_bookLine_1 4 rfl rfl)
theorem dX6_bookLine_30 : decode cX6_bookLine 30 = .ok (.invokevirtual 214, 3) := dk_182 0 214 (dk_at dksX6_bookLine_1 7 rfl rfl)
theorem dX6_bookLine_33 : decode cX6_bookLine 33 = .ok (.ifCond .eq 7, 3) := dk_153 0 7 (dk_at dksX6_bookLine_1 10 rfl rfl)
theorem dX6_bookLine_36 : decode cX6_bookLine 36 = .ok (.iconst 1, 1) := dk_4 (dk_at dksX6_bookLine_1 13 rfl rfl)
theorem dX6_bookLine_37 : decode cX6_bookLine 37 = .ok (.goto 18, 3) := dk_167 0 18 (dk_at dksX6_bookLine_1 14 rfl rfl)
theorem dX6_bookLine_40 : decode cX6_bookLine 40 = .ok (.aload_n 0, 1) := dk_42 (dk_at dksX6_bookLine_1 17 rfl rfl)
theorem dX6_bookLine_41 : decode cX6_bookLine 41 = .ok (.ldc2_w 119, 3) := dk_20 0 119 (dk_at dksX6_bookLine_1 18 rfl rfl)
theorem dX6_bookLine_44 : decode cX6_bookLine 44 = .ok (.invokevirtual 214, 3) := dk_182 0 214 (dk_at dksX6_bookLine_1 21 rfl rfl)
theorem dX6_bookLine_47 : decode cX6_bookLine 47 = .ok (.ifCond .eq 7, 3) := dk_153 0 7 (dk_at dksX6_bookLine_2 0 rfl rfl)
theorem dX6_bookLine_50 : decode cX6_bookLine 50 = .ok (.iconst 2, 1) := dk_5 (dk_at dksX6_bookLine_2 3 rfl rfl)
theorem dX6_bookLine_51 : decode cX6_bookLine 51 = .ok (.goto 4, 3) := dk_167 0 4 (dk_at dksX6_bookLine_2 4 rfl rfl)
theorem dX6_bookLine_54 : decode cX6_bookLine 54 = .ok (.iconst (-1), 1) := dk_2 (dk_at dksX6_bookLine_2 7 rfl rfl)
theorem dX6_bookLine_55 : decode cX6_bookLine 55 = .ok (.iastore, 1) := dk_79 (dk_at dksX6_bookLine_2 8 rfl rfl)
theorem dX6_bookLine_56 : decode cX6_bookLine 56 = .ok (.aload_n 0, 1) := dk_42 (dk_at dksX6_bookLine_2 9 rfl rfl)
theorem dX6_bookLine_57 : decode cX6_bookLine 57 = .ok (.getfield 43, 3) := dk_180 0 43 (dk_at dksX6_bookLine_2 10 rfl rfl)
theorem dX6_bookLine_60 : decode cX6_bookLine 60 = .ok (.iload_n 1, 1) := dk_27 (dk_at dksX6_bookLine_2 13 rfl rfl)
theorem dX6_bookLine_61 : decode cX6_bookLine 61 = .ok (.iaload, 1) := dk_46 (dk_at dksX6_bookLine_2 14 rfl rfl)
theorem dX6_bookLine_62 : decode cX6_bookLine 62 = .ok (.ifCond .ge 9, 3) := dk_156 0 9 (dk_at dksX6_bookLine_2 15 rfl rfl)
theorem dX6_bookLine_65 : decode cX6_bookLine 65 = .ok (.aload_n 0, 1) := dk_42 (dk_at dksX6_bookLine_2 18 rfl rfl)
theorem dX6_bookLine_66 : decode cX6_bookLine 66 = .ok (.iconst 1, 1) := dk_4 (dk_at dksX6_bookLine_2 19 rfl rfl)
theorem dX6_bookLine_67 : decode cX6_bookLine 67 = .ok (.invokevirtual 183, 3) := dk_182 0 183 (dk_at dksX6_bookLine_2 20 rfl rfl)
theorem dX6_bookLine_70 : decode cX6_bookLine 70 = .ok (.ireturn, 1) := dk_172 (dk_at dksX6_bookLine_2 23 rfl rfl)
theorem dX6_bookLine_71 : decode cX6_bookLine 71 = .ok (.aload_n 0, 1) := dk_42 (dk_at dksX6_bookLine_3 0 rfl rfl)
theorem dX6_bookLine_72 : decode cX6_bookLine 72 = .ok (.getfield 425, 3) := dk_180 1 169 (dk_at dksX6_bookLine_3 1 rfl rfl)
theorem dX6_bookLine_75 : decode cX6_bookLine 75 = .ok (.bipush 40, 2) := dk_16 40 (dk_at dksX6_bookLine_3 4 rfl rfl)
theorem dX6_bookLine_77 : decode cX6_bookLine 77 = .ok (.if_icmp .ne 9, 3) := dk_160 0 9 (dk_at dksX6_bookLine_3 6 rfl rfl)
theorem dX6_bookLine_80 : decode cX6_bookLine 80 = .ok (.aload_n 0, 1) := dk_42 (dk_at dksX6_bookLine_3 9 rfl rfl)
theorem dX6_bookLine_81 : decode cX6_bookLine 81 = .ok (.iconst 4, 1) := dk_7 (dk_at dksX6_bookLine_3 10 rfl rfl)
theorem dX6_bookLine_82 : decode cX6_bookLine 82 = .ok (.invokevirtual 183, 3) := dk_182 0 183 (dk_at dksX6_bookLine_3 11 rfl rfl)
theorem dX6_bookLine_85 : decode cX6_bookLine 85 = .ok (.ireturn, 1) := dk_172 (dk_at dksX6_bookLine_3 14 rfl rfl)
theorem dX6_bookLine_86 : decode cX6_bookLine 86 = .ok (.aload_n 0, 1) := dk_42 (dk_at dksX6_bookLine_3 15 rfl rfl)
theorem dX6_bookLine_87 : decode cX6_bookLine 87 = .ok (.invokevirtual 186, 3) := dk_182 0 186 (dk_at dksX6_bookLine_3 16 rfl rfl)
theorem dX6_bookLine_90 : decode cX6_bookLine 90 = .ok (.aload_n 0, 1) := dk_42 (dk_at dksX6_bookLine_3 19 rfl rfl)
theorem dX6_bookLine_91 : decode cX6_bookLine 91 = .ok (.getfield 43, 3) := dk_180 0 43 (dk_at dksX6_bookLine_3 20 rfl rfl)
theorem dX6_bookLine_94 : decode cX6_bookLine 94 = .ok (.iload_n 1, 1) := dk_27 (dk_at dksX6_bookLine_3 23 rfl rfl)
theorem dX6_bookLine_95 : decode cX6_bookLine 95 = .ok (.iaload, 1) := dk_46 (dk_at dksX6_bookLine_4 0 rfl rfl)
theorem dX6_bookLine_96 : decode cX6_bookLine 96 = .ok (.iconst 2, 1) := dk_5 (dk_at dksX6_bookLine_4 1 rfl rfl)
theorem dX6_bookLine_97 : decode cX6_bookLine 97 = .ok (.if_icmp .ge 31, 3) := dk_162 0 31 (dk_at dksX6_bookLine_4 2 rfl rfl)
theorem dX6_bookLine_100 : decode cX6_bookLine 100 = .ok (.aload_n 0, 1) := dk_42 (dk_at dksX6_bookLine_4 5 rfl rfl)
theorem dX6_bookLine_101 : decode cX6_bookLine 101 = .ok (.iconst 0, 1) := dk_3 (dk_at dksX6_bookLine_4 6 rfl rfl)
theorem dX6_bookLine_102 : decode cX6_bookLine 102 = .ok (.aload_n 0, 1) := dk_42 (dk_at dksX6_bookLine_4 7 rfl rfl)
theorem dX6_bookLine_103 : decode cX6_bookLine 103 = .ok (.getfield 33, 3) := dk_180 0 33 (dk_at dksX6_bookLine_4 8 rfl rfl)
theorem dX6_bookLine_106 : decode cX6_bookLine 106 = .ok (.iconst 1, 1) := dk_4 (dk_at dksX6_bookLine_4 11 rfl rfl)
theorem dX6_bookLine_107 : decode cX6_bookLine 107 = .ok (.iaload, 1) := dk_46 (dk_at dksX6_bookLine_4 12 rfl rfl)
theorem dX6_bookLine_108 : decode cX6_bookLine 108 = .ok (.invokevirtual 218, 3) := dk_182 0 218 (dk_at dksX6_bookLine_4 13 rfl rfl)
theorem dX6_bookLine_111 : decode cX6_bookLine 111 = .ok (.ifCond .ne 5, 3) := dk_154 0 5 (dk_at dksX6_bookLine_4 16 rfl rfl)
theorem dX6_bookLine_114 : decode cX6_bookLine 114 = .ok (.iconst 0, 1) := dk_3 (dk_at dksX6_bookLine_4 19 rfl rfl)
theorem dX6_bookLine_115 : decode cX6_bookLine 115 = .ok (.ireturn, 1) := dk_172 (dk_at dksX6_bookLine_4 20 rfl rfl)
theorem dX6_bookLine_116 : decode cX6_bookLine 116 = .ok (.aload_n 0, 1) := dk_42 (dk_at dksX6_bookLine_4 21 rfl rfl)
theorem dX6_bookLine_117 : decode cX6_bookLine 117 = .ok (.getfield 43, 3) := dk_180 0 43 (dk_at dksX6_bookLine_5 0 rfl rfl)
theorem dX6_bookLine_120 : decode cX6_bookLine 120 = .ok (.iload_n 1, 1) := dk_27 (dk_at dksX6_bookLine_5 3 rfl rfl)
theorem dX6_bookLine_121 : decode cX6_bookLine 121 = .ok (.iconst 1, 1) := dk_4 (dk_at dksX6_bookLine_5 4 rfl rfl)
theorem dX6_bookLine_122 : decode cX6_bookLine 122 = .ok (.iadd, 1) := dk_96 (dk_at dksX6_bookLine_5 5 rfl rfl)
theorem dX6_bookLine_123 : decode cX6_bookLine 123 = .ok (.aload_n 0, 1) := dk_42 (dk_at dksX6_bookLine_5 6 rfl rfl)
theorem dX6_bookLine_124 : decode cX6_bookLine 124 = .ok (.getfield 193, 3) := dk_180 0 193 (dk_at dksX6_bookLine_5 7 rfl rfl)
theorem dX6_bookLine_127 : decode cX6_bookLine 127 = .ok (.iastore, 1) := dk_79 (dk_at dksX6_bookLine_5 10 rfl rfl)
theorem dX6_bookLine_128 : decode cX6_bookLine 128 = .ok (.aload_n 0, 1) := dk_42 (dk_at dksX6_bookLine_5 11 rfl rfl)
theorem dX6_bookLine_129 : decode cX6_bookLine 129 = .ok (.bipush 8, 2) := dk_16 8 (dk_at dksX6_bookLine_5 12 rfl rfl)
theorem dX6_bookLine_131 : decode cX6_bookLine 131 = .ok (.aload_n 0, 1) := dk_42 (dk_at dksX6_bookLine_5 14 rfl rfl)
theorem dX6_bookLine_132 : decode cX6_bookLine 132 = .ok (.getfield 33, 3) := dk_180 0 33 (dk_at dksX6_bookLine_5 15 rfl rfl)
theorem dX6_bookLine_135 : decode cX6_bookLine 135 = .ok (.iconst 2, 1) := dk_5 (dk_at dksX6_bookLine_5 18 rfl rfl)
theorem dX6_bookLine_136 : decode cX6_bookLine 136 = .ok (.iaload, 1) := dk_46 (dk_at dksX6_bookLine_5 19 rfl rfl)
theorem dX6_bookLine_137 : decode cX6_bookLine 137 = .ok (.invokevirtual 218, 3) := dk_182 0 218 (dk_at dksX6_bookLine_5 20 rfl rfl)
theorem dX6_bookLine_140 : decode cX6_bookLine 140 = .ok (.ifCond .ne 5, 3) := dk_154 0 5 (dk_at dksX6_bookLine_6 0 rfl rfl)
theorem dX6_bookLine_143 : decode cX6_bookLine 143 = .ok (.iconst 0, 1) := dk_3 (dk_at dksX6_bookLine_6 3 rfl rfl)
theorem dX6_bookLine_144 : decode cX6_bookLine 144 = .ok (.ireturn, 1) := dk_172 (dk_at dksX6_bookLine_6 4 rfl rfl)
theorem dX6_bookLine_145 : decode cX6_bookLine 145 = .ok (.aload_n 0, 1) := dk_42 (dk_at dksX6_bookLine_6 5 rfl rfl)
theorem dX6_bookLine_146 : decode cX6_bookLine 146 = .ok (.getfield 43, 3) := dk_180 0 43 (dk_at dksX6_bookLine_6 6 rfl rfl)
theorem dX6_bookLine_149 : decode cX6_bookLine 149 = .ok (.iload_n 1, 1) := dk_27 (dk_at dksX6_bookLine_6 9 rfl rfl)
theorem dX6_bookLine_150 : decode cX6_bookLine 150 = .ok (.iconst 2, 1) := dk_5 (dk_at dksX6_bookLine_6 10 rfl rfl)
theorem dX6_bookLine_151 : decode cX6_bookLine 151 = .ok (.iadd, 1) := dk_96 (dk_at dksX6_bookLine_6 11 rfl rfl)
theorem dX6_bookLine_152 : decode cX6_bookLine 152 = .ok (.aload_n 0, 1) := dk_42 (dk_at dksX6_bookLine_6 12 rfl rfl)
theorem dX6_bookLine_153 : decode cX6_bookLine 153 = .ok (.getfield 193, 3) := dk_180 0 193 (dk_at dksX6_bookLine_6 13 rfl rfl)
theorem dX6_bookLine_156 : decode cX6_bookLine 156 = .ok (.iastore, 1) := dk_79 (dk_at dksX6_bookLine_6 16 rfl rfl)
theorem dX6_bookLine_157 : decode cX6_bookLine 157 = .ok (.aload_n 0, 1) := dk_42 (dk_at dksX6_bookLine_6 17 rfl rfl)
theorem dX6_bookLine_158 : decode cX6_bookLine 158 = .ok (.getfield 43, 3) := dk_180 0 43 (dk_at dksX6_bookLine_6 18 rfl rfl)
theorem dX6_bookLine_161 : decode cX6_bookLine 161 = .ok (.iload_n 1, 1) := dk_27 (dk_at dksX6_bookLine_6 21 rfl rfl)
theorem dX6_bookLine_162 : decode cX6_bookLine 162 = .ok (.iaload, 1) := dk_46 (dk_at dksX6_bookLine_6 22 rfl rfl)
theorem dX6_bookLine_163 : decode cX6_bookLine 163 = .ok (.ifCond .le 5, 3) := dk_158 0 5 (dk_at dksX6_bookLine_7 0 rfl rfl)
theorem dX6_bookLine_166 : decode cX6_bookLine 166 = .ok (.iconst 1, 1) := dk_4 (dk_at dksX6_bookLine_7 3 rfl rfl)
theorem dX6_bookLine_167 : decode cX6_bookLine 167 = .ok (.ireturn, 1) := dk_172 (dk_at dksX6_bookLine_7 4 rfl rfl)
theorem dX6_bookLine_168 : decode cX6_bookLine 168 = .ok (.aload_n 0, 1) := dk_42 (dk_at dksX6_bookLine_7 5 rfl rfl)
theorem dX6_bookLine_169 : decode cX6_bookLine 169 = .ok (.bipush 8, 2) := dk_16 8 (dk_at dksX6_bookLine_7 6 rfl rfl)
theorem dX6_bookLine_171 : decode cX6_bookLine 171 = .ok (.aload_n 0, 1) := dk_42 (dk_at dksX6_bookLine_7 8 rfl rfl)
theorem dX6_bookLine_172 : decode cX6_bookLine 172 = .ok (.getfield 33, 3) := dk_180 0 33 (dk_at dksX6_bookLine_7 9 rfl rfl)
theorem dX6_bookLine_175 : decode cX6_bookLine 175 = .ok (.iconst 2, 1) := dk_5 (dk_at dksX6_bookLine_7 12 rfl rfl)
theorem dX6_bookLine_176 : decode cX6_bookLine 176 = .ok (.iaload, 1) := dk_46 (dk_at dksX6_bookLine_7 13 rfl rfl)
theorem dX6_bookLine_177 : decode cX6_bookLine 177 = .ok (.invokevirtual 218, 3) := dk_182 0 218 (dk_at dksX6_bookLine_7 14 rfl rfl)
theorem dX6_bookLine_180 : decode cX6_bookLine 180 = .ok (.ifCond .ne 5, 3) := dk_154 0 5 (dk_at dksX6_bookLine_7 17 rfl rfl)
theorem dX6_bookLine_183 : decode cX6_bookLine 183 = .ok (.iconst 0, 1) := dk_3 (dk_at dksX6_bookLine_7 20 rfl rfl)
theorem dX6_bookLine_184 : decode cX6_bookLine 184 = .ok (.ireturn, 1) := dk_172 (dk_at dksX6_bookLine_7 21 rfl rfl)
theorem dX6_bookLine_185 : decode cX6_bookLine 185 = .ok (.aload_n 0, 1) := dk_42 (dk_at dksX6_bookLine_7 22 rfl rfl)
theorem dX6_bookLine_186 : decode cX6_bookLine 186 = .ok (.getfield 43, 3) := dk_180 0 43 (dk_at dksX6_bookLine_8 0 rfl rfl)
theorem dX6_bookLine_189 : decode cX6_bookLine 189 = .ok (.iload_n 1, 1) := dk_27 (dk_at dksX6_bookLine_8 3 rfl rfl)
theorem dX6_bookLine_190 : decode cX6_bookLine 190 = .ok (.iconst 3, 1) := dk_6 (dk_at dksX6_bookLine_8 4 rfl rfl)
theorem dX6_bookLine_191 : decode cX6_bookLine 191 = .ok (.iadd, 1) := dk_96 (dk_at dksX6_bookLine_8 5 rfl rfl)
theorem dX6_bookLine_192 : decode cX6_bookLine 192 = .ok (.aload_n 0, 1) := dk_42 (dk_at dksX6_bookLine_8 6 rfl rfl)
theorem dX6_bookLine_193 : decode cX6_bookLine 193 = .ok (.getfield 193, 3) := dk_180 0 193 (dk_at dksX6_bookLine_8 7 rfl rfl)
theorem dX6_bookLine_196 : decode cX6_bookLine 196 = .ok (.iastore, 1) := dk_79 (dk_at dksX6_bookLine_8 10 rfl rfl)
theorem dX6_bookLine_197 : decode cX6_bookLine 197 = .ok (.iconst 1, 1) := dk_4 (dk_at dksX6_bookLine_8 11 rfl rfl)
theorem dX6_bookLine_198 : decode cX6_bookLine 198 = .ok (.ireturn, 1) := dk_172 (dk_at dksX6_bookLine_8 12 rfl rfl)
abbrev cX6_does : ByteArray := prog_25_method_98_code
def yX6_does : MethodName := ⟨RX6, "does", "(I)I"⟩
def dkwX6_does_5 : List UInt8 := [3, 172]
abbrev dktX6_does_5 : List UInt8 := dkwX6_does_5 ++ []
def dkwX6_does_4 : List UInt8 := [182, 1, 101, 3, 172, 42, 180, 0, 33, 5, 46, 16, 20, 160, 0, 6, 16, 21, 172, 42, 29, 182, 1, 105]
abbrev dktX6_does_4 : List UInt8 := dkwX6_does_4 ++ dktX6_does_5
def dkwX6_does_3 : List UInt8 := [160, 0, 28, 42, 180, 0, 33, 17, 0, 216, 28, 96, 46, 29, 160, 0, 6, 16, 11, 172, 42, 28, 29]
abbrev dktX6_does_3 : List UInt8 := dkwX6_does_3 ++ dktX6_does_4
def dkwX6_does_2 : List UInt8 := [42, 28, 29, 42, 180, 0, 43, 27, 6, 96, 46, 182, 1, 97, 21, 4, 172, 42, 180, 0, 43, 27, 46, 4]
abbrev dktX6_does_2 : List UInt8 := dkwX6_does_2 ++ dktX6_does_3
def dkwX6_does_1 : List UInt8 := [154, 0, 41, 42, 28, 29, 42, 180, 0, 43, 27, 6, 96, 46, 182, 1, 91, 54, 4, 21, 4, 154, 0, 17]
abbrev dktX6_does_1 : List UInt8 := dkwX6_does_1 ++ dktX6_does_2
def dkwX6_does_0 : List UInt8 := [42, 180, 0, 43, 27, 4, 96, 46, 61, 42, 180, 0, 43, 27, 5, 96, 46, 62, 42, 180, 0, 43, 27, 46]
abbrev dktX6_does_0 : List UInt8 := dkwX6_does_0 ++ dktX6_does_1
theorem dksX6_does_0 : cX6_does.data.toList.drop 0 = dktX6_does_0 := by decide +kernel
theorem dksX6_does_1 : cX6_does.data.toList.drop 24 = dktX6_does_1 := dk_seg dksX6_does_0 24 rfl rfl
theorem dksX6_does_2 : cX6_does.data.toList.drop 48 = dktX6_does_2 := dk_seg dksX6_does_1 24 rfl rfl
theorem dksX6_does_3 : cX6_does.data.toList.drop 72 = dktX6_does_3 := dk_seg dksX6_does_2 24 rfl rfl
theorem dksX6_does_4 : cX6_does.data.toList.drop 95 = dktX6_does_4 := dk_seg dksX6_does_3 23 rfl rfl
theorem dksX6_does_5 : cX6_does.data.toList.drop 119 = dktX6_does_5 := dk_seg dksX6_does_4 24 rfl rfl
theorem dX6_does_0 : decode cX6_does 0 = .ok (.aload_n 0, 1) := dk_42 (dk_at dksX6_does_0 0 rfl rfl)
theorem dX6_does_1 : decode cX6_does 1 = .ok (.getfield 43, 3) := dk_180 0 43 (dk_at dksX6_does_0 1 rfl rfl)
theorem dX6_does_4 : decode cX6_does 4 = .ok (.iload_n 1, 1) := dk_27 (dk_at dksX6_does_0 4 rfl rfl)
theorem dX6_does_5 : decode cX6_does 5 = .ok (.iconst 1, 1) := dk_4 (dk_at dksX6_does_0 5 rfl rfl)
theorem dX6_does_6 : decode cX6_does 6 = .ok (.iadd, 1) := dk_96 (dk_at dksX6_does_0 6 rfl rfl)
theorem dX6_does_7 : decode cX6_does 7 = .ok (.iaload, 1) := dk_46 (dk_at dksX6_does_0 7 rfl rfl)
theorem dX6_does_8 : decode cX6_does 8 = .ok (.istore_n 2, 1) := dk_61 (dk_at dksX6_does_0 8 rfl rfl)
theorem dX6_does_9 : decode cX6_does 9 = .ok (.aload_n 0, 1) := dk_42 (dk_at dksX6_does_0 9 rfl rfl)
theorem dX6_does_10 : decode cX6_does 10 = .ok (.getfield 43, 3) := dk_180 0 43 (dk_at dksX6_does_0 10 rfl rfl)
theorem dX6_does_13 : decode cX6_does 13 = .ok (.iload_n 1, 1) := dk_27 (dk_at dksX6_does_0 13 rfl rfl)
theorem dX6_does_14 : decode cX6_does 14 = .ok (.iconst 2, 1) := dk_5 (dk_at dksX6_does_0 14 rfl rfl)
theorem dX6_does_15 : decode cX6_does 15 = .ok (.iadd, 1) := dk_96 (dk_at dksX6_does_0 15 rfl rfl)
theorem dX6_does_16 : decode cX6_does 16 = .ok (.iaload, 1) := dk_46 (dk_at dksX6_does_0 16 rfl rfl)
theorem dX6_does_17 : decode cX6_does 17 = .ok (.istore_n 3, 1) := dk_62 (dk_at dksX6_does_0 17 rfl rfl)
theorem dX6_does_18 : decode cX6_does 18 = .ok (.aload_n 0, 1) := dk_42 (dk_at dksX6_does_0 18 rfl rfl)
theorem dX6_does_19 : decode cX6_does 19 = .ok (.getfield 43, 3) := dk_180 0 43 (dk_at dksX6_does_0 19 rfl rfl)
theorem dX6_does_22 : decode cX6_does 22 = .ok (.iload_n 1, 1) := dk_27 (dk_at dksX6_does_0 22 rfl rfl)
theorem dX6_does_23 : decode cX6_does 23 = .ok (.iaload, 1) := dk_46 (dk_at dksX6_does_0 23 rfl rfl)
theorem dX6_does_24 : decode cX6_does 24 = .ok (.ifCond .ne 41, 3) := dk_154 0 41 (dk_at dksX6_does_1 0 rfl rfl)
theorem dX6_does_27 : decode cX6_does 27 = .ok (.aload_n 0, 1) := dk_42 (dk_at dksX6_does_1 3 rfl rfl)
theorem dX6_does_28 : decode cX6_does 28 = .ok (.iload_n 2, 1) := dk_28 (dk_at dksX6_does_1 4 rfl rfl)
theorem dX6_does_29 : decode cX6_does 29 = .ok (.iload_n 3, 1) := dk_29 (dk_at dksX6_does_1 5 rfl rfl)
theorem dX6_does_30 : decode cX6_does 30 = .ok (.aload_n 0, 1) := dk_42 (dk_at dksX6_does_1 6 rfl rfl)
theorem dX6_does_31 : decode cX6_does 31 = .ok (.getfield 43, 3) := dk_180 0 43 (dk_at dksX6_does_1 7 rfl rfl)
theorem dX6_does_34 : decode cX6_does 34 = .ok (.iload_n 1, 1) := dk_27 (dk_at dksX6_does_1 10 rfl rfl)
theorem dX6_does_35 : decode cX6_does 35 = .ok (.iconst 3, 1) := dk_6 (dk_at dksX6_does_1 11 rfl rfl)
theorem dX6_does_36 : decode cX6_does 36 = .ok (.iadd, 1) := dk_96 (dk_at dksX6_does_1 12 rfl rfl)
theorem dX6_does_37 : decode cX6_does 37 = .ok (.iaload, 1) := dk_46 (dk_at dksX6_does_1 13 rfl rfl)
theorem dX6_does_38 : decode cX6_does 38 = .ok (.invokevirtual 347, 3) := dk_182 1 91 (dk_at dksX6_does_1 14 rfl rfl)
theorem dX6_does_41 : decode cX6_does 41 = .ok (.istore 4, 2) := dk_54 4 (dk_at dksX6_does_1 17 rfl rfl)
theorem dX6_does_43 : decode cX6_does 43 = .ok (.iload 4, 2) := dk_21 4 (dk_at dksX6_does_1 19 rfl rfl)
theorem dX6_does_45 : decode cX6_does 45 = .ok (.ifCond .ne 17, 3) := dk_154 0 17 (dk_at dksX6_does_1 21 rfl rfl)
theorem dX6_does_48 : decode cX6_does 48 = .ok (.aload_n 0, 1) := dk_42 (dk_at dksX6_does_2 0 rfl rfl)
theorem dX6_does_49 : decode cX6_does 49 = .ok (.iload_n 2, 1) := dk_28 (dk_at dksX6_does_2 1 rfl rfl)
theorem dX6_does_50 : decode cX6_does 50 = .ok (.iload_n 3, 1) := dk_29 (dk_at dksX6_does_2 2 rfl rfl)
theorem dX6_does_51 : decode cX6_does 51 = .ok (.aload_n 0, 1) := dk_42 (dk_at dksX6_does_2 3 rfl rfl)
theorem dX6_does_52 : decode cX6_does 52 = .ok (.getfield 43, 3) := dk_180 0 43 (dk_at dksX6_does_2 4 rfl rfl)
theorem dX6_does_55 : decode cX6_does 55 = .ok (.iload_n 1, 1) := dk_27 (dk_at dksX6_does_2 7 rfl rfl)
theorem dX6_does_56 : decode cX6_does 56 = .ok (.iconst 3, 1) := dk_6 (dk_at dksX6_does_2 8 rfl rfl)
theorem dX6_does_57 : decode cX6_does 57 = .ok (.iadd, 1) := dk_96 (dk_at dksX6_does_2 9 rfl rfl)
theorem dX6_does_58 : decode cX6_does 58 = .ok (.iaload, 1) := dk_46 (dk_at dksX6_does_2 10 rfl rfl)
theorem dX6_does_59 : decode cX6_does 59 = .ok (.invokevirtual 353, 3) := dk_182 1 97 (dk_at dksX6_does_2 11 rfl rfl)
theorem dX6_does_62 : decode cX6_does 62 = .ok (.iload 4, 2) := dk_21 4 (dk_at dksX6_does_2 14 rfl rfl)
theorem dX6_does_64 : decode cX6_does 64 = .ok (.ireturn, 1) := dk_172 (dk_at dksX6_does_2 16 rfl rfl)
theorem dX6_does_65 : decode cX6_does 65 = .ok (.aload_n 0, 1) := dk_42 (dk_at dksX6_does_2 17 rfl rfl)
theorem dX6_does_66 : decode cX6_does 66 = .ok (.getfield 43, 3) := dk_180 0 43 (dk_at dksX6_does_2 18 rfl rfl)
theorem dX6_does_69 : decode cX6_does 69 = .ok (.iload_n 1, 1) := dk_27 (dk_at dksX6_does_2 21 rfl rfl)
theorem dX6_does_70 : decode cX6_does 70 = .ok (.iaload, 1) := dk_46 (dk_at dksX6_does_2 22 rfl rfl)
theorem dX6_does_71 : decode cX6_does 71 = .ok (.iconst 1, 1) := dk_4 (dk_at dksX6_does_2 23 rfl rfl)
theorem dX6_does_72 : decode cX6_does 72 = .ok (.if_icmp .ne 28, 3) := dk_160 0 28 (dk_at dksX6_does_3 0 rfl rfl)
theorem dX6_does_75 : decode cX6_does 75 = .ok (.aload_n 0, 1) := dk_42 (dk_at dksX6_does_3 3 rfl rfl)
theorem dX6_does_76 : decode cX6_does 76 = .ok (.getfield 33, 3) := dk_180 0 33 (dk_at dksX6_does_3 4 rfl rfl)
theorem dX6_does_79 : decode cX6_does 79 = .ok (.sipush 216, 3) := dk_17 0 216 (dk_at dksX6_does_3 7 rfl rfl)
theorem dX6_does_82 : decode cX6_does 82 = .ok (.iload_n 2, 1) := dk_28 (dk_at dksX6_does_3 10 rfl rfl)
theorem dX6_does_83 : decode cX6_does 83 = .ok (.iadd, 1) := dk_96 (dk_at dksX6_does_3 11 rfl rfl)
theorem dX6_does_84 : decode cX6_does 84 = .ok (.iaload, 1) := dk_46 (dk_at dksX6_does_3 12 rfl rfl)
theorem dX6_does_85 : decode cX6_does 85 = .ok (.iload_n 3, 1) := dk_29 (dk_at dksX6_does_3 13 rfl rfl)
theorem dX6_does_86 : decode cX6_does 86 = .ok (.if_icmp .ne 6, 3) := dk_160 0 6 (dk_at dksX6_does_3 14 rfl rfl)
theorem dX6_does_89 : decode cX6_does 89 = .ok (.bipush 11, 2) := dk_16 11 (dk_at dksX6_does_3 17 rfl rfl)
theorem dX6_does_91 : decode cX6_does 91 = .ok (.ireturn, 1) := dk_172 (dk_at dksX6_does_3 19 rfl rfl)
theorem dX6_does_92 : decode cX6_does 92 = .ok (.aload_n 0, 1) := dk_42 (dk_at dksX6_does_3 20 rfl rfl)
theorem dX6_does_93 : decode cX6_does 93 = .ok (.iload_n 2, 1) := dk_28 (dk_at dksX6_does_3 21 rfl rfl)
theorem dX6_does_94 : decode cX6_does 94 = .ok (.iload_n 3, 1) := dk_29 (dk_at dksX6_does_3 22 rfl rfl)
theorem dX6_does_95 : decode cX6_does 95 = .ok (.invokevirtual 357, 3) := dk_182 1 101 (dk_at dksX6_does_4 0 rfl rfl)
theorem dX6_does_98 : decode cX6_does 98 = .ok (.iconst 0, 1) := dk_3 (dk_at dksX6_does_4 3 rfl rfl)
theorem dX6_does_99 : decode cX6_does 99 = .ok (.ireturn, 1) := dk_172 (dk_at dksX6_does_4 4 rfl rfl)
theorem dX6_does_100 : decode cX6_does 100 = .ok (.aload_n 0, 1) := dk_42 (dk_at dksX6_does_4 5 rfl rfl)
theorem dX6_does_101 : decode cX6_does 101 = .ok (.getfield 33, 3) := dk_180 0 33 (dk_at dksX6_does_4 6 rfl rfl)
theorem dX6_does_104 : decode cX6_does 104 = .ok (.iconst 2, 1) := dk_5 (dk_at dksX6_does_4 9 rfl rfl)
theorem dX6_does_105 : decode cX6_does 105 = .ok (.iaload, 1) := dk_46 (dk_at dksX6_does_4 10 rfl rfl)
theorem dX6_does_106 : decode cX6_does 106 = .ok (.bipush 20, 2) := dk_16 20 (dk_at dksX6_does_4 11 rfl rfl)
theorem dX6_does_108 : decode cX6_does 108 = .ok (.if_icmp .ne 6, 3) := dk_160 0 6 (dk_at dksX6_does_4 13 rfl rfl)
theorem dX6_does_111 : decode cX6_does 111 = .ok (.bipush 21, 2) := dk_16 21 (dk_at dksX6_does_4 16 rfl rfl)
theorem dX6_does_113 : decode cX6_does 113 = .ok (.ireturn, 1) := dk_172 (dk_at dksX6_does_4 18 rfl rfl)
theorem dX6_does_114 : decode cX6_does 114 = .ok (.aload_n 0, 1) := dk_42 (dk_at dksX6_does_4 19 rfl rfl)
theorem dX6_does_115 : decode cX6_does 115 = .ok (.iload_n 3, 1) := dk_29 (dk_at dksX6_does_4 20 rfl rfl)
theorem dX6_does_116 : decode cX6_does 116 = .ok (.invokevirtual 361, 3) := dk_182 1 105 (dk_at dksX6_does_4 21 rfl rfl)
theorem dX6_does_119 : decode cX6_does 119 = .ok (.iconst 0, 1) := dk_3 (dk_at dksX6_does_5 0 rfl rfl)
theorem dX6_does_120 : decode cX6_does 120 = .ok (.ireturn, 1) := dk_172 (dk_at dksX6_does_5 1 rfl rfl)
abbrev cX6_told : ByteArray := prog_25_method_100_code
def yX6_told : MethodName := ⟨RX6, "told", "(I)I"⟩
def dkwX6_told_1 : List UInt8 := [180, 0, 86, 27, 46, 167, 0, 4, 2, 172]
abbrev dktX6_told_1 : List UInt8 := dkwX6_told_1 ++ []
def dkwX6_told_0 : List UInt8 := [42, 3, 181, 0, 1, 42, 180, 1, 178, 153, 0, 21, 27, 3, 6, 184, 0, 189, 153, 0, 12, 42]
abbrev dktX6_told_0 : List UInt8 := dkwX6_told_0 ++ dktX6_told_1
theorem dksX6_told_0 : cX6_told.data.toList.drop 0 = dktX6_told_0 := by decide +kernel
theorem dksX6_told_1 : cX6_told.data.toList.drop 22 = dktX6_told_1 := dk_seg dksX6_told_0 22 rfl rfl
theorem dX6_told_0 : decode cX6_told 0 = .ok (.aload_n 0, 1) := dk_42 (dk_at dksX6_told_0 0 rfl rfl)
theorem dX6_told_1 : decode cX6_told 1 = .ok (.iconst 0, 1) := dk_3 (dk_at dksX6_told_0 1 rfl rfl)
theorem dX6_told_2 : decode cX6_told 2 = .ok (.putfield 1, 3) := dk_181 0 1 (dk_at dksX6_told_0 2 rfl rfl)
theorem dX6_told_5 : decode cX6_told 5 = .ok (.aload_n 0, 1) := dk_42 (dk_at dksX6_told_0 5 rfl rfl)
theorem dX6_told_6 : decode cX6_told 6 = .ok (.getfield 434, 3) := dk_180 1 178 (dk_at dksX6_told_0 6 rfl rfl)
theorem dX6_told_9 : decode cX6_told 9 = .ok (.ifCond .eq 21, 3) := dk_153 0 21 (dk_at dksX6_told_0 9 rfl rfl)
theorem dX6_told_12 : decode cX6_told 12 = .ok (.iload_n 1, 1) := dk_27 (dk_at dksX6_told_0 12 rfl rfl)
theorem dX6_told_13 : decode cX6_told 13 = .ok (.iconst 0, 1) := dk_3 (dk_at dksX6_told_0 13 rfl rfl)
theorem dX6_told_14 : decode cX6_told 14 = .ok (.iconst 3, 1) := dk_6 (dk_at dksX6_told_0 14 rfl rfl)
theorem dX6_told_15 : decode cX6_told 15 = .ok (.invokestatic 189, 3) := dk_184 0 189 (dk_at dksX6_told_0 15 rfl rfl)
theorem dX6_told_18 : decode cX6_told 18 = .ok (.ifCond .eq 12, 3) := dk_153 0 12 (dk_at dksX6_told_0 18 rfl rfl)
theorem dX6_told_21 : decode cX6_told 21 = .ok (.aload_n 0, 1) := dk_42 (dk_at dksX6_told_0 21 rfl rfl)
theorem dX6_told_22 : decode cX6_told 22 = .ok (.getfield 86, 3) := dk_180 0 86 (dk_at dksX6_told_1 0 rfl rfl)
theorem dX6_told_25 : decode cX6_told 25 = .ok (.iload_n 1, 1) := dk_27 (dk_at dksX6_told_1 3 rfl rfl)
theorem dX6_told_26 : decode cX6_told 26 = .ok (.iaload, 1) := dk_46 (dk_at dksX6_told_1 4 rfl rfl)
theorem dX6_told_27 : decode cX6_told 27 = .ok (.goto 4, 3) := dk_167 0 4 (dk_at dksX6_told_1 5 rfl rfl)
theorem dX6_told_30 : decode cX6_told 30 = .ok (.iconst (-1), 1) := dk_2 (dk_at dksX6_told_1 8 rfl rfl)
theorem dX6_told_31 : decode cX6_told 31 = .ok (.ireturn, 1) := dk_172 (dk_at dksX6_told_1 9 rfl rfl)
abbrev cX6_sentence : ByteArray := prog_25_method_107_code
def yX6_sentence : MethodName := ⟨RX6, "sentence", "()I"⟩
def dkwX6_sentence_7 : List UInt8 := [180, 0, 40, 28, 46, 79, 132, 2, 1, 167, 255, 227, 42, 180, 1, 196, 172]
abbrev dktX6_sentence_7 : List UInt8 := dkwX6_sentence_7 ++ []
def dkwX6_sentence_6 : List UInt8 := [79, 3, 61, 28, 6, 42, 180, 1, 181, 104, 162, 0, 25, 42, 180, 0, 33, 17, 0, 225, 28, 96, 42]
abbrev dktX6_sentence_6 : List UInt8 := dkwX6_sentence_6 ++ dktX6_sentence_7
def dkwX6_sentence_5 : List UInt8 := [182, 1, 211, 154, 255, 182, 2, 42, 180, 0, 177, 100, 172, 42, 180, 0, 33, 17, 0, 224, 42, 180, 1, 181]
abbrev dktX6_sentence_5 : List UInt8 := dkwX6_sentence_5 ++ dktX6_sentence_6
def dkwX6_sentence_4 : List UInt8 := [172, 3, 60, 167, 255, 206, 42, 180, 1, 199, 153, 0, 13, 42, 182, 1, 208, 154, 255, 192, 167, 0, 10, 42]
abbrev dktX6_sentence_4 : List UInt8 := dkwX6_sentence_4 ++ dktX6_sentence_5
def dkwX6_sentence_3 : List UInt8 := [16, 22, 182, 1, 205, 42, 180, 1, 184, 158, 0, 16, 42, 4, 182, 0, 183, 87, 2, 42, 180, 0, 177, 100]
abbrev dktX6_sentence_3 : List UInt8 := dkwX6_sentence_3 ++ dktX6_sentence_4
def dkwX6_sentence_2 : List UInt8 := [27, 153, 0, 83, 42, 180, 1, 199, 153, 0, 45, 42, 180, 0, 157, 154, 0, 38, 42, 182, 1, 202, 42]
abbrev dktX6_sentence_2 : List UInt8 := dkwX6_sentence_2 ++ dktX6_sentence_3
def dkwX6_sentence_1 : List UInt8 := [181, 1, 196, 42, 3, 181, 1, 184, 42, 4, 181, 1, 190, 42, 3, 181, 1, 199, 42, 182, 0, 186, 4, 60]
abbrev dktX6_sentence_1 : List UInt8 := dkwX6_sentence_1 ++ dktX6_sentence_2
def dkwX6_sentence_0 : List UInt8 := [42, 3, 181, 0, 1, 42, 17, 0, 200, 182, 0, 230, 42, 3, 181, 0, 174, 42, 3, 181, 1, 181, 42, 3]
abbrev dktX6_sentence_0 : List UInt8 := dkwX6_sentence_0 ++ dktX6_sentence_1
theorem dksX6_sentence_0 : cX6_sentence.data.toList.drop 0 = dktX6_sentence_0 := by decide +kernel
theorem dksX6_sentence_1 : cX6_sentence.data.toList.drop 24 = dktX6_sentence_1 := dk_seg dksX6_sentence_0 24 rfl rfl
theorem dksX6_sentence_2 : cX6_sentence.data.toList.drop 48 = dktX6_sentence_2 := dk_seg dksX6_sentence_1 24 rfl rfl
theorem dksX6_sentence_3 : cX6_sentence.data.toList.drop 71 = dktX6_sentence_3 := dk_seg dksX6_sentence_2 23 rfl rfl
theorem dksX6_sentence_4 : cX6_sentence.data.toList.drop 95 = dktX6_sentence_4 := dk_seg dksX6_sentence_3 24 rfl rfl
theorem dksX6_sentence_5 : cX6_sentence.data.toList.drop 119 = dktX6_sentence_5 := dk_seg dksX6_sentence_4 24 rfl rfl
theorem dksX6_sentence_6 : cX6_sentence.data.toList.drop 143 = dktX6_sentence_6 := dk_seg dksX6_sentence_5 24 rfl rfl
theorem dksX6_sentence_7 : cX6_sentence.data.toList.drop 166 = dktX6_sentence_7 := dk_seg dksX6_sentence_6 23 rfl rfl
theorem dX6_sentence_0 : decode cX6_sentence 0 = .ok (.aload_n 0, 1) := dk_42 (dk_at dksX6_sentence_0 0 rfl rfl)
theorem dX6_sentence_1 : decode cX6_sentence 1 = .ok (.iconst 0, 1) := dk_3 (dk_at dksX6_sentence_0 1 rfl rfl)
theorem dX6_sentence_2 : decode cX6_sentence 2 = .ok (.putfield 1, 3) := dk_181 0 1 (dk_at dksX6_sentence_0 2 rfl rfl)
theorem dX6_sentence_5 : decode cX6_sentence 5 = .ok (.aload_n 0, 1) := dk_42 (dk_at dksX6_sentence_0 5 rfl rfl)
theorem dX6_sentence_6 : decode cX6_sentence 6 = .ok (.sipush 200, 3) := dk_17 0 200 (dk_at dksX6_sentence_0 6 rfl rfl)
theorem dX6_sentence_9 : decode cX6_sentence 9 = .ok (.invokevirtual 230, 3) := dk_182 0 230 (dk_at dksX6_sentence_0 9 rfl rfl)
theorem dX6_sentence_12 : decode cX6_sentence 12 = .ok (.aload_n 0, 1) := dk_42 (dk_at dksX6_sentence_0 12 rfl rfl)
theorem dX6_sentence_13 : decode cX6_sentence 13 = .ok (.iconst 0, 1) := dk_3 (dk_at dksX6_sentence_0 13 rfl rfl)
theorem dX6_sentence_14 : decode cX6_sentence 14 = .ok (.putfield 174, 3) := dk_181 0 174 (dk_at dksX6_sentence_0 14 rfl rfl)
theorem dX6_sentence_17 : decode cX6_sentence 17 = .ok (.aload_n 0, 1) := dk_42 (dk_at dksX6_sentence_0 17 rfl rfl)
theorem dX6_sentence_18 : decode cX6_sentence 18 = .ok (.iconst 0, 1) := dk_3 (dk_at dksX6_sentence_0 18 rfl rfl)
theorem dX6_sentence_19 : decode cX6_sentence 19 = .ok (.putfield 437, 3) := dk_181 1 181 (dk_at dksX6_sentence_0 19 rfl rfl)
theorem dX6_sentence_22 : decode cX6_sentence 22 = .ok (.aload_n 0, 1) := dk_42 (dk_at dksX6_sentence_0 22 rfl rfl)
theorem dX6_sentence_23 : decode cX6_sentence 23 = .ok (.iconst 0, 1) := dk_3 (dk_at dksX6_sentence_0 23 rfl rfl)
theorem dX6_sentence_24 : decode cX6_sentence 24 = .ok (.putfield 452, 3) := dk_181 1 196 (dk_at dksX6_sentence_1 0 rfl rfl)
theorem dX6_sentence_27 : decode cX6_sentence 27 = .ok (.aload_n 0, 1) := dk_42 (dk_at dksX6_sentence_1 3 rfl rfl)
theorem dX6_sentence_28 : decode cX6_sentence 28 = .ok (.iconst 0, 1) := dk_3 (dk_at dksX6_sentence_1 4 rfl rfl)
theorem dX6_sentence_29 : decode cX6_sentence 29 = .ok (.putfield 440, 3) := dk_181 1 184 (dk_at dksX6_sentence_1 5 rfl rfl)
theorem dX6_sentence_32 : decode cX6_sentence 32 = .ok (.aload_n 0, 1) := dk_42 (dk_at dksX6_sentence_1 8 rfl rfl)
theorem dX6_sentence_33 : decode cX6_sentence 33 = .ok (.iconst 1, 1) := dk_4 (dk_at dksX6_sentence_1 9 rfl rfl)
theorem dX6_sentence_34 : decode cX6_sentence 34 = .ok (.putfield 446, 3) := dk_181 1 190 (dk_at dksX6_sentence_1 10 rfl rfl)
theorem dX6_sentence_37 : decode cX6_sentence 37 = .ok (.aload_n 0, 1) := dk_42 (dk_at dksX6_sentence_1 13 rfl rfl)
theorem dX6_sentence_38 : decode cX6_sentence 38 = .ok (.iconst 0, 1) := dk_3 (dk_at dksX6_sentence_1 14 rfl rfl)
theorem dX6_sentence_39 : decode cX6_sentence 39 = .ok (.putfield 455, 3) := dk_181 1 199 (dk_at dksX6_sentence_1 15 rfl rfl)
theorem dX6_sentence_42 : decode cX6_sentence 42 = .ok (.aload_n 0, 1) := dk_42 (dk_at dksX6_sentence_1 18 rfl rfl)
theorem dX6_sentence_43 : decode cX6_sentence 43 = .ok (.invokevirtual 186, 3) := dk_182 0 186 (dk_at dksX6_sentence_1 19 rfl rfl)
theorem dX6_sentence_46 : decode cX6_sentence 46 = .ok (.iconst 1, 1) := dk_4 (dk_at dksX6_sentence_1 22 rfl rfl)
theorem dX6_sentence_47 : decode cX6_sentence 47 = .ok (.istore_n 1, 1) := dk_60 (dk_at dksX6_sentence_1 23 rfl rfl)
theorem dX6_sentence_48 : decode cX6_sentence 48 = .ok (.iload_n 1, 1) := dk_27 (dk_at dksX6_sentence_2 0 rfl rfl)
theorem dX6_sentence_49 : decode cX6_sentence 49 = .ok (.ifCond .eq 83, 3) := dk_153 0 83 (dk_at dksX6_sentence_2 1 rfl rfl)
theorem dX6_sentence_52 : decode cX6_sentence 52 = .ok (.aload_n 0, 1) := dk_42 (dk_at dksX6_sentence_2 4 rfl rfl)
theorem dX6_sentence_53 : decode cX6_sentence 53 = .ok (.getfield 455, 3) := dk_180 1 199 (dk_at dksX6_sentence_2 5 rfl rfl)
theorem dX6_sentence_56 : decode cX6_sentence 56 = .ok (.ifCond .eq 45, 3) := dk_153 0 45 (dk_at dksX6_sentence_2 8 rfl rfl)
theorem dX6_sentence_59 : decode cX6_sentence 59 = .ok (.aload_n 0, 1) := dk_42 (dk_at dksX6_sentence_2 11 rfl rfl)
theorem dX6_sentence_60 : decode cX6_sentence 60 = .ok (.getfield 157, 3) := dk_180 0 157 (dk_at dksX6_sentence_2 12 rfl rfl)
theorem dX6_sentence_63 : decode cX6_sentence 63 = .ok (.ifCond .ne 38, 3) := dk_154 0 38 (dk_at dksX6_sentence_2 15 rfl rfl)
theorem dX6_sentence_66 : decode cX6_sentence 66 = .ok (.aload_n 0, 1) := dk_42 (dk_at dksX6_sentence_2 18 rfl rfl)
theorem dX6_sentence_67 : decode cX6_sentence 67 = .ok (.invokevirtual 458, 3) := dk_182 1 202 (dk_at dksX6_sentence_2 19 rfl rfl)
theorem dX6_sentence_70 : decode cX6_sentence 70 = .ok (.aload_n 0, 1) := dk_42 (dk_at dksX6_sentence_2 22 rfl rfl)
theorem dX6_sentence_71 : decode cX6_sentence 71 = .ok (.bipush 22, 2) := dk_16 22 (dk_at dksX6_sentence_3 0 rfl rfl)
theorem dX6_sentence_73 : decode cX6_sentence 73 = .ok (.invokevirtual 461, 3) := dk_182 1 205 (dk_at dksX6_sentence_3 2 rfl rfl)
theorem dX6_sentence_76 : decode cX6_sentence 76 = .ok (.aload_n 0, 1) := dk_42 (dk_at dksX6_sentence_3 5 rfl rfl)
theorem dX6_sentence_77 : decode cX6_sentence 77 = .ok (.getfield 440, 3) := dk_180 1 184 (dk_at dksX6_sentence_3 6 rfl rfl)
theorem dX6_sentence_80 : decode cX6_sentence 80 = .ok (.ifCond .le 16, 3) := dk_158 0 16 (dk_at dksX6_sentence_3 9 rfl rfl)
theorem dX6_sentence_83 : decode cX6_sentence 83 = .ok (.aload_n 0, 1) := dk_42 (dk_at dksX6_sentence_3 12 rfl rfl)
theorem dX6_sentence_84 : decode cX6_sentence 84 = .ok (.iconst 1, 1) := dk_4 (dk_at dksX6_sentence_3 13 rfl rfl)
theorem dX6_sentence_85 : decode cX6_sentence 85 = .ok (.invokevirtual 183, 3) := dk_182 0 183 (dk_at dksX6_sentence_3 14 rfl rfl)
theorem dX6_sentence_88 : decode cX6_sentence 88 = .ok (.pop, 1) := dk_87 (dk_at dksX6_sentence_3 17 rfl rfl)
theorem dX6_sentence_89 : decode cX6_sentence 89 = .ok (.iconst (-1), 1) := dk_2 (dk_at dksX6_sentence_3 18 rfl rfl)
theorem dX6_sentence_90 : decode cX6_sentence 90 = .ok (.aload_n 0, 1) := dk_42 (dk_at dksX6_sentence_3 19 rfl rfl)
theorem dX6_sentence_91 : decode cX6_sentence 91 = .ok (.getfield 177, 3) := dk_180 0 177 (dk_at dksX6_sentence_3 20 rfl rfl)
theorem dX6_sentence_94 : decode cX6_sentence 94 = .ok (.isub, 1) := dk_100 (dk_at dksX6_sentence_3 23 rfl rfl)
theorem dX6_sentence_95 : decode cX6_sentence 95 = .ok (.ireturn, 1) := dk_172 (dk_at dksX6_sentence_4 0 rfl rfl)
theorem dX6_sentence_96 : decode cX6_sentence 96 = .ok (.iconst 0, 1) := dk_3 (dk_at dksX6_sentence_4 1 rfl rfl)
theorem dX6_sentence_97 : decode cX6_sentence 97 = .ok (.istore_n 1, 1) := dk_60 (dk_at dksX6_sentence_4 2 rfl rfl)
theorem dX6_sentence_98 : decode cX6_sentence 98 = .ok (.goto (-50), 3) := dk_167 255 206 (dk_at dksX6_sentence_4 3 rfl rfl)
theorem dX6_sentence_101 : decode cX6_sentence 101 = .ok (.aload_n 0, 1) := dk_42 (dk_at dksX6_sentence_4 6 rfl rfl)
theorem dX6_sentence_102 : decode cX6_sentence 102 = .ok (.getfield 455, 3) := dk_180 1 199 (dk_at dksX6_sentence_4 7 rfl rfl)
theorem dX6_sentence_105 : decode cX6_sentence 105 = .ok (.ifCond .eq 13, 3) := dk_153 0 13 (dk_at dksX6_sentence_4 10 rfl rfl)
theorem dX6_sentence_108 : decode cX6_sentence 108 = .ok (.aload_n 0, 1) := dk_42 (dk_at dksX6_sentence_4 13 rfl rfl)
theorem dX6_sentence_109 : decode cX6_sentence 109 = .ok (.invokevirtual 464, 3) := dk_182 1 208 (dk_at dksX6_sentence_4 14 rfl rfl)
theorem dX6_sentence_112 : decode cX6_sentence 112 = .ok (.ifCond .ne (-64), 3) := dk_154 255 192 (dk_at dksX6_sentence_4 17 rfl rfl)
theorem dX6_sentence_115 : decode cX6_sentence 115 = .ok (.goto 10, 3) := dk_167 0 10 (dk_at dksX6_sentence_4 20 rfl rfl)
theorem dX6_sentence_118 : decode cX6_sentence 118 = .ok (.aload_n 0, 1) := dk_42 (dk_at dksX6_sentence_4 23 rfl rfl)
theorem dX6_sentence_119 : decode cX6_sentence 119 = .ok (.invokevirtual 467, 3) := dk_182 1 211 (dk_at dksX6_sentence_5 0 rfl rfl)
theorem dX6_sentence_122 : decode cX6_sentence 122 = .ok (.ifCond .ne (-74), 3) := dk_154 255 182 (dk_at dksX6_sentence_5 3 rfl rfl)
theorem dX6_sentence_125 : decode cX6_sentence 125 = .ok (.iconst (-1), 1) := dk_2 (dk_at dksX6_sentence_5 6 rfl rfl)
theorem dX6_sentence_126 : decode cX6_sentence 126 = .ok (.aload_n 0, 1) := dk_42 (dk_at dksX6_sentence_5 7 rfl rfl)
theorem dX6_sentence_127 : decode cX6_sentence 127 = .ok (.getfield 177, 3) := dk_180 0 177 (dk_at dksX6_sentence_5 8 rfl rfl)
theorem dX6_sentence_130 : decode cX6_sentence 130 = .ok (.isub, 1) := dk_100 (dk_at dksX6_sentence_5 11 rfl rfl)
theorem dX6_sentence_131 : decode cX6_sentence 131 = .ok (.ireturn, 1) := dk_172 (dk_at dksX6_sentence_5 12 rfl rfl)
theorem dX6_sentence_132 : decode cX6_sentence 132 = .ok (.aload_n 0, 1) := dk_42 (dk_at dksX6_sentence_5 13 rfl rfl)
theorem dX6_sentence_133 : decode cX6_sentence 133 = .ok (.getfield 33, 3) := dk_180 0 33 (dk_at dksX6_sentence_5 14 rfl rfl)
theorem dX6_sentence_136 : decode cX6_sentence 136 = .ok (.sipush 224, 3) := dk_17 0 224 (dk_at dksX6_sentence_5 17 rfl rfl)
theorem dX6_sentence_139 : decode cX6_sentence 139 = .ok (.aload_n 0, 1) := dk_42 (dk_at dksX6_sentence_5 20 rfl rfl)
theorem dX6_sentence_140 : decode cX6_sentence 140 = .ok (.getfield 437, 3) := dk_180 1 181 (dk_at dksX6_sentence_5 21 rfl rfl)
theorem dX6_sentence_143 : decode cX6_sentence 143 = .ok (.iastore, 1) := dk_79 (dk_at dksX6_sentence_6 0 rfl rfl)
theorem dX6_sentence_144 : decode cX6_sentence 144 = .ok (.iconst 0, 1) := dk_3 (dk_at dksX6_sentence_6 1 rfl rfl)
theorem dX6_sentence_145 : decode cX6_sentence 145 = .ok (.istore_n 2, 1) := dk_61 (dk_at dksX6_sentence_6 2 rfl rfl)
theorem dX6_sentence_146 : decode cX6_sentence 146 = .ok (.iload_n 2, 1) := dk_28 (dk_at dksX6_sentence_6 3 rfl rfl)
theorem dX6_sentence_147 : decode cX6_sentence 147 = .ok (.iconst 3, 1) := dk_6 (dk_at dksX6_sentence_6 4 rfl rfl)
theorem dX6_sentence_148 : decode cX6_sentence 148 = .ok (.aload_n 0, 1) := dk_42 (dk_at dksX6_sentence_6 5 rfl rfl)
theorem dX6_sentence_149 : decode cX6_sentence 149 = .ok (.getfield 437, 3) := dk_180 1 181 (dk_at dksX6_sentence_6 6 rfl rfl)
theorem dX6_sentence_152 : decode cX6_sentence 152 = .ok (.imul, 1) := dk_104 (dk_at dksX6_sentence_6 9 rfl rfl)
theorem dX6_sentence_153 : decode cX6_sentence 153 = .ok (.if_icmp .ge 25, 3) := dk_162 0 25 (dk_at dksX6_sentence_6 10 rfl rfl)
theorem dX6_sentence_156 : decode cX6_sentence 156 = .ok (.aload_n 0, 1) := dk_42 (dk_at dksX6_sentence_6 13 rfl rfl)
theorem dX6_sentence_157 : decode cX6_sentence 157 = .ok (.getfield 33, 3) := dk_180 0 33 (dk_at dksX6_sentence_6 14 rfl rfl)
theorem dX6_sentence_160 : decode cX6_sentence 160 = .ok (.sipush 225, 3) := dk_17 0 225 (dk_at dksX6_sentence_6 17 rfl rfl)
theorem dX6_sentence_163 : decode cX6_sentence 163 = .ok (.iload_n 2, 1) := dk_28 (dk_at dksX6_sentence_6 20 rfl rfl)
theorem dX6_sentence_164 : decode cX6_sentence 164 = .ok (.iadd, 1) := dk_96 (dk_at dksX6_sentence_6 21 rfl rfl)
theorem dX6_sentence_165 : decode cX6_sentence 165 = .ok (.aload_n 0, 1) := dk_42 (dk_at dksX6_sentence_6 22 rfl rfl)
theorem dX6_sentence_166 : decode cX6_sentence 166 = .ok (.getfield 40, 3) := dk_180 0 40 (dk_at dksX6_sentence_7 0 rfl rfl)
theorem dX6_sentence_169 : decode cX6_sentence 169 = .ok (.iload_n 2, 1) := dk_28 (dk_at dksX6_sentence_7 3 rfl rfl)
theorem dX6_sentence_170 : decode cX6_sentence 170 = .ok (.iaload, 1) := dk_46 (dk_at dksX6_sentence_7 4 rfl rfl)
theorem dX6_sentence_171 : decode cX6_sentence 171 = .ok (.iastore, 1) := dk_79 (dk_at dksX6_sentence_7 5 rfl rfl)
theorem dX6_sentence_172 : decode cX6_sentence 172 = .ok (.iinc 2 1, 3) := dk_132 2 1 (dk_at dksX6_sentence_7 6 rfl rfl)
theorem dX6_sentence_175 : decode cX6_sentence 175 = .ok (.goto (-29), 3) := dk_167 255 227 (dk_at dksX6_sentence_7 9 rfl rfl)
theorem dX6_sentence_178 : decode cX6_sentence 178 = .ok (.aload_n 0, 1) := dk_42 (dk_at dksX6_sentence_7 12 rfl rfl)
theorem dX6_sentence_179 : decode cX6_sentence 179 = .ok (.getfield 452, 3) := dk_180 1 196 (dk_at dksX6_sentence_7 13 rfl rfl)
theorem dX6_sentence_182 : decode cX6_sentence 182 = .ok (.ireturn, 1) := dk_172 (dk_at dksX6_sentence_7 16 rfl rfl)
abbrev cX6_nots : ByteArray := prog_25_method_103_code
def yX6_nots : MethodName := ⟨RX6, "nots", "()V"⟩
def dkwX6_nots_2 : List UInt8 := [182, 1, 187, 167, 255, 205, 177]
abbrev dktX6_nots_2 : List UInt8 := dkwX6_nots_2 ++ []
def dkwX6_nots_1 : List UInt8 := [89, 180, 1, 184, 4, 100, 181, 1, 184, 42, 89, 180, 1, 190, 4, 100, 181, 1, 190, 42, 16, 20, 3, 3]
abbrev dktX6_nots_1 : List UInt8 := dkwX6_nots_1 ++ dktX6_nots_2
def dkwX6_nots_0 : List UInt8 := [42, 180, 1, 184, 158, 0, 50, 42, 180, 0, 89, 42, 180, 1, 184, 4, 100, 46, 16, 20, 160, 0, 34, 42]
abbrev dktX6_nots_0 : List UInt8 := dkwX6_nots_0 ++ dktX6_nots_1
theorem dksX6_nots_0 : cX6_nots.data.toList.drop 0 = dktX6_nots_0 := by decide +kernel
theorem dksX6_nots_1 : cX6_nots.data.toList.drop 24 = dktX6_nots_1 := dk_seg dksX6_nots_0 24 rfl rfl
theorem dksX6_nots_2 : cX6_nots.data.toList.drop 48 = dktX6_nots_2 := dk_seg dksX6_nots_1 24 rfl rfl
theorem dX6_nots_0 : decode cX6_nots 0 = .ok (.aload_n 0, 1) := dk_42 (dk_at dksX6_nots_0 0 rfl rfl)
theorem dX6_nots_1 : decode cX6_nots 1 = .ok (.getfield 440, 3) := dk_180 1 184 (dk_at dksX6_nots_0 1 rfl rfl)
theorem dX6_nots_4 : decode cX6_nots 4 = .ok (.ifCond .le 50, 3) := dk_158 0 50 (dk_at dksX6_nots_0 4 rfl rfl)
theorem dX6_nots_7 : decode cX6_nots 7 = .ok (.aload_n 0, 1) := dk_42 (dk_at dksX6_nots_0 7 rfl rfl)
theorem dX6_nots_8 : decode cX6_nots 8 = .ok (.getfield 89, 3) := dk_180 0 89 (dk_at dksX6_nots_0 8 rfl rfl)
theorem dX6_nots_11 : decode cX6_nots 11 = .ok (.aload_n 0, 1) := dk_42 (dk_at dksX6_nots_0 11 rfl rfl)
theorem dX6_nots_12 : decode cX6_nots 12 = .ok (.getfield 440, 3) := dk_180 1 184 (dk_at dksX6_nots_0 12 rfl rfl)
theorem dX6_nots_15 : decode cX6_nots 15 = .ok (.iconst 1, 1) := dk_4 (dk_at dksX6_nots_0 15 rfl rfl)
theorem dX6_nots_16 : decode cX6_nots 16 = .ok (.isub, 1) := dk_100 (dk_at dksX6_nots_0 16 rfl rfl)
theorem dX6_nots_17 : decode cX6_nots 17 = .ok (.iaload, 1) := dk_46 (dk_at dksX6_nots_0 17 rfl rfl)
theorem dX6_nots_18 : decode cX6_nots 18 = .ok (.bipush 20, 2) := dk_16 20 (dk_at dksX6_nots_0 18 rfl rfl)
theorem dX6_nots_20 : decode cX6_nots 20 = .ok (.if_icmp .ne 34, 3) := dk_160 0 34 (dk_at dksX6_nots_0 20 rfl rfl)
theorem dX6_nots_23 : decode cX6_nots 23 = .ok (.aload_n 0, 1) := dk_42 (dk_at dksX6_nots_0 23 rfl rfl)
theorem dX6_nots_24 : decode cX6_nots 24 = .ok (.dup, 1) := dk_89 (dk_at dksX6_nots_1 0 rfl rfl)
theorem dX6_nots_25 : decode cX6_nots 25 = .ok (.getfield 440, 3) := dk_180 1 184 (dk_at dksX6_nots_1 1 rfl rfl)
theorem dX6_nots_28 : decode cX6_nots 28 = .ok (.iconst 1, 1) := dk_4 (dk_at dksX6_nots_1 4 rfl rfl)
theorem dX6_nots_29 : decode cX6_nots 29 = .ok (.isub, 1) := dk_100 (dk_at dksX6_nots_1 5 rfl rfl)
theorem dX6_nots_30 : decode cX6_nots 30 = .ok (.putfield 440, 3) := dk_181 1 184 (dk_at dksX6_nots_1 6 rfl rfl)
theorem dX6_nots_33 : decode cX6_nots 33 = .ok (.aload_n 0, 1) := dk_42 (dk_at dksX6_nots_1 9 rfl rfl)
theorem dX6_nots_34 : decode cX6_nots 34 = .ok (.dup, 1) := dk_89 (dk_at dksX6_nots_1 10 rfl rfl)
theorem dX6_nots_35 : decode cX6_nots 35 = .ok (.getfield 446, 3) := dk_180 1 190 (dk_at dksX6_nots_1 11 rfl rfl)
theorem dX6_nots_38 : decode cX6_nots 38 = .ok (.iconst 1, 1) := dk_4 (dk_at dksX6_nots_1 14 rfl rfl)
theorem dX6_nots_39 : decode cX6_nots 39 = .ok (.isub, 1) := dk_100 (dk_at dksX6_nots_1 15 rfl rfl)
theorem dX6_nots_40 : decode cX6_nots 40 = .ok (.putfield 446, 3) := dk_181 1 190 (dk_at dksX6_nots_1 16 rfl rfl)
theorem dX6_nots_43 : decode cX6_nots 43 = .ok (.aload_n 0, 1) := dk_42 (dk_at dksX6_nots_1 19 rfl rfl)
theorem dX6_nots_44 : decode cX6_nots 44 = .ok (.bipush 20, 2) := dk_16 20 (dk_at dksX6_nots_1 20 rfl rfl)
theorem dX6_nots_46 : decode cX6_nots 46 = .ok (.iconst 0, 1) := dk_3 (dk_at dksX6_nots_1 22 rfl rfl)
theorem dX6_nots_47 : decode cX6_nots 47 = .ok (.iconst 0, 1) := dk_3 (dk_at dksX6_nots_1 23 rfl rfl)
theorem dX6_nots_48 : decode cX6_nots 48 = .ok (.invokevirtual 443, 3) := dk_182 1 187 (dk_at dksX6_nots_2 0 rfl rfl)
theorem dX6_nots_51 : decode cX6_nots 51 = .ok (.goto (-51), 3) := dk_167 255 205 (dk_at dksX6_nots_2 3 rfl rfl)
theorem dX6_nots_54 : decode cX6_nots 54 = .ok (.return_, 1) := dk_177 (dk_at dksX6_nots_2 6 rfl rfl)
abbrev cX6_code : ByteArray := prog_25_method_101_code
def yX6_code : MethodName := ⟨RX6, "code", "(III)V"⟩
def dkwX6_code_2 : List UInt8 := [181, 1, 181, 177]
abbrev dktX6_code_2 : List UInt8 := dkwX6_code_2 ++ []
def dkwX6_code_1 : List UInt8 := [28, 79, 42, 180, 0, 40, 6, 42, 180, 1, 181, 104, 5, 96, 29, 79, 42, 89, 180, 1, 181, 4, 96]
abbrev dktX6_code_1 : List UInt8 := dkwX6_code_1 ++ dktX6_code_2
def dkwX6_code_0 : List UInt8 := [42, 180, 0, 40, 6, 42, 180, 1, 181, 104, 27, 79, 42, 180, 0, 40, 6, 42, 180, 1, 181, 104, 4, 96]
abbrev dktX6_code_0 : List UInt8 := dkwX6_code_0 ++ dktX6_code_1
theorem dksX6_code_0 : cX6_code.data.toList.drop 0 = dktX6_code_0 := by decide +kernel
theorem dksX6_code_1 : cX6_code.data.toList.drop 24 = dktX6_code_1 := dk_seg dksX6_code_0 24 rfl rfl
theorem dksX6_code_2 : cX6_code.data.toList.drop 47 = dktX6_code_2 := dk_seg dksX6_code_1 23 rfl rfl
theorem dX6_code_0 : decode cX6_code 0 = .ok (.aload_n 0, 1) := dk_42 (dk_at dksX6_code_0 0 rfl rfl)
theorem dX6_code_1 : decode cX6_code 1 = .ok (.getfield 40, 3) := dk_180 0 40 (dk_at dksX6_code_0 1 rfl rfl)
theorem dX6_code_4 : decode cX6_code 4 = .ok (.iconst 3, 1) := dk_6 (dk_at dksX6_code_0 4 rfl rfl)
theorem dX6_code_5 : decode cX6_code 5 = .ok (.aload_n 0, 1) := dk_42 (dk_at dksX6_code_0 5 rfl rfl)
theorem dX6_code_6 : decode cX6_code 6 = .ok (.getfield 437, 3) := dk_180 1 181 (dk_at dksX6_code_0 6 rfl rfl)
theorem dX6_code_9 : decode cX6_code 9 = .ok (.imul, 1) := dk_104 (dk_at dksX6_code_0 9 rfl rfl)
theorem dX6_code_10 : decode cX6_code 10 = .ok (.iload_n 1, 1) := dk_27 (dk_at dksX6_code_0 10 rfl rfl)
theorem dX6_code_11 : decode cX6_code 11 = .ok (.iastore, 1) := dk_79 (dk_at dksX6_code_0 11 rfl rfl)
theorem dX6_code_12 : decode cX6_code 12 = .ok (.aload_n 0, 1) := dk_42 (dk_at dksX6_code_0 12 rfl rfl)
theorem dX6_code_13 : decode cX6_code 13 = .ok (.getfield 40, 3) := dk_180 0 40 (dk_at dksX6_code_0 13 rfl rfl)
theorem dX6_code_16 : decode cX6_code 16 = .ok (.iconst 3, 1) := dk_6 (dk_at dksX6_code_0 16 rfl rfl)
theorem dX6_code_17 : decode cX6_code 17 = .ok (.aload_n 0, 1) := dk_42 (dk_at dksX6_code_0 17 rfl rfl)
theorem dX6_code_18 : decode cX6_code 18 = .ok (.getfield 437, 3) := dk_180 1 181 (dk_at dksX6_code_0 18 rfl rfl)
theorem dX6_code_21 : decode cX6_code 21 = .ok (.imul, 1) := dk_104 (dk_at dksX6_code_0 21 rfl rfl)
theorem dX6_code_22 : decode cX6_code 22 = .ok (.iconst 1, 1) := dk_4 (dk_at dksX6_code_0 22 rfl rfl)
theorem dX6_code_23 : decode cX6_code 23 = .ok (.iadd, 1) := dk_96 (dk_at dksX6_code_0 23 rfl rfl)
theorem dX6_code_24 : decode cX6_code 24 = .ok (.iload_n 2, 1) := dk_28 (dk_at dksX6_code_1 0 rfl rfl)
theorem dX6_code_25 : decode cX6_code 25 = .ok (.iastore, 1) := dk_79 (dk_at dksX6_code_1 1 rfl rfl)
theorem dX6_code_26 : decode cX6_code 26 = .ok (.aload_n 0, 1) := dk_42 (dk_at dksX6_code_1 2 rfl rfl)
theorem dX6_code_27 : decode cX6_code 27 = .ok (.getfield 40, 3) := dk_180 0 40 (dk_at dksX6_code_1 3 rfl rfl)
theorem dX6_code_30 : decode cX6_code 30 = .ok (.iconst 3, 1) := dk_6 (dk_at dksX6_code_1 6 rfl rfl)
theorem dX6_code_31 : decode cX6_code 31 = .ok (.aload_n 0, 1) := dk_42 (dk_at dksX6_code_1 7 rfl rfl)
theorem dX6_code_32 : decode cX6_code 32 = .ok (.getfield 437, 3) := dk_180 1 181 (dk_at dksX6_code_1 8 rfl rfl)
theorem dX6_code_35 : decode cX6_code 35 = .ok (.imul, 1) := dk_104 (dk_at dksX6_code_1 11 rfl rfl)
theorem dX6_code_36 : decode cX6_code 36 = .ok (.iconst 2, 1) := dk_5 (dk_at dksX6_code_1 12 rfl rfl)
theorem dX6_code_37 : decode cX6_code 37 = .ok (.iadd, 1) := dk_96 (dk_at dksX6_code_1 13 rfl rfl)
theorem dX6_code_38 : decode cX6_code 38 = .ok (.iload_n 3, 1) := dk_29 (dk_at dksX6_code_1 14 rfl rfl)
theorem dX6_code_39 : decode cX6_code 39 = .ok (.iastore, 1) := dk_79 (dk_at dksX6_code_1 15 rfl rfl)
theorem dX6_code_40 : decode cX6_code 40 = .ok (.aload_n 0, 1) := dk_42 (dk_at dksX6_code_1 16 rfl rfl)
theorem dX6_code_41 : decode cX6_code 41 = .ok (.dup, 1) := dk_89 (dk_at dksX6_code_1 17 rfl rfl)
theorem dX6_code_42 : decode cX6_code 42 = .ok (.getfield 437, 3) := dk_180 1 181 (dk_at dksX6_code_1 18 rfl rfl)
theorem dX6_code_45 : decode cX6_code 45 = .ok (.iconst 1, 1) := dk_4 (dk_at dksX6_code_1 21 rfl rfl)
theorem dX6_code_46 : decode cX6_code 46 = .ok (.iadd, 1) := dk_96 (dk_at dksX6_code_1 22 rfl rfl)
theorem dX6_code_47 : decode cX6_code 47 = .ok (.putfield 437, 3) := dk_181 1 181 (dk_at dksX6_code_2 0 rfl rfl)
theorem dX6_code_50 : decode cX6_code 50 = .ok (.return_, 1) := dk_177 (dk_at dksX6_code_2 3 rfl rfl)
abbrev cX6_joins : ByteArray := prog_25_method_102_code
def yX6_joins : MethodName := ⟨RX6, "joins", "(I)V"⟩
def dkwX6_joins_3 : List UInt8 := [167, 255, 186, 177]
abbrev dktX6_joins_3 : List UInt8 := dkwX6_joins_3 ++ []
def dkwX6_joins_2 : List UInt8 := [180, 1, 184, 4, 100, 181, 1, 184, 42, 42, 180, 0, 89, 42, 180, 1, 184, 46, 3, 3, 182, 1, 187]
abbrev dktX6_joins_2 : List UInt8 := dkwX6_joins_2 ++ dktX6_joins_3
def dkwX6_joins_1 : List UInt8 := [180, 0, 89, 42, 180, 1, 184, 4, 100, 46, 16, 22, 160, 0, 37, 27, 16, 22, 160, 0, 31, 42, 89]
abbrev dktX6_joins_1 : List UInt8 := dkwX6_joins_1 ++ dktX6_joins_2
def dkwX6_joins_0 : List UInt8 := [42, 180, 1, 184, 158, 0, 69, 42, 180, 0, 89, 42, 180, 1, 184, 4, 100, 46, 16, 21, 159, 0, 25, 42]
abbrev dktX6_joins_0 : List UInt8 := dkwX6_joins_0 ++ dktX6_joins_1
theorem dksX6_joins_0 : cX6_joins.data.toList.drop 0 = dktX6_joins_0 := by decide +kernel
theorem dksX6_joins_1 : cX6_joins.data.toList.drop 24 = dktX6_joins_1 := dk_seg dksX6_joins_0 24 rfl rfl
theorem dksX6_joins_2 : cX6_joins.data.toList.drop 47 = dktX6_joins_2 := dk_seg dksX6_joins_1 23 rfl rfl
theorem dksX6_joins_3 : cX6_joins.data.toList.drop 70 = dktX6_joins_3 := dk_seg dksX6_joins_2 23 rfl rfl
theorem dX6_joins_0 : decode cX6_joins 0 = .ok (.aload_n 0, 1) := dk_42 (dk_at dksX6_joins_0 0 rfl rfl)
theorem dX6_joins_1 : decode cX6_joins 1 = .ok (.getfield 440, 3) := dk_180 1 184 (dk_at dksX6_joins_0 1 rfl rfl)
theorem dX6_joins_4 : decode cX6_joins 4 = .ok (.ifCond .le 69, 3) := dk_158 0 69 (dk_at dksX6_joins_0 4 rfl rfl)
theorem dX6_joins_7 : decode cX6_joins 7 = .ok (.aload_n 0, 1) := dk_42 (dk_at dksX6_joins_0 7 rfl rfl)
theorem dX6_joins_8 : decode cX6_joins 8 = .ok (.getfield 89, 3) := dk_180 0 89 (dk_at dksX6_joins_0 8 rfl rfl)
theorem dX6_joins_11 : decode cX6_joins 11 = .ok (.aload_n 0, 1) := dk_42 (dk_at dksX6_joins_0 11 rfl rfl)
theorem dX6_joins_12 : decode cX6_joins 12 = .ok (.getfield 440, 3) := dk_180 1 184 (dk_at dksX6_joins_0 12 rfl rfl)
theorem dX6_joins_15 : decode cX6_joins 15 = .ok (.iconst 1, 1) := dk_4 (dk_at dksX6_joins_0 15 rfl rfl)
theorem dX6_joins_16 : decode cX6_joins 16 = .ok (.isub, 1) := dk_100 (dk_at dksX6_joins_0 16 rfl rfl)
theorem dX6_joins_17 : decode cX6_joins 17 = .ok (.iaload, 1) := dk_46 (dk_at dksX6_joins_0 17 rfl rfl)
theorem dX6_joins_18 : decode cX6_joins 18 = .ok (.bipush 21, 2) := dk_16 21 (dk_at dksX6_joins_0 18 rfl rfl)
theorem dX6_joins_20 : decode cX6_joins 20 = .ok (.if_icmp .eq 25, 3) := dk_159 0 25 (dk_at dksX6_joins_0 20 rfl rfl)
theorem dX6_joins_23 : decode cX6_joins 23 = .ok (.aload_n 0, 1) := dk_42 (dk_at dksX6_joins_0 23 rfl rfl)
theorem dX6_joins_24 : decode cX6_joins 24 = .ok (.getfield 89, 3) := dk_180 0 89 (dk_at dksX6_joins_1 0 rfl rfl)
theorem dX6_joins_27 : decode cX6_joins 27 = .ok (.aload_n 0, 1) := dk_42 (dk_at dksX6_joins_1 3 rfl rfl)
theorem dX6_joins_28 : decode cX6_joins 28 = .ok (.getfield 440, 3) := dk_180 1 184 (dk_at dksX6_joins_1 4 rfl rfl)
theorem dX6_joins_31 : decode cX6_joins 31 = .ok (.iconst 1, 1) := dk_4 (dk_at dksX6_joins_1 7 rfl rfl)
theorem dX6_joins_32 : decode cX6_joins 32 = .ok (.isub, 1) := dk_100 (dk_at dksX6_joins_1 8 rfl rfl)
theorem dX6_joins_33 : decode cX6_joins 33 = .ok (.iaload, 1) := dk_46 (dk_at dksX6_joins_1 9 rfl rfl)
theorem dX6_joins_34 : decode cX6_joins 34 = .ok (.bipush 22, 2) := dk_16 22 (dk_at dksX6_joins_1 10 rfl rfl)
theorem dX6_joins_36 : decode cX6_joins 36 = .ok (.if_icmp .ne 37, 3) := dk_160 0 37 (dk_at dksX6_joins_1 12 rfl rfl)
theorem dX6_joins_39 : decode cX6_joins 39 = .ok (.iload_n 1, 1) := dk_27 (dk_at dksX6_joins_1 15 rfl rfl)
theorem dX6_joins_40 : decode cX6_joins 40 = .ok (.bipush 22, 2) := dk_16 22 (dk_at dksX6_joins_1 16 rfl rfl)
theorem dX6_joins_42 : decode cX6_joins 42 = .ok (.if_icmp .ne 31, 3) := dk_160 0 31 (dk_at dksX6_joins_1 18 rfl rfl)
theorem dX6_joins_45 : decode cX6_joins 45 = .ok (.aload_n 0, 1) := dk_42 (dk_at dksX6_joins_1 21 rfl rfl)
theorem dX6_joins_46 : decode cX6_joins 46 = .ok (.dup, 1) := dk_89 (dk_at dksX6_joins_1 22 rfl rfl)
theorem dX6_joins_47 : decode cX6_joins 47 = .ok (.getfield 440, 3) := dk_180 1 184 (dk_at dksX6_joins_2 0 rfl rfl)
theorem dX6_joins_50 : decode cX6_joins 50 = .ok (.iconst 1, 1) := dk_4 (dk_at dksX6_joins_2 3 rfl rfl)
theorem dX6_joins_51 : decode cX6_joins 51 = .ok (.isub, 1) := dk_100 (dk_at dksX6_joins_2 4 rfl rfl)
theorem dX6_joins_52 : decode cX6_joins 52 = .ok (.putfield 440, 3) := dk_181 1 184 (dk_at dksX6_joins_2 5 rfl rfl)
theorem dX6_joins_55 : decode cX6_joins 55 = .ok (.aload_n 0, 1) := dk_42 (dk_at dksX6_joins_2 8 rfl rfl)
theorem dX6_joins_56 : decode cX6_joins 56 = .ok (.aload_n 0, 1) := dk_42 (dk_at dksX6_joins_2 9 rfl rfl)
theorem dX6_joins_57 : decode cX6_joins 57 = .ok (.getfield 89, 3) := dk_180 0 89 (dk_at dksX6_joins_2 10 rfl rfl)
theorem dX6_joins_60 : decode cX6_joins 60 = .ok (.aload_n 0, 1) := dk_42 (dk_at dksX6_joins_2 13 rfl rfl)
theorem dX6_joins_61 : decode cX6_joins 61 = .ok (.getfield 440, 3) := dk_180 1 184 (dk_at dksX6_joins_2 14 rfl rfl)
theorem dX6_joins_64 : decode cX6_joins 64 = .ok (.iaload, 1) := dk_46 (dk_at dksX6_joins_2 17 rfl rfl)
theorem dX6_joins_65 : decode cX6_joins 65 = .ok (.iconst 0, 1) := dk_3 (dk_at dksX6_joins_2 18 rfl rfl)
theorem dX6_joins_66 : decode cX6_joins 66 = .ok (.iconst 0, 1) := dk_3 (dk_at dksX6_joins_2 19 rfl rfl)
theorem dX6_joins_67 : decode cX6_joins 67 = .ok (.invokevirtual 443, 3) := dk_182 1 187 (dk_at dksX6_joins_2 20 rfl rfl)
theorem dX6_joins_70 : decode cX6_joins 70 = .ok (.goto (-70), 3) := dk_167 255 186 (dk_at dksX6_joins_3 0 rfl rfl)
theorem dX6_joins_73 : decode cX6_joins 73 = .ok (.return_, 1) := dk_177 (dk_at dksX6_joins_3 3 rfl rfl)
abbrev cX6_behindOne : ByteArray := prog_25_method_106_code
def yX6_behindOne : MethodName := ⟨RX6, "behindOne", "()Z"⟩
def dkwX6_behindOne_6 : List UInt8 := [42, 182, 0, 186, 4, 172]
abbrev dktX6_behindOne_6 : List UInt8 := dkwX6_behindOne_6 ++ []
def dkwX6_behindOne_5 : List UInt8 := [182, 0, 183, 172, 42, 89, 180, 1, 184, 4, 100, 181, 1, 184, 42, 89, 180, 1, 190, 4, 100, 181, 1, 190]
abbrev dktX6_behindOne_5 : List UInt8 := dkwX6_behindOne_5 ++ dktX6_behindOne_6
def dkwX6_behindOne_4 : List UInt8 := [16, 22, 182, 1, 205, 42, 16, 41, 182, 0, 180, 153, 0, 10, 42, 180, 1, 184, 154, 0, 9, 42, 4]
abbrev dktX6_behindOne_4 : List UInt8 := dkwX6_behindOne_4 ++ dktX6_behindOne_5
def dkwX6_behindOne_3 : List UInt8 := [79, 42, 89, 180, 1, 184, 4, 96, 181, 1, 184, 42, 3, 181, 1, 199, 42, 182, 0, 186, 4, 172, 42]
abbrev dktX6_behindOne_3 : List UInt8 := dkwX6_behindOne_3 ++ dktX6_behindOne_4
def dkwX6_behindOne_2 : List UInt8 := [180, 0, 89, 42, 180, 1, 184, 42, 20, 0, 123, 182, 0, 214, 153, 0, 8, 16, 21, 167, 0, 5, 16, 22]
abbrev dktX6_behindOne_2 : List UInt8 := dkwX6_behindOne_2 ++ dktX6_behindOne_3
def dkwX6_behindOne_1 : List UInt8 := [42, 42, 20, 0, 123, 182, 0, 214, 153, 0, 8, 16, 21, 167, 0, 5, 16, 22, 182, 1, 205, 42]
abbrev dktX6_behindOne_1 : List UInt8 := dkwX6_behindOne_1 ++ dktX6_behindOne_2
def dkwX6_behindOne_0 : List UInt8 := [42, 182, 1, 202, 42, 20, 0, 123, 182, 0, 214, 154, 0, 13, 42, 20, 0, 121, 182, 0, 214, 153, 0, 71]
abbrev dktX6_behindOne_0 : List UInt8 := dkwX6_behindOne_0 ++ dktX6_behindOne_1
theorem dksX6_behindOne_0 : cX6_behindOne.data.toList.drop 0 = dktX6_behindOne_0 := by decide +kernel
theorem dksX6_behindOne_1 : cX6_behindOne.data.toList.drop 24 = dktX6_behindOne_1 := dk_seg dksX6_behindOne_0 24 rfl rfl
theorem dksX6_behindOne_2 : cX6_behindOne.data.toList.drop 46 = dktX6_behindOne_2 := dk_seg dksX6_behindOne_1 22 rfl rfl
theorem dksX6_behindOne_3 : cX6_behindOne.data.toList.drop 70 = dktX6_behindOne_3 := dk_seg dksX6_behindOne_2 24 rfl rfl
theorem dksX6_behindOne_4 : cX6_behindOne.data.toList.drop 93 = dktX6_behindOne_4 := dk_seg dksX6_behindOne_3 23 rfl rfl
theorem dksX6_behindOne_5 : cX6_behindOne.data.toList.drop 116 = dktX6_behindOne_5 := dk_seg dksX6_behindOne_4 23 rfl rfl
theorem dksX6_behindOne_6 : cX6_behindOne.data.toList.drop 140 = dktX6_behindOne_6 := dk_seg dksX6_behindOne_5 24 rfl rfl
theorem dX6_behindOne_0 : decode cX6_behindOne 0 = .ok (.aload_n 0, 1) := dk_42 (dk_at dksX6_behindOne_0 0 rfl rfl)
theorem dX6_behindOne_1 : decode cX6_behindOne 1 = .ok (.invokevirtual 458, 3) := dk_182 1 202 (dk_at dksX6_behindOne_0 1 rfl rfl)
theorem dX6_behindOne_4 : decode cX6_behindOne 4 = .ok (.aload_n 0, 1) := dk_42 (dk_at dksX6_behindOne_0 4 rfl rfl)
theorem dX6_behindOne_5 : decode cX6_behindOne 5 = .ok (.ldc2_w 123, 3) := dk_20 0 123 (dk_at dksX6_behindOne_0 5 rfl rfl)
theorem dX6_behindOne_8 : decode cX6_behindOne 8 = .ok (.invokevirtual 214, 3) := dk_182 0 214 (dk_at dksX6_behindOne_0 8 rfl rfl)
theorem dX6_behindOne_11 : decode cX6_behindOne 11 = .ok (.ifCond .ne 13, 3) := dk_154 0 13 (dk_at dksX6_behindOne_0 11 rfl rfl)
theorem dX6_behindOne_14 : decode cX6_behindOne 14 = .ok (.aload_n 0, 1) := dk_42 (dk_at dksX6_behindOne_0 14 rfl rfl)
theorem dX6_behindOne_15 : decode cX6_behindOne 15 = .ok (.ldc2_w 121, 3) := dk_20 0 121 (dk_at dksX6_behindOne_0 15 rfl rfl)
theorem dX6_behindOne_18 : decode cX6_behindOne 18 = .ok (.invokevirtual 214, 3) := dk_182 0 214 (dk_at dksX6_behindOne_0 18 rfl rfl)
theorem dX6_behindOne_21 : decode cX6_behindOne 21 = .ok (.ifCond .eq 71, 3) := dk_153 0 71 (dk_at dksX6_behindOne_0 21 rfl rfl)
theorem dX6_behindOne_24 : decode cX6_behindOne 24 = .ok (.aload_n 0, 1) := dk_42 (dk_at dksX6_behindOne_1 0 rfl rfl)
theorem dX6_behindOne_25 : decode cX6_behindOne 25 = .ok (.aload_n 0, 1) := dk_42 (dk_at dksX6_behindOne_1 1 rfl rfl)
theorem dX6_behindOne_26 : decode cX6_behindOne 26 = .ok (.ldc2_w 123, 3) := dk_20 0 123 (dk_at dksX6_behindOne_1 2 rfl rfl)
theorem dX6_behindOne_29 : decode cX6_behindOne 29 = .ok (.invokevirtual 214, 3) := dk_182 0 214 (dk_at dksX6_behindOne_1 5 rfl rfl)
theorem dX6_behindOne_32 : decode cX6_behindOne 32 = .ok (.ifCond .eq 8, 3) := dk_153 0 8 (dk_at dksX6_behindOne_1 8 rfl rfl)
theorem dX6_behindOne_35 : decode cX6_behindOne 35 = .ok (.bipush 21, 2) := dk_16 21 (dk_at dksX6_behindOne_1 11 rfl rfl)
theorem dX6_behindOne_37 : decode cX6_behindOne 37 = .ok (.goto 5, 3) := dk_167 0 5 (dk_at dksX6_behindOne_1 13 rfl rfl)
theorem dX6_behindOne_40 : decode cX6_behindOne 40 = .ok (.bipush 22, 2) := dk_16 22 (dk_at dksX6_behindOne_1 16 rfl rfl)
theorem dX6_behindOne_42 : decode cX6_behindOne 42 = .ok (.invokevirtual 461, 3) := dk_182 1 205 (dk_at dksX6_behindOne_1 18 rfl rfl)
theorem dX6_behindOne_45 : decode cX6_behindOne 45 = .ok (.aload_n 0, 1) := dk_42 (dk_at dksX6_behindOne_1 21 rfl rfl)
theorem dX6_behindOne_46 : decode cX6_behindOne 46 = .ok (.getfield 89, 3) := dk_180 0 89 (dk_at dksX6_behindOne_2 0 rfl rfl)
theorem dX6_behindOne_49 : decode cX6_behindOne 49 = .ok (.aload_n 0, 1) := dk_42 (dk_at dksX6_behindOne_2 3 rfl rfl)
theorem dX6_behindOne_50 : decode cX6_behindOne 50 = .ok (.getfield 440, 3) := dk_180 1 184 (dk_at dksX6_behindOne_2 4 rfl rfl)
theorem dX6_behindOne_53 : decode cX6_behindOne 53 = .ok (.aload_n 0, 1) := dk_42 (dk_at dksX6_behindOne_2 7 rfl rfl)
theorem dX6_behindOne_54 : decode cX6_behindOne 54 = .ok (.ldc2_w 123, 3) := dk_20 0 123 (dk_at dksX6_behindOne_2 8 rfl rfl)
theorem dX6_behindOne_57 : decode cX6_behindOne 57 = .ok (.invokevirtual 214, 3) := dk_182 0 214 (dk_at dksX6_behindOne_2 11 rfl rfl)
theorem dX6_behindOne_60 : decode cX6_behindOne 60 = .ok (.ifCond .eq 8, 3) := dk_153 0 8 (dk_at dksX6_behindOne_2 14 rfl rfl)
theorem dX6_behindOne_63 : decode cX6_behindOne 63 = .ok (.bipush 21, 2) := dk_16 21 (dk_at dksX6_behindOne_2 17 rfl rfl)
theorem dX6_behindOne_65 : decode cX6_behindOne 65 = .ok (.goto 5, 3) := dk_167 0 5 (dk_at dksX6_behindOne_2 19 rfl rfl)
theorem dX6_behindOne_68 : decode cX6_behindOne 68 = .ok (.bipush 22, 2) := dk_16 22 (dk_at dksX6_behindOne_2 22 rfl rfl)
theorem dX6_behindOne_70 : decode cX6_behindOne 70 = .ok (.iastore, 1) := dk_79 (dk_at dksX6_behindOne_3 0 rfl rfl)
theorem dX6_behindOne_71 : decode cX6_behindOne 71 = .ok (.aload_n 0, 1) := dk_42 (dk_at dksX6_behindOne_3 1 rfl rfl)
theorem dX6_behindOne_72 : decode cX6_behindOne 72 = .ok (.dup, 1) := dk_89 (dk_at dksX6_behindOne_3 2 rfl rfl)
theorem dX6_behindOne_73 : decode cX6_behindOne 73 = .ok (.getfield 440, 3) := dk_180 1 184 (dk_at dksX6_behindOne_3 3 rfl rfl)
theorem dX6_behindOne_76 : decode cX6_behindOne 76 = .ok (.iconst 1, 1) := dk_4 (dk_at dksX6_behindOne_3 6 rfl rfl)
theorem dX6_behindOne_77 : decode cX6_behindOne 77 = .ok (.iadd, 1) := dk_96 (dk_at dksX6_behindOne_3 7 rfl rfl)
theorem dX6_behindOne_78 : decode cX6_behindOne 78 = .ok (.putfield 440, 3) := dk_181 1 184 (dk_at dksX6_behindOne_3 8 rfl rfl)
theorem dX6_behindOne_81 : decode cX6_behindOne 81 = .ok (.aload_n 0, 1) := dk_42 (dk_at dksX6_behindOne_3 11 rfl rfl)
theorem dX6_behindOne_82 : decode cX6_behindOne 82 = .ok (.iconst 0, 1) := dk_3 (dk_at dksX6_behindOne_3 12 rfl rfl)
theorem dX6_behindOne_83 : decode cX6_behindOne 83 = .ok (.putfield 455, 3) := dk_181 1 199 (dk_at dksX6_behindOne_3 13 rfl rfl)
theorem dX6_behindOne_86 : decode cX6_behindOne 86 = .ok (.aload_n 0, 1) := dk_42 (dk_at dksX6_behindOne_3 16 rfl rfl)
theorem dX6_behindOne_87 : decode cX6_behindOne 87 = .ok (.invokevirtual 186, 3) := dk_182 0 186 (dk_at dksX6_behindOne_3 17 rfl rfl)
theorem dX6_behindOne_90 : decode cX6_behindOne 90 = .ok (.iconst 1, 1) := dk_4 (dk_at dksX6_behindOne_3 20 rfl rfl)
theorem dX6_behindOne_91 : decode cX6_behindOne 91 = .ok (.ireturn, 1) := dk_172 (dk_at dksX6_behindOne_3 21 rfl rfl)
theorem dX6_behindOne_92 : decode cX6_behindOne 92 = .ok (.aload_n 0, 1) := dk_42 (dk_at dksX6_behindOne_3 22 rfl rfl)
theorem dX6_behindOne_93 : decode cX6_behindOne 93 = .ok (.bipush 22, 2) := dk_16 22 (dk_at dksX6_behindOne_4 0 rfl rfl)
theorem dX6_behindOne_95 : decode cX6_behindOne 95 = .ok (.invokevirtual 461, 3) := dk_182 1 205 (dk_at dksX6_behindOne_4 2 rfl rfl)
theorem dX6_behindOne_98 : decode cX6_behindOne 98 = .ok (.aload_n 0, 1) := dk_42 (dk_at dksX6_behindOne_4 5 rfl rfl)
theorem dX6_behindOne_99 : decode cX6_behindOne 99 = .ok (.bipush 41, 2) := dk_16 41 (dk_at dksX6_behindOne_4 6 rfl rfl)
theorem dX6_behindOne_101 : decode cX6_behindOne 101 = .ok (.invokevirtual 180, 3) := dk_182 0 180 (dk_at dksX6_behindOne_4 8 rfl rfl)
theorem dX6_behindOne_104 : decode cX6_behindOne 104 = .ok (.ifCond .eq 10, 3) := dk_153 0 10 (dk_at dksX6_behindOne_4 11 rfl rfl)
theorem dX6_behindOne_107 : decode cX6_behindOne 107 = .ok (.aload_n 0, 1) := dk_42 (dk_at dksX6_behindOne_4 14 rfl rfl)
theorem dX6_behindOne_108 : decode cX6_behindOne 108 = .ok (.getfield 440, 3) := dk_180 1 184 (dk_at dksX6_behindOne_4 15 rfl rfl)
theorem dX6_behindOne_111 : decode cX6_behindOne 111 = .ok (.ifCond .ne 9, 3) := dk_154 0 9 (dk_at dksX6_behindOne_4 18 rfl rfl)
theorem dX6_behindOne_114 : decode cX6_behindOne 114 = .ok (.aload_n 0, 1) := dk_42 (dk_at dksX6_behindOne_4 21 rfl rfl)
theorem dX6_behindOne_115 : decode cX6_behindOne 115 = .ok (.iconst 1, 1) := dk_4 (dk_at dksX6_behindOne_4 22 rfl rfl)
theorem dX6_behindOne_116 : decode cX6_behindOne 116 = .ok (.invokevirtual 183, 3) := dk_182 0 183 (dk_at dksX6_behindOne_5 0 rfl rfl)
theorem dX6_behindOne_119 : decode cX6_behindOne 119 = .ok (.ireturn, 1) := dk_172 (dk_at dksX6_behindOne_5 3 rfl rfl)
theorem dX6_behindOne_120 : decode cX6_behindOne 120 = .ok (.aload_n 0, 1) := dk_42 (dk_at dksX6_behindOne_5 4 rfl rfl)
theorem dX6_behindOne_121 : decode cX6_behindOne 121 = .ok (.dup, 1) := dk_89 (dk_at dksX6_behindOne_5 5 rfl rfl)
theorem dX6_behindOne_122 : decode cX6_behindOne 122 = .ok (.getfield 440, 3) := dk_180 1 184 (dk_at dksX6_behindOne_5 6 rfl rfl)
theorem dX6_behindOne_125 : decode cX6_behindOne 125 = .ok (.iconst 1, 1) := dk_4 (dk_at dksX6_behindOne_5 9 rfl rfl)
theorem dX6_behindOne_126 : decode cX6_behindOne 126 = .ok (.isub, 1) := dk_100 (dk_at dksX6_behindOne_5 10 rfl rfl)
theorem dX6_behindOne_127 : decode cX6_behindOne 127 = .ok (.putfield 440, 3) := dk_181 1 184 (dk_at dksX6_behindOne_5 11 rfl rfl)
theorem dX6_behindOne_130 : decode cX6_behindOne 130 = .ok (.aload_n 0, 1) := dk_42 (dk_at dksX6_behindOne_5 14 rfl rfl)
theorem dX6_behindOne_131 : decode cX6_behindOne 131 = .ok (.dup, 1) := dk_89 (dk_at dksX6_behindOne_5 15 rfl rfl)
theorem dX6_behindOne_132 : decode cX6_behindOne 132 = .ok (.getfield 446, 3) := dk_180 1 190 (dk_at dksX6_behindOne_5 16 rfl rfl)
theorem dX6_behindOne_135 : decode cX6_behindOne 135 = .ok (.iconst 1, 1) := dk_4 (dk_at dksX6_behindOne_5 19 rfl rfl)
theorem dX6_behindOne_136 : decode cX6_behindOne 136 = .ok (.isub, 1) := dk_100 (dk_at dksX6_behindOne_5 20 rfl rfl)
theorem dX6_behindOne_137 : decode cX6_behindOne 137 = .ok (.putfield 446, 3) := dk_181 1 190 (dk_at dksX6_behindOne_5 21 rfl rfl)
theorem dX6_behindOne_140 : decode cX6_behindOne 140 = .ok (.aload_n 0, 1) := dk_42 (dk_at dksX6_behindOne_6 0 rfl rfl)
theorem dX6_behindOne_141 : decode cX6_behindOne 141 = .ok (.invokevirtual 186, 3) := dk_182 0 186 (dk_at dksX6_behindOne_6 1 rfl rfl)
theorem dX6_behindOne_144 : decode cX6_behindOne 144 = .ok (.iconst 1, 1) := dk_4 (dk_at dksX6_behindOne_6 4 rfl rfl)
theorem dX6_behindOne_145 : decode cX6_behindOne 145 = .ok (.ireturn, 1) := dk_172 (dk_at dksX6_behindOne_6 5 rfl rfl)
abbrev cX6_operand : ByteArray := prog_25_method_105_code
def yX6_operand : MethodName := ⟨RX6, "operand", "()Z"⟩
def dkwX6_operand_10 : List UInt8 := [42, 180, 0, 167, 182, 1, 187, 42, 182, 0, 186, 4, 172]
abbrev dktX6_operand_10 : List UInt8 := dkwX6_operand_10 ++ []
def dkwX6_operand_9 : List UInt8 := [54, 4, 42, 182, 0, 186, 42, 180, 0, 157, 5, 159, 0, 9, 42, 4, 182, 0, 183, 172, 42, 29, 21, 4]
abbrev dktX6_operand_9 : List UInt8 := dkwX6_operand_9 ++ dktX6_operand_10
def dkwX6_operand_8 : List UInt8 := [16, 60, 161, 0, 12, 42, 180, 0, 167, 16, 62, 164, 0, 9, 42, 4, 182, 0, 183, 172, 42, 180, 0, 167]
abbrev dktX6_operand_8 : List UInt8 := dkwX6_operand_8 ++ dktX6_operand_9
def dkwX6_operand_7 : List UInt8 := [29, 3, 42, 180, 0, 193, 182, 1, 187, 4, 172, 42, 180, 0, 157, 6, 160, 0, 21, 42, 180, 0, 167]
abbrev dktX6_operand_7 : List UInt8 := dkwX6_operand_7 ++ dktX6_operand_8
def dkwX6_operand_6 : List UInt8 := [172, 29, 8, 160, 0, 32, 42, 16, 8, 42, 180, 0, 33, 5, 46, 182, 0, 218, 154, 0, 5, 3, 172, 42]
abbrev dktX6_operand_6 : List UInt8 := dkwX6_operand_6 ++ dktX6_operand_7
def dkwX6_operand_5 : List UInt8 := [96, 181, 1, 190, 4, 172, 42, 4, 181, 1, 199, 29, 8, 162, 0, 12, 42, 29, 3, 3, 182, 1, 187, 4]
abbrev dktX6_operand_5 : List UInt8 := dkwX6_operand_5 ++ dktX6_operand_6
def dkwX6_operand_4 : List UInt8 := [16, 20, 167, 0, 5, 16, 23, 79, 42, 89, 180, 1, 184, 4, 96, 181, 1, 184, 42, 89, 180, 1, 190, 4]
abbrev dktX6_operand_4 : List UInt8 := dkwX6_operand_4 ++ dktX6_operand_5
def dkwX6_operand_3 : List UInt8 := [42, 182, 0, 186, 27, 154, 0, 7, 28, 153, 0, 45, 42, 180, 0, 89, 42, 180, 1, 184, 27, 153, 0, 8]
abbrev dktX6_operand_3 : List UInt8 := dkwX6_operand_3 ++ dktX6_operand_4
def dkwX6_operand_2 : List UInt8 := [180, 1, 190, 16, 8, 164, 0, 9, 42, 7, 182, 0, 183, 172, 42, 89, 180, 1, 196, 4, 96, 181, 1, 196]
abbrev dktX6_operand_2 : List UInt8 := dkwX6_operand_2 ++ dktX6_operand_3
def dkwX6_operand_1 : List UInt8 := [28, 154, 0, 13, 29, 156, 0, 9, 42, 4, 182, 0, 183, 172, 42, 180, 1, 196, 16, 20, 159, 0, 12, 42]
abbrev dktX6_operand_1 : List UInt8 := dkwX6_operand_1 ++ dktX6_operand_2
def dkwX6_operand_0 : List UInt8 := [42, 20, 0, 125, 182, 0, 214, 60, 42, 16, 40, 182, 0, 180, 61, 42, 182, 1, 193, 62, 27, 154, 0, 17]
abbrev dktX6_operand_0 : List UInt8 := dkwX6_operand_0 ++ dktX6_operand_1
theorem dksX6_operand_0 : cX6_operand.data.toList.drop 0 = dktX6_operand_0 := by decide +kernel
theorem dksX6_operand_1 : cX6_operand.data.toList.drop 24 = dktX6_operand_1 := dk_seg dksX6_operand_0 24 rfl rfl
theorem dksX6_operand_2 : cX6_operand.data.toList.drop 48 = dktX6_operand_2 := dk_seg dksX6_operand_1 24 rfl rfl
theorem dksX6_operand_3 : cX6_operand.data.toList.drop 72 = dktX6_operand_3 := dk_seg dksX6_operand_2 24 rfl rfl
theorem dksX6_operand_4 : cX6_operand.data.toList.drop 96 = dktX6_operand_4 := dk_seg dksX6_operand_3 24 rfl rfl
theorem dksX6_operand_5 : cX6_operand.data.toList.drop 120 = dktX6_operand_5 := dk_seg dksX6_operand_4 24 rfl rfl
theorem dksX6_operand_6 : cX6_operand.data.toList.drop 144 = dktX6_operand_6 := dk_seg dksX6_operand_5 24 rfl rfl
theorem dksX6_operand_7 : cX6_operand.data.toList.drop 168 = dktX6_operand_7 := dk_seg dksX6_operand_6 24 rfl rfl
theorem dksX6_operand_8 : cX6_operand.data.toList.drop 191 = dktX6_operand_8 := dk_seg dksX6_operand_7 23 rfl rfl
theorem dksX6_operand_9 : cX6_operand.data.toList.drop 215 = dktX6_operand_9 := dk_seg dksX6_operand_8 24 rfl rfl
theorem dksX6_operand_10 : cX6_operand.data.toList.drop 239 = dktX6_operand_10 := dk_seg dksX6_operand_9 24 rfl rfl
theorem dX6_operand_0 : decode cX6_operand 0 = .ok (.aload_n 0, 1) := dk_42 (dk_at dksX6_operand_0 0 rfl rfl)
theorem dX6_operand_1 : decode cX6_operand 1 = .ok (.ldc2_w 125, 3) := dk_20 0 125 (dk_at dksX6_operand_0 1 rfl rfl)
theorem dX6_operand_4 : decode cX6_operand 4 = .ok (.invokevirtual 214, 3) := dk_182 0 214 (dk_at dksX6_operand_0 4 rfl rfl)
theorem dX6_operand_7 : decode cX6_operand 7 = .ok (.istore_n 1, 1) := dk_60 (dk_at dksX6_operand_0 7 rfl rfl)
theorem dX6_operand_8 : decode cX6_operand 8 = .ok (.aload_n 0, 1) := dk_42 (dk_at dksX6_operand_0 8 rfl rfl)
theorem dX6_operand_9 : decode cX6_operand 9 = .ok (.bipush 40, 2) := dk_16 40 (dk_at dksX6_operand_0 9 rfl rfl)
theorem dX6_operand_11 : decode cX6_operand 11 = .ok (.invokevirtual 180, 3) := dk_182 0 180 (dk_at dksX6_operand_0 11 rfl rfl)
theorem dX6_operand_14 : decode cX6_operand 14 = .ok (.istore_n 2, 1) := dk_61 (dk_at dksX6_operand_0 14 rfl rfl)
theorem dX6_operand_15 : decode cX6_operand 15 = .ok (.aload_n 0, 1) := dk_42 (dk_at dksX6_operand_0 15 rfl rfl)
theorem dX6_operand_16 : decode cX6_operand 16 = .ok (.invokevirtual 449, 3) := dk_182 1 193 (dk_at dksX6_operand_0 16 rfl rfl)
theorem dX6_operand_19 : decode cX6_operand 19 = .ok (.istore_n 3, 1) := dk_62 (dk_at dksX6_operand_0 19 rfl rfl)
theorem dX6_operand_20 : decode cX6_operand 20 = .ok (.iload_n 1, 1) := dk_27 (dk_at dksX6_operand_0 20 rfl rfl)
theorem dX6_operand_21 : decode cX6_operand 21 = .ok (.ifCond .ne 17, 3) := dk_154 0 17 (dk_at dksX6_operand_0 21 rfl rfl)
theorem dX6_operand_24 : decode cX6_operand 24 = .ok (.iload_n 2, 1) := dk_28 (dk_at dksX6_operand_1 0 rfl rfl)
theorem dX6_operand_25 : decode cX6_operand 25 = .ok (.ifCond .ne 13, 3) := dk_154 0 13 (dk_at dksX6_operand_1 1 rfl rfl)
theorem dX6_operand_28 : decode cX6_operand 28 = .ok (.iload_n 3, 1) := dk_29 (dk_at dksX6_operand_1 4 rfl rfl)
theorem dX6_operand_29 : decode cX6_operand 29 = .ok (.ifCond .ge 9, 3) := dk_156 0 9 (dk_at dksX6_operand_1 5 rfl rfl)
theorem dX6_operand_32 : decode cX6_operand 32 = .ok (.aload_n 0, 1) := dk_42 (dk_at dksX6_operand_1 8 rfl rfl)
theorem dX6_operand_33 : decode cX6_operand 33 = .ok (.iconst 1, 1) := dk_4 (dk_at dksX6_operand_1 9 rfl rfl)
theorem dX6_operand_34 : decode cX6_operand 34 = .ok (.invokevirtual 183, 3) := dk_182 0 183 (dk_at dksX6_operand_1 10 rfl rfl)
theorem dX6_operand_37 : decode cX6_operand 37 = .ok (.ireturn, 1) := dk_172 (dk_at dksX6_operand_1 13 rfl rfl)
theorem dX6_operand_38 : decode cX6_operand 38 = .ok (.aload_n 0, 1) := dk_42 (dk_at dksX6_operand_1 14 rfl rfl)
theorem dX6_operand_39 : decode cX6_operand 39 = .ok (.getfield 452, 3) := dk_180 1 196 (dk_at dksX6_operand_1 15 rfl rfl)
theorem dX6_operand_42 : decode cX6_operand 42 = .ok (.bipush 20, 2) := dk_16 20 (dk_at dksX6_operand_1 18 rfl rfl)
theorem dX6_operand_44 : decode cX6_operand 44 = .ok (.if_icmp .eq 12, 3) := dk_159 0 12 (dk_at dksX6_operand_1 20 rfl rfl)
theorem dX6_operand_47 : decode cX6_operand 47 = .ok (.aload_n 0, 1) := dk_42 (dk_at dksX6_operand_1 23 rfl rfl)
theorem dX6_operand_48 : decode cX6_operand 48 = .ok (.getfield 446, 3) := dk_180 1 190 (dk_at dksX6_operand_2 0 rfl rfl)
theorem dX6_operand_51 : decode cX6_operand 51 = .ok (.bipush 8, 2) := dk_16 8 (dk_at dksX6_operand_2 3 rfl rfl)
theorem dX6_operand_53 : decode cX6_operand 53 = .ok (.if_icmp .le 9, 3) := dk_164 0 9 (dk_at dksX6_operand_2 5 rfl rfl)
theorem dX6_operand_56 : decode cX6_operand 56 = .ok (.aload_n 0, 1) := dk_42 (dk_at dksX6_operand_2 8 rfl rfl)
theorem dX6_operand_57 : decode cX6_operand 57 = .ok (.iconst 4, 1) := dk_7 (dk_at dksX6_operand_2 9 rfl rfl)
theorem dX6_operand_58 : decode cX6_operand 58 = .ok (.invokevirtual 183, 3) := dk_182 0 183 (dk_at dksX6_operand_2 10 rfl rfl)
theorem dX6_operand_61 : decode cX6_operand 61 = .ok (.ireturn, 1) := dk_172 (dk_at dksX6_operand_2 13 rfl rfl)
theorem dX6_operand_62 : decode cX6_operand 62 = .ok (.aload_n 0, 1) := dk_42 (dk_at dksX6_operand_2 14 rfl rfl)
theorem dX6_operand_63 : decode cX6_operand 63 = .ok (.dup, 1) := dk_89 (dk_at dksX6_operand_2 15 rfl rfl)
theorem dX6_operand_64 : decode cX6_operand 64 = .ok (.getfield 452, 3) := dk_180 1 196 (dk_at dksX6_operand_2 16 rfl rfl)
theorem dX6_operand_67 : decode cX6_operand 67 = .ok (.iconst 1, 1) := dk_4 (dk_at dksX6_operand_2 19 rfl rfl)
theorem dX6_operand_68 : decode cX6_operand 68 = .ok (.iadd, 1) := dk_96 (dk_at dksX6_operand_2 20 rfl rfl)
theorem dX6_operand_69 : decode cX6_operand 69 = .ok (.putfield 452, 3) := dk_181 1 196 (dk_at dksX6_operand_2 21 rfl rfl)
theorem dX6_operand_72 : decode cX6_operand 72 = .ok (.aload_n 0, 1) := dk_42 (dk_at dksX6_operand_3 0 rfl rfl)
theorem dX6_operand_73 : decode cX6_operand 73 = .ok (.invokevirtual 186, 3) := dk_182 0 186 (dk_at dksX6_operand_3 1 rfl rfl)
theorem dX6_operand_76 : decode cX6_operand 76 = .ok (.iload_n 1, 1) := dk_27 (dk_at dksX6_operand_3 4 rfl rfl)
theorem dX6_operand_77 : decode cX6_operand 77 = .ok (.ifCond .ne 7, 3) := dk_154 0 7 (dk_at dksX6_operand_3 5 rfl rfl)
theorem dX6_operand_80 : decode cX6_operand 80 = .ok (.iload_n 2, 1) := dk_28 (dk_at dksX6_operand_3 8 rfl rfl)
theorem dX6_operand_81 : decode cX6_operand 81 = .ok (.ifCond .eq 45, 3) := dk_153 0 45 (dk_at dksX6_operand_3 9 rfl rfl)
theorem dX6_operand_84 : decode cX6_operand 84 = .ok (.aload_n 0, 1) := dk_42 (dk_at dksX6_operand_3 12 rfl rfl)
theorem dX6_operand_85 : decode cX6_operand 85 = .ok (.getfield 89, 3) := dk_180 0 89 (dk_at dksX6_operand_3 13 rfl rfl)
theorem dX6_operand_88 : decode cX6_operand 88 = .ok (.aload_n 0, 1) := dk_42 (dk_at dksX6_operand_3 16 rfl rfl)
theorem dX6_operand_89 : decode cX6_operand 89 = .ok (.getfield 440, 3) := dk_180 1 184 (dk_at dksX6_operand_3 17 rfl rfl)
theorem dX6_operand_92 : decode cX6_operand 92 = .ok (.iload_n 1, 1) := dk_27 (dk_at dksX6_operand_3 20 rfl rfl)
theorem dX6_operand_93 : decode cX6_operand 93 = .ok (.ifCond .eq 8, 3) := dk_153 0 8 (dk_at dksX6_operand_3 21 rfl rfl)
theorem dX6_operand_96 : decode cX6_operand 96 = .ok (.bipush 20, 2) := dk_16 20 (dk_at dksX6_operand_4 0 rfl rfl)
theorem dX6_operand_98 : decode cX6_operand 98 = .ok (.goto 5, 3) := dk_167 0 5 (dk_at dksX6_operand_4 2 rfl rfl)
theorem dX6_operand_101 : decode cX6_operand 101 = .ok (.bipush 23, 2) := dk_16 23 (dk_at dksX6_operand_4 5 rfl rfl)
theorem dX6_operand_103 : decode cX6_operand 103 = .ok (.iastore, 1) := dk_79 (dk_at dksX6_operand_4 7 rfl rfl)
theorem dX6_operand_104 : decode cX6_operand 104 = .ok (.aload_n 0, 1) := dk_42 (dk_at dksX6_operand_4 8 rfl rfl)
theorem dX6_operand_105 : decode cX6_operand 105 = .ok (.dup, 1) := dk_89 (dk_at dksX6_operand_4 9 rfl rfl)
theorem dX6_operand_106 : decode cX6_operand 106 = .ok (.getfield 440, 3) := dk_180 1 184 (dk_at dksX6_operand_4 10 rfl rfl)
theorem dX6_operand_109 : decode cX6_operand 109 = .ok (.iconst 1, 1) := dk_4 (dk_at dksX6_operand_4 13 rfl rfl)
theorem dX6_operand_110 : decode cX6_operand 110 = .ok (.iadd, 1) := dk_96 (dk_at dksX6_operand_4 14 rfl rfl)
theorem dX6_operand_111 : decode cX6_operand 111 = .ok (.putfield 440, 3) := dk_181 1 184 (dk_at dksX6_operand_4 15 rfl rfl)
theorem dX6_operand_114 : decode cX6_operand 114 = .ok (.aload_n 0, 1) := dk_42 (dk_at dksX6_operand_4 18 rfl rfl)
theorem dX6_operand_115 : decode cX6_operand 115 = .ok (.dup, 1) := dk_89 (dk_at dksX6_operand_4 19 rfl rfl)
theorem dX6_operand_116 : decode cX6_operand 116 = .ok (.getfield 446, 3) := dk_180 1 190 (dk_at dksX6_operand_4 20 rfl rfl)
theorem dX6_operand_119 : decode cX6_operand 119 = .ok (.iconst 1, 1) := dk_4 (dk_at dksX6_operand_4 23 rfl rfl)
theorem dX6_operand_120 : decode cX6_operand 120 = .ok (.iadd, 1) := dk_96 (dk_at dksX6_operand_5 0 rfl rfl)
theorem dX6_operand_121 : decode cX6_operand 121 = .ok (.putfield 446, 3) := dk_181 1 190 (dk_at dksX6_operand_5 1 rfl rfl)
theorem dX6_operand_124 : decode cX6_operand 124 = .ok (.iconst 1, 1) := dk_4 (dk_at dksX6_operand_5 4 rfl rfl)
theorem dX6_operand_125 : decode cX6_operand 125 = .ok (.ireturn, 1) := dk_172 (dk_at dksX6_operand_5 5 rfl rfl)
theorem dX6_operand_126 : decode cX6_operand 126 = .ok (.aload_n 0, 1) := dk_42 (dk_at dksX6_operand_5 6 rfl rfl)
theorem dX6_operand_127 : decode cX6_operand 127 = .ok (.iconst 1, 1) := dk_4 (dk_at dksX6_operand_5 7 rfl rfl)
theorem dX6_operand_128 : decode cX6_operand 128 = .ok (.putfield 455, 3) := dk_181 1 199 (dk_at dksX6_operand_5 8 rfl rfl)
theorem dX6_operand_131 : decode cX6_operand 131 = .ok (.iload_n 3, 1) := dk_29 (dk_at dksX6_operand_5 11 rfl rfl)
theorem dX6_operand_132 : decode cX6_operand 132 = .ok (.iconst 5, 1) := dk_8 (dk_at dksX6_operand_5 12 rfl rfl)
theorem dX6_operand_133 : decode cX6_operand 133 = .ok (.if_icmp .ge 12, 3) := dk_162 0 12 (dk_at dksX6_operand_5 13 rfl rfl)
theorem dX6_operand_136 : decode cX6_operand 136 = .ok (.aload_n 0, 1) := dk_42 (dk_at dksX6_operand_5 16 rfl rfl)
theorem dX6_operand_137 : decode cX6_operand 137 = .ok (.iload_n 3, 1) := dk_29 (dk_at dksX6_operand_5 17 rfl rfl)
theorem dX6_operand_138 : decode cX6_operand 138 = .ok (.iconst 0, 1) := dk_3 (dk_at dksX6_operand_5 18 rfl rfl)
theorem dX6_operand_139 : decode cX6_operand 139 = .ok (.iconst 0, 1) := dk_3 (dk_at dksX6_operand_5 19 rfl rfl)
theorem dX6_operand_140 : decode cX6_operand 140 = .ok (.invokevirtual 443, 3) := dk_182 1 187 (dk_at dksX6_operand_5 20 rfl rfl)
theorem dX6_operand_143 : decode cX6_operand 143 = .ok (.iconst 1, 1) := dk_4 (dk_at dksX6_operand_5 23 rfl rfl)
theorem dX6_operand_144 : decode cX6_operand 144 = .ok (.ireturn, 1) := dk_172 (dk_at dksX6_operand_6 0 rfl rfl)
theorem dX6_operand_145 : decode cX6_operand 145 = .ok (.iload_n 3, 1) := dk_29 (dk_at dksX6_operand_6 1 rfl rfl)
theorem dX6_operand_146 : decode cX6_operand 146 = .ok (.iconst 5, 1) := dk_8 (dk_at dksX6_operand_6 2 rfl rfl)
theorem dX6_operand_147 : decode cX6_operand 147 = .ok (.if_icmp .ne 32, 3) := dk_160 0 32 (dk_at dksX6_operand_6 3 rfl rfl)
theorem dX6_operand_150 : decode cX6_operand 150 = .ok (.aload_n 0, 1) := dk_42 (dk_at dksX6_operand_6 6 rfl rfl)
theorem dX6_operand_151 : decode cX6_operand 151 = .ok (.bipush 8, 2) := dk_16 8 (dk_at dksX6_operand_6 7 rfl rfl)
theorem dX6_operand_153 : decode cX6_operand 153 = .ok (.aload_n 0, 1) := dk_42 (dk_at dksX6_operand_6 9 rfl rfl)
theorem dX6_operand_154 : decode cX6_operand 154 = .ok (.getfield 33, 3) := dk_180 0 33 (dk_at dksX6_operand_6 10 rfl rfl)
theorem dX6_operand_157 : decode cX6_operand 157 = .ok (.iconst 2, 1) := dk_5 (dk_at dksX6_operand_6 13 rfl rfl)
theorem dX6_operand_158 : decode cX6_operand 158 = .ok (.iaload, 1) := dk_46 (dk_at dksX6_operand_6 14 rfl rfl)
theorem dX6_operand_159 : decode cX6_operand 159 = .ok (.invokevirtual 218, 3) := dk_182 0 218 (dk_at dksX6_operand_6 15 rfl rfl)
theorem dX6_operand_162 : decode cX6_operand 162 = .ok (.ifCond .ne 5, 3) := dk_154 0 5 (dk_at dksX6_operand_6 18 rfl rfl)
theorem dX6_operand_165 : decode cX6_operand 165 = .ok (.iconst 0, 1) := dk_3 (dk_at dksX6_operand_6 21 rfl rfl)
theorem dX6_operand_166 : decode cX6_operand 166 = .ok (.ireturn, 1) := dk_172 (dk_at dksX6_operand_6 22 rfl rfl)
theorem dX6_operand_167 : decode cX6_operand 167 = .ok (.aload_n 0, 1) := dk_42 (dk_at dksX6_operand_6 23 rfl rfl)
theorem dX6_operand_168 : decode cX6_operand 168 = .ok (.iload_n 3, 1) := dk_29 (dk_at dksX6_operand_7 0 rfl rfl)
theorem dX6_operand_169 : decode cX6_operand 169 = .ok (.iconst 0, 1) := dk_3 (dk_at dksX6_operand_7 1 rfl rfl)
theorem dX6_operand_170 : decode cX6_operand 170 = .ok (.aload_n 0, 1) := dk_42 (dk_at dksX6_operand_7 2 rfl rfl)
theorem dX6_operand_171 : decode cX6_operand 171 = .ok (.getfield 193, 3) := dk_180 0 193 (dk_at dksX6_operand_7 3 rfl rfl)
theorem dX6_operand_174 : decode cX6_operand 174 = .ok (.invokevirtual 443, 3) := dk_182 1 187 (dk_at dksX6_operand_7 6 rfl rfl)
theorem dX6_operand_177 : decode cX6_operand 177 = .ok (.iconst 1, 1) := dk_4 (dk_at dksX6_operand_7 9 rfl rfl)
theorem dX6_operand_178 : decode cX6_operand 178 = .ok (.ireturn, 1) := dk_172 (dk_at dksX6_operand_7 10 rfl rfl)
theorem dX6_operand_179 : decode cX6_operand 179 = .ok (.aload_n 0, 1) := dk_42 (dk_at dksX6_operand_7 11 rfl rfl)
theorem dX6_operand_180 : decode cX6_operand 180 = .ok (.getfield 157, 3) := dk_180 0 157 (dk_at dksX6_operand_7 12 rfl rfl)
theorem dX6_operand_183 : decode cX6_operand 183 = .ok (.iconst 3, 1) := dk_6 (dk_at dksX6_operand_7 15 rfl rfl)
theorem dX6_operand_184 : decode cX6_operand 184 = .ok (.if_icmp .ne 21, 3) := dk_160 0 21 (dk_at dksX6_operand_7 16 rfl rfl)
theorem dX6_operand_187 : decode cX6_operand 187 = .ok (.aload_n 0, 1) := dk_42 (dk_at dksX6_operand_7 19 rfl rfl)
theorem dX6_operand_188 : decode cX6_operand 188 = .ok (.getfield 167, 3) := dk_180 0 167 (dk_at dksX6_operand_7 20 rfl rfl)
theorem dX6_operand_191 : decode cX6_operand 191 = .ok (.bipush 60, 2) := dk_16 60 (dk_at dksX6_operand_8 0 rfl rfl)
theorem dX6_operand_193 : decode cX6_operand 193 = .ok (.if_icmp .lt 12, 3) := dk_161 0 12 (dk_at dksX6_operand_8 2 rfl rfl)
theorem dX6_operand_196 : decode cX6_operand 196 = .ok (.aload_n 0, 1) := dk_42 (dk_at dksX6_operand_8 5 rfl rfl)
theorem dX6_operand_197 : decode cX6_operand 197 = .ok (.getfield 167, 3) := dk_180 0 167 (dk_at dksX6_operand_8 6 rfl rfl)
theorem dX6_operand_200 : decode cX6_operand 200 = .ok (.bipush 62, 2) := dk_16 62 (dk_at dksX6_operand_8 9 rfl rfl)
theorem dX6_operand_202 : decode cX6_operand 202 = .ok (.if_icmp .le 9, 3) := dk_164 0 9 (dk_at dksX6_operand_8 11 rfl rfl)
theorem dX6_operand_205 : decode cX6_operand 205 = .ok (.aload_n 0, 1) := dk_42 (dk_at dksX6_operand_8 14 rfl rfl)
theorem dX6_operand_206 : decode cX6_operand 206 = .ok (.iconst 1, 1) := dk_4 (dk_at dksX6_operand_8 15 rfl rfl)
theorem dX6_operand_207 : decode cX6_operand 207 = .ok (.invokevirtual 183, 3) := dk_182 0 183 (dk_at dksX6_operand_8 16 rfl rfl)
theorem dX6_operand_210 : decode cX6_operand 210 = .ok (.ireturn, 1) := dk_172 (dk_at dksX6_operand_8 19 rfl rfl)
theorem dX6_operand_211 : decode cX6_operand 211 = .ok (.aload_n 0, 1) := dk_42 (dk_at dksX6_operand_8 20 rfl rfl)
theorem dX6_operand_212 : decode cX6_operand 212 = .ok (.getfield 167, 3) := dk_180 0 167 (dk_at dksX6_operand_8 21 rfl rfl)
theorem dX6_operand_215 : decode cX6_operand 215 = .ok (.istore 4, 2) := dk_54 4 (dk_at dksX6_operand_9 0 rfl rfl)
theorem dX6_operand_217 : decode cX6_operand 217 = .ok (.aload_n 0, 1) := dk_42 (dk_at dksX6_operand_9 2 rfl rfl)
theorem dX6_operand_218 : decode cX6_operand 218 = .ok (.invokevirtual 186, 3) := dk_182 0 186 (dk_at dksX6_operand_9 3 rfl rfl)
theorem dX6_operand_221 : decode cX6_operand 221 = .ok (.aload_n 0, 1) := dk_42 (dk_at dksX6_operand_9 6 rfl rfl)
theorem dX6_operand_222 : decode cX6_operand 222 = .ok (.getfield 157, 3) := dk_180 0 157 (dk_at dksX6_operand_9 7 rfl rfl)
theorem dX6_operand_225 : decode cX6_operand 225 = .ok (.iconst 2, 1) := dk_5 (dk_at dksX6_operand_9 10 rfl rfl)
theorem dX6_operand_226 : decode cX6_operand 226 = .ok (.if_icmp .eq 9, 3) := dk_159 0 9 (dk_at dksX6_operand_9 11 rfl rfl)
theorem dX6_operand_229 : decode cX6_operand 229 = .ok (.aload_n 0, 1) := dk_42 (dk_at dksX6_operand_9 14 rfl rfl)
theorem dX6_operand_230 : decode cX6_operand 230 = .ok (.iconst 1, 1) := dk_4 (dk_at dksX6_operand_9 15 rfl rfl)
theorem dX6_operand_231 : decode cX6_operand 231 = .ok (.invokevirtual 183, 3) := dk_182 0 183 (dk_at dksX6_operand_9 16 rfl rfl)
theorem dX6_operand_234 : decode cX6_operand 234 = .ok (.ireturn, 1) := dk_172 (dk_at dksX6_operand_9 19 rfl rfl)
theorem dX6_operand_235 : decode cX6_operand 235 = .ok (.aload_n 0, 1) := dk_42 (dk_at dksX6_operand_9 20 rfl rfl)
theorem dX6_operand_236 : decode cX6_operand 236 = .ok (.iload_n 3, 1) := dk_29 (dk_at dksX6_operand_9 21 rfl rfl)
theorem dX6_operand_237 : decode cX6_operand 237 = .ok (.iload 4, 2) := dk_21 4 (dk_at dksX6_operand_9 22 rfl rfl)
theorem dX6_operand_239 : decode cX6_operand 239 = .ok (.aload_n 0, 1) := dk_42 (dk_at dksX6_operand_10 0 rfl rfl)
theorem dX6_operand_240 : decode cX6_operand 240 = .ok (.getfield 167, 3) := dk_180 0 167 (dk_at dksX6_operand_10 1 rfl rfl)
theorem dX6_operand_243 : decode cX6_operand 243 = .ok (.invokevirtual 443, 3) := dk_182 1 187 (dk_at dksX6_operand_10 4 rfl rfl)
theorem dX6_operand_246 : decode cX6_operand 246 = .ok (.aload_n 0, 1) := dk_42 (dk_at dksX6_operand_10 7 rfl rfl)
theorem dX6_operand_247 : decode cX6_operand 247 = .ok (.invokevirtual 186, 3) := dk_182 0 186 (dk_at dksX6_operand_10 8 rfl rfl)
theorem dX6_operand_250 : decode cX6_operand 250 = .ok (.iconst 1, 1) := dk_4 (dk_at dksX6_operand_10 11 rfl rfl)
theorem dX6_operand_251 : decode cX6_operand 251 = .ok (.ireturn, 1) := dk_172 (dk_at dksX6_operand_10 12 rfl rfl)
abbrev cX6_leafOf : ByteArray := prog_25_method_104_code
def yX6_leafOf : MethodName := ⟨RX6, "leafOf", "()I"⟩
def dkwX6_leafOf_6 : List UInt8 := [167, 0, 4, 2, 172]
abbrev dktX6_leafOf_6 : List UInt8 := dkwX6_leafOf_6 ++ []
def dkwX6_leafOf_5 : List UInt8 := [182, 0, 214, 153, 0, 8, 16, 8, 167, 0, 19, 42, 20, 0, 145, 182, 0, 214, 153, 0, 8, 16, 9]
abbrev dktX6_leafOf_5 : List UInt8 := dkwX6_leafOf_5 ++ dktX6_leafOf_6
def dkwX6_leafOf_4 : List UInt8 := [16, 6, 167, 0, 49, 42, 20, 0, 141, 182, 0, 214, 153, 0, 8, 16, 7, 167, 0, 34, 42, 20, 0, 143]
abbrev dktX6_leafOf_4 : List UInt8 := dkwX6_leafOf_4 ++ dktX6_leafOf_5
def dkwX6_leafOf_3 : List UInt8 := [42, 20, 0, 137, 182, 0, 214, 153, 0, 7, 8, 167, 0, 64, 42, 20, 0, 139, 182, 0, 214, 153, 0, 8]
abbrev dktX6_leafOf_3 : List UInt8 := dkwX6_leafOf_3 ++ dktX6_leafOf_4
def dkwX6_leafOf_2 : List UInt8 := [182, 0, 214, 153, 0, 7, 6, 167, 0, 92, 42, 20, 0, 135, 182, 0, 214, 153, 0, 7, 7, 167, 0, 78]
abbrev dktX6_leafOf_2 : List UInt8 := dkwX6_leafOf_2 ++ dktX6_leafOf_3
def dkwX6_leafOf_1 : List UInt8 := [4, 167, 0, 120, 42, 20, 0, 131, 182, 0, 214, 153, 0, 7, 5, 167, 0, 106, 42, 20, 0, 133]
abbrev dktX6_leafOf_1 : List UInt8 := dkwX6_leafOf_1 ++ dktX6_leafOf_2
def dkwX6_leafOf_0 : List UInt8 := [42, 20, 0, 127, 182, 0, 214, 153, 0, 7, 3, 167, 0, 134, 42, 20, 0, 129, 182, 0, 214, 153, 0, 7]
abbrev dktX6_leafOf_0 : List UInt8 := dkwX6_leafOf_0 ++ dktX6_leafOf_1
theorem dksX6_leafOf_0 : cX6_leafOf.data.toList.drop 0 = dktX6_leafOf_0 := by decide +kernel
theorem dksX6_leafOf_1 : cX6_leafOf.data.toList.drop 24 = dktX6_leafOf_1 := dk_seg dksX6_leafOf_0 24 rfl rfl
theorem dksX6_leafOf_2 : cX6_leafOf.data.toList.drop 46 = dktX6_leafOf_2 := dk_seg dksX6_leafOf_1 22 rfl rfl
theorem dksX6_leafOf_3 : cX6_leafOf.data.toList.drop 70 = dktX6_leafOf_3 := dk_seg dksX6_leafOf_2 24 rfl rfl
theorem dksX6_leafOf_4 : cX6_leafOf.data.toList.drop 94 = dktX6_leafOf_4 := dk_seg dksX6_leafOf_3 24 rfl rfl
theorem dksX6_leafOf_5 : cX6_leafOf.data.toList.drop 118 = dktX6_leafOf_5 := dk_seg dksX6_leafOf_4 24 rfl rfl
theorem dksX6_leafOf_6 : cX6_leafOf.data.toList.drop 141 = dktX6_leafOf_6 := dk_seg dksX6_leafOf_5 23 rfl rfl
theorem dX6_leafOf_0 : decode cX6_leafOf 0 = .ok (.aload_n 0, 1) := dk_42 (dk_at dksX6_leafOf_0 0 rfl rfl)
theorem dX6_leafOf_1 : decode cX6_leafOf 1 = .ok (.ldc2_w 127, 3) := dk_20 0 127 (dk_at dksX6_leafOf_0 1 rfl rfl)
theorem dX6_leafOf_4 : decode cX6_leafOf 4 = .ok (.invokevirtual 214, 3) := dk_182 0 214 (dk_at dksX6_leafOf_0 4 rfl rfl)
theorem dX6_leafOf_7 : decode cX6_leafOf 7 = .ok (.ifCond .eq 7, 3) := dk_153 0 7 (dk_at dksX6_leafOf_0 7 rfl rfl)
theorem dX6_leafOf_10 : decode cX6_leafOf 10 = .ok (.iconst 0, 1) := dk_3 (dk_at dksX6_leafOf_0 10 rfl rfl)
theorem dX6_leafOf_11 : decode cX6_leafOf 11 = .ok (.goto 134, 3) := dk_167 0 134 (dk_at dksX6_leafOf_0 11 rfl rfl)
theorem dX6_leafOf_14 : decode cX6_leafOf 14 = .ok (.aload_n 0, 1) := dk_42 (dk_at dksX6_leafOf_0 14 rfl rfl)
theorem dX6_leafOf_15 : decode cX6_leafOf 15 = .ok (.ldc2_w 129, 3) := dk_20 0 129 (dk_at dksX6_leafOf_0 15 rfl rfl)
theorem dX6_leafOf_18 : decode cX6_leafOf 18 = .ok (.invokevirtual 214, 3) := dk_182 0 214 (dk_at dksX6_leafOf_0 18 rfl rfl)
theorem dX6_leafOf_21 : decode cX6_leafOf 21 = .ok (.ifCond .eq 7, 3) := dk_153 0 7 (dk_at dksX6_leafOf_0 21 rfl rfl)
theorem dX6_leafOf_24 : decode cX6_leafOf 24 = .ok (.iconst 1, 1) := dk_4 (dk_at dksX6_leafOf_1 0 rfl rfl)
theorem dX6_leafOf_25 : decode cX6_leafOf 25 = .ok (.goto 120, 3) := dk_167 0 120 (dk_at dksX6_leafOf_1 1 rfl rfl)
theorem dX6_leafOf_28 : decode cX6_leafOf 28 = .ok (.aload_n 0, 1) := dk_42 (dk_at dksX6_leafOf_1 4 rfl rfl)
theorem dX6_leafOf_29 : decode cX6_leafOf 29 = .ok (.ldc2_w 131, 3) := dk_20 0 131 (dk_at dksX6_leafOf_1 5 rfl rfl)
theorem dX6_leafOf_32 : decode cX6_leafOf 32 = .ok (.invokevirtual 214, 3) := dk_182 0 214 (dk_at dksX6_leafOf_1 8 rfl rfl)
theorem dX6_leafOf_35 : decode cX6_leafOf 35 = .ok (.ifCond .eq 7, 3) := dk_153 0 7 (dk_at dksX6_leafOf_1 11 rfl rfl)
theorem dX6_leafOf_38 : decode cX6_leafOf 38 = .ok (.iconst 2, 1) := dk_5 (dk_at dksX6_leafOf_1 14 rfl rfl)
theorem dX6_leafOf_39 : decode cX6_leafOf 39 = .ok (.goto 106, 3) := dk_167 0 106 (dk_at dksX6_leafOf_1 15 rfl rfl)
theorem dX6_leafOf_42 : decode cX6_leafOf 42 = .ok (.aload_n 0, 1) := dk_42 (dk_at dksX6_leafOf_1 18 rfl rfl)
theorem dX6_leafOf_43 : decode cX6_leafOf 43 = .ok (.ldc2_w 133, 3) := dk_20 0 133 (dk_at dksX6_leafOf_1 19 rfl rfl)
theorem dX6_leafOf_46 : decode cX6_leafOf 46 = .ok (.invokevirtual 214, 3) := dk_182 0 214 (dk_at dksX6_leafOf_2 0 rfl rfl)
theorem dX6_leafOf_49 : decode cX6_leafOf 49 = .ok (.ifCond .eq 7, 3) := dk_153 0 7 (dk_at dksX6_leafOf_2 3 rfl rfl)
theorem dX6_leafOf_52 : decode cX6_leafOf 52 = .ok (.iconst 3, 1) := dk_6 (dk_at dksX6_leafOf_2 6 rfl rfl)
theorem dX6_leafOf_53 : decode cX6_leafOf 53 = .ok (.goto 92, 3) := dk_167 0 92 (dk_at dksX6_leafOf_2 7 rfl rfl)
theorem dX6_leafOf_56 : decode cX6_leafOf 56 = .ok (.aload_n 0, 1) := dk_42 (dk_at dksX6_leafOf_2 10 rfl rfl)
theorem dX6_leafOf_57 : decode cX6_leafOf 57 = .ok (.ldc2_w 135, 3) := dk_20 0 135 (dk_at dksX6_leafOf_2 11 rfl rfl)
theorem dX6_leafOf_60 : decode cX6_leafOf 60 = .ok (.invokevirtual 214, 3) := dk_182 0 214 (dk_at dksX6_leafOf_2 14 rfl rfl)
theorem dX6_leafOf_63 : decode cX6_leafOf 63 = .ok (.ifCond .eq 7, 3) := dk_153 0 7 (dk_at dksX6_leafOf_2 17 rfl rfl)
theorem dX6_leafOf_66 : decode cX6_leafOf 66 = .ok (.iconst 4, 1) := dk_7 (dk_at dksX6_leafOf_2 20 rfl rfl)
theorem dX6_leafOf_67 : decode cX6_leafOf 67 = .ok (.goto 78, 3) := dk_167 0 78 (dk_at dksX6_leafOf_2 21 rfl rfl)
theorem dX6_leafOf_70 : decode cX6_leafOf 70 = .ok (.aload_n 0, 1) := dk_42 (dk_at dksX6_leafOf_3 0 rfl rfl)
theorem dX6_leafOf_71 : decode cX6_leafOf 71 = .ok (.ldc2_w 137, 3) := dk_20 0 137 (dk_at dksX6_leafOf_3 1 rfl rfl)
theorem dX6_leafOf_74 : decode cX6_leafOf 74 = .ok (.invokevirtual 214, 3) := dk_182 0 214 (dk_at dksX6_leafOf_3 4 rfl rfl)
theorem dX6_leafOf_77 : decode cX6_leafOf 77 = .ok (.ifCond .eq 7, 3) := dk_153 0 7 (dk_at dksX6_leafOf_3 7 rfl rfl)
theorem dX6_leafOf_80 : decode cX6_leafOf 80 = .ok (.iconst 5, 1) := dk_8 (dk_at dksX6_leafOf_3 10 rfl rfl)
theorem dX6_leafOf_81 : decode cX6_leafOf 81 = .ok (.goto 64, 3) := dk_167 0 64 (dk_at dksX6_leafOf_3 11 rfl rfl)
theorem dX6_leafOf_84 : decode cX6_leafOf 84 = .ok (.aload_n 0, 1) := dk_42 (dk_at dksX6_leafOf_3 14 rfl rfl)
theorem dX6_leafOf_85 : decode cX6_leafOf 85 = .ok (.ldc2_w 139, 3) := dk_20 0 139 (dk_at dksX6_leafOf_3 15 rfl rfl)
theorem dX6_leafOf_88 : decode cX6_leafOf 88 = .ok (.invokevirtual 214, 3) := dk_182 0 214 (dk_at dksX6_leafOf_3 18 rfl rfl)
theorem dX6_leafOf_91 : decode cX6_leafOf 91 = .ok (.ifCond .eq 8, 3) := dk_153 0 8 (dk_at dksX6_leafOf_3 21 rfl rfl)
theorem dX6_leafOf_94 : decode cX6_leafOf 94 = .ok (.bipush 6, 2) := dk_16 6 (dk_at dksX6_leafOf_4 0 rfl rfl)
theorem dX6_leafOf_96 : decode cX6_leafOf 96 = .ok (.goto 49, 3) := dk_167 0 49 (dk_at dksX6_leafOf_4 2 rfl rfl)
theorem dX6_leafOf_99 : decode cX6_leafOf 99 = .ok (.aload_n 0, 1) := dk_42 (dk_at dksX6_leafOf_4 5 rfl rfl)
theorem dX6_leafOf_100 : decode cX6_leafOf 100 = .ok (.ldc2_w 141, 3) := dk_20 0 141 (dk_at dksX6_leafOf_4 6 rfl rfl)
theorem dX6_leafOf_103 : decode cX6_leafOf 103 = .ok (.invokevirtual 214, 3) := dk_182 0 214 (dk_at dksX6_leafOf_4 9 rfl rfl)
theorem dX6_leafOf_106 : decode cX6_leafOf 106 = .ok (.ifCond .eq 8, 3) := dk_153 0 8 (dk_at dksX6_leafOf_4 12 rfl rfl)
theorem dX6_leafOf_109 : decode cX6_leafOf 109 = .ok (.bipush 7, 2) := dk_16 7 (dk_at dksX6_leafOf_4 15 rfl rfl)
theorem dX6_leafOf_111 : decode cX6_leafOf 111 = .ok (.goto 34, 3) := dk_167 0 34 (dk_at dksX6_leafOf_4 17 rfl rfl)
theorem dX6_leafOf_114 : decode cX6_leafOf 114 = .ok (.aload_n 0, 1) := dk_42 (dk_at dksX6_leafOf_4 20 rfl rfl)
theorem dX6_leafOf_115 : decode cX6_leafOf 115 = .ok (.ldc2_w 143, 3) := dk_20 0 143 (dk_at dksX6_leafOf_4 21 rfl rfl)
theorem dX6_leafOf_118 : decode cX6_leafOf 118 = .ok (.invokevirtual 214, 3) := dk_182 0 214 (dk_at dksX6_leafOf_5 0 rfl rfl)
theorem dX6_leafOf_121 : decode cX6_leafOf 121 = .ok (.ifCond .eq 8, 3) := dk_153 0 8 (dk_at dksX6_leafOf_5 3 rfl rfl)
theorem dX6_leafOf_124 : decode cX6_leafOf 124 = .ok (.bipush 8, 2) := dk_16 8 (dk_at dksX6_leafOf_5 6 rfl rfl)
theorem dX6_leafOf_126 : decode cX6_leafOf 126 = .ok (.goto 19, 3) := dk_167 0 19 (dk_at dksX6_leafOf_5 8 rfl rfl)
theorem dX6_leafOf_129 : decode cX6_leafOf 129 = .ok (.aload_n 0, 1) := dk_42 (dk_at dksX6_leafOf_5 11 rfl rfl)
theorem dX6_leafOf_130 : decode cX6_leafOf 130 = .ok (.ldc2_w 145, 3) := dk_20 0 145 (dk_at dksX6_leafOf_5 12 rfl rfl)
theorem dX6_leafOf_133 : decode cX6_leafOf 133 = .ok (.invokevirtual 214, 3) := dk_182 0 214 (dk_at dksX6_leafOf_5 15 rfl rfl)
theorem dX6_leafOf_136 : decode cX6_leafOf 136 = .ok (.ifCond .eq 8, 3) := dk_153 0 8 (dk_at dksX6_leafOf_5 18 rfl rfl)
theorem dX6_leafOf_139 : decode cX6_leafOf 139 = .ok (.bipush 9, 2) := dk_16 9 (dk_at dksX6_leafOf_5 21 rfl rfl)
theorem dX6_leafOf_141 : decode cX6_leafOf 141 = .ok (.goto 4, 3) := dk_167 0 4 (dk_at dksX6_leafOf_6 0 rfl rfl)
theorem dX6_leafOf_144 : decode cX6_leafOf 144 = .ok (.iconst (-1), 1) := dk_2 (dk_at dksX6_leafOf_6 3 rfl rfl)
theorem dX6_leafOf_145 : decode cX6_leafOf 145 = .ok (.ireturn, 1) := dk_172 (dk_at dksX6_leafOf_6 4 rfl rfl)
abbrev cX6_said : ByteArray := prog_25_method_111_code
def yX6_said : MethodName := ⟨RX6, "said", "(I)I"⟩
def dkwX6_said_3 : List UInt8 := [160, 0, 7, 28, 167, 0, 4, 2, 172]
abbrev dktX6_said_3 : List UInt8 := dkwX6_said_3 ++ []
def dkwX6_said_2 : List UInt8 := [154, 0, 6, 167, 0, 13, 28, 27, 160, 0, 5, 29, 172, 132, 2, 1, 132, 3, 1, 167, 255, 222, 27, 2]
abbrev dktX6_said_2 : List UInt8 := dkwX6_said_2 ++ dktX6_said_3
def dkwX6_said_1 : List UInt8 := [182, 1, 66, 3, 61, 3, 62, 29, 42, 180, 0, 33, 5, 46, 162, 0, 30, 42, 29, 182, 1, 221]
abbrev dktX6_said_1 : List UInt8 := dkwX6_said_1 ++ dktX6_said_2
def dkwX6_said_0 : List UInt8 := [42, 3, 181, 0, 1, 42, 180, 0, 33, 17, 0, 224, 46, 153, 0, 8, 27, 2, 162, 0, 5, 2, 172, 42]
abbrev dktX6_said_0 : List UInt8 := dkwX6_said_0 ++ dktX6_said_1
theorem dksX6_said_0 : cX6_said.data.toList.drop 0 = dktX6_said_0 := by decide +kernel
theorem dksX6_said_1 : cX6_said.data.toList.drop 24 = dktX6_said_1 := dk_seg dksX6_said_0 24 rfl rfl
theorem dksX6_said_2 : cX6_said.data.toList.drop 46 = dktX6_said_2 := dk_seg dksX6_said_1 22 rfl rfl
theorem dksX6_said_3 : cX6_said.data.toList.drop 70 = dktX6_said_3 := dk_seg dksX6_said_2 24 rfl rfl
theorem dX6_said_0 : decode cX6_said 0 = .ok (.aload_n 0, 1) := dk_42 (dk_at dksX6_said_0 0 rfl rfl)
theorem dX6_said_1 : decode cX6_said 1 = .ok (.iconst 0, 1) := dk_3 (dk_at dksX6_said_0 1 rfl rfl)
theorem dX6_said_2 : decode cX6_said 2 = .ok (.putfield 1, 3) := dk_181 0 1 (dk_at dksX6_said_0 2 rfl rfl)
theorem dX6_said_5 : decode cX6_said 5 = .ok (.aload_n 0, 1) := dk_42 (dk_at dksX6_said_0 5 rfl rfl)
theorem dX6_said_6 : decode cX6_said 6 = .ok (.getfield 33, 3) := dk_180 0 33 (dk_at dksX6_said_0 6 rfl rfl)
theorem dX6_said_9 : decode cX6_said 9 = .ok (.sipush 224, 3) := dk_17 0 224 (dk_at dksX6_said_0 9 rfl rfl)
theorem dX6_said_12 : decode cX6_said 12 = .ok (.iaload, 1) := dk_46 (dk_at dksX6_said_0 12 rfl rfl)
theorem dX6_said_13 : decode cX6_said 13 = .ok (.ifCond .eq 8, 3) := dk_153 0 8 (dk_at dksX6_said_0 13 rfl rfl)
theorem dX6_said_16 : decode cX6_said 16 = .ok (.iload_n 1, 1) := dk_27 (dk_at dksX6_said_0 16 rfl rfl)
theorem dX6_said_17 : decode cX6_said 17 = .ok (.iconst (-1), 1) := dk_2 (dk_at dksX6_said_0 17 rfl rfl)
theorem dX6_said_18 : decode cX6_said 18 = .ok (.if_icmp .ge 5, 3) := dk_162 0 5 (dk_at dksX6_said_0 18 rfl rfl)
theorem dX6_said_21 : decode cX6_said 21 = .ok (.iconst (-1), 1) := dk_2 (dk_at dksX6_said_0 21 rfl rfl)
theorem dX6_said_22 : decode cX6_said 22 = .ok (.ireturn, 1) := dk_172 (dk_at dksX6_said_0 22 rfl rfl)
theorem dX6_said_23 : decode cX6_said 23 = .ok (.aload_n 0, 1) := dk_42 (dk_at dksX6_said_0 23 rfl rfl)
theorem dX6_said_24 : decode cX6_said 24 = .ok (.invokevirtual 322, 3) := dk_182 1 66 (dk_at dksX6_said_1 0 rfl rfl)
theorem dX6_said_27 : decode cX6_said 27 = .ok (.iconst 0, 1) := dk_3 (dk_at dksX6_said_1 3 rfl rfl)
theorem dX6_said_28 : decode cX6_said 28 = .ok (.istore_n 2, 1) := dk_61 (dk_at dksX6_said_1 4 rfl rfl)
theorem dX6_said_29 : decode cX6_said 29 = .ok (.iconst 0, 1) := dk_3 (dk_at dksX6_said_1 5 rfl rfl)
theorem dX6_said_30 : decode cX6_said 30 = .ok (.istore_n 3, 1) := dk_62 (dk_at dksX6_said_1 6 rfl rfl)
theorem dX6_said_31 : decode cX6_said 31 = .ok (.iload_n 3, 1) := dk_29 (dk_at dksX6_said_1 7 rfl rfl)
theorem dX6_said_32 : decode cX6_said 32 = .ok (.aload_n 0, 1) := dk_42 (dk_at dksX6_said_1 8 rfl rfl)
theorem dX6_said_33 : decode cX6_said 33 = .ok (.getfield 33, 3) := dk_180 0 33 (dk_at dksX6_said_1 9 rfl rfl)
theorem dX6_said_36 : decode cX6_said 36 = .ok (.iconst 2, 1) := dk_5 (dk_at dksX6_said_1 12 rfl rfl)
theorem dX6_said_37 : decode cX6_said 37 = .ok (.iaload, 1) := dk_46 (dk_at dksX6_said_1 13 rfl rfl)
theorem dX6_said_38 : decode cX6_said 38 = .ok (.if_icmp .ge 30, 3) := dk_162 0 30 (dk_at dksX6_said_1 14 rfl rfl)
theorem dX6_said_41 : decode cX6_said 41 = .ok (.aload_n 0, 1) := dk_42 (dk_at dksX6_said_1 17 rfl rfl)
theorem dX6_said_42 : decode cX6_said 42 = .ok (.iload_n 3, 1) := dk_29 (dk_at dksX6_said_1 18 rfl rfl)
theorem dX6_said_43 : decode cX6_said 43 = .ok (.invokevirtual 477, 3) := dk_182 1 221 (dk_at dksX6_said_1 19 rfl rfl)
theorem dX6_said_46 : decode cX6_said 46 = .ok (.ifCond .ne 6, 3) := dk_154 0 6 (dk_at dksX6_said_2 0 rfl rfl)
theorem dX6_said_49 : decode cX6_said 49 = .ok (.goto 13, 3) := dk_167 0 13 (dk_at dksX6_said_2 3 rfl rfl)
theorem dX6_said_52 : decode cX6_said 52 = .ok (.iload_n 2, 1) := dk_28 (dk_at dksX6_said_2 6 rfl rfl)
theorem dX6_said_53 : decode cX6_said 53 = .ok (.iload_n 1, 1) := dk_27 (dk_at dksX6_said_2 7 rfl rfl)
theorem dX6_said_54 : decode cX6_said 54 = .ok (.if_icmp .ne 5, 3) := dk_160 0 5 (dk_at dksX6_said_2 8 rfl rfl)
theorem dX6_said_57 : decode cX6_said 57 = .ok (.iload_n 3, 1) := dk_29 (dk_at dksX6_said_2 11 rfl rfl)
theorem dX6_said_58 : decode cX6_said 58 = .ok (.ireturn, 1) := dk_172 (dk_at dksX6_said_2 12 rfl rfl)
theorem dX6_said_59 : decode cX6_said 59 = .ok (.iinc 2 1, 3) := dk_132 2 1 (dk_at dksX6_said_2 13 rfl rfl)
theorem dX6_said_62 : decode cX6_said 62 = .ok (.iinc 3 1, 3) := dk_132 3 1 (dk_at dksX6_said_2 16 rfl rfl)
theorem dX6_said_65 : decode cX6_said 65 = .ok (.goto (-34), 3) := dk_167 255 222 (dk_at dksX6_said_2 19 rfl rfl)
theorem dX6_said_68 : decode cX6_said 68 = .ok (.iload_n 1, 1) := dk_27 (dk_at dksX6_said_2 22 rfl rfl)
theorem dX6_said_69 : decode cX6_said 69 = .ok (.iconst (-1), 1) := dk_2 (dk_at dksX6_said_2 23 rfl rfl)
theorem dX6_said_70 : decode cX6_said 70 = .ok (.if_icmp .ne 7, 3) := dk_160 0 7 (dk_at dksX6_said_3 0 rfl rfl)
theorem dX6_said_73 : decode cX6_said 73 = .ok (.iload_n 2, 1) := dk_28 (dk_at dksX6_said_3 3 rfl rfl)
theorem dX6_said_74 : decode cX6_said 74 = .ok (.goto 4, 3) := dk_167 0 4 (dk_at dksX6_said_3 4 rfl rfl)
theorem dX6_said_77 : decode cX6_said 77 = .ok (.iconst (-1), 1) := dk_2 (dk_at dksX6_said_3 7 rfl rfl)
theorem dX6_said_78 : decode cX6_said 78 = .ok (.ireturn, 1) := dk_172 (dk_at dksX6_said_3 8 rfl rfl)
abbrev cX6_isSaid : ByteArray := prog_25_method_110_code
def yX6_isSaid : MethodName := ⟨RX6, "isSaid", "(I)Z"⟩
def dkwX6_isSaid_9 : List UInt8 := [167, 255, 51, 42, 180, 0, 92, 3, 51, 172]
abbrev dktX6_isSaid_9 : List UInt8 := dkwX6_isSaid_9 ++ []
def dkwX6_isSaid_8 : List UInt8 := [4, 96, 46, 42, 180, 0, 33, 21, 4, 5, 96, 46, 182, 1, 217, 84, 132, 2, 1, 132, 3, 1]
abbrev dktX6_isSaid_8 : List UInt8 := dkwX6_isSaid_8 ++ dktX6_isSaid_9
def dkwX6_isSaid_7 : List UInt8 := [84, 167, 0, 42, 42, 180, 0, 92, 28, 42, 27, 42, 180, 0, 33, 21, 4, 46, 42, 180, 0, 33, 21, 4]
abbrev dktX6_isSaid_7 : List UInt8 := dkwX6_isSaid_7 ++ dktX6_isSaid_8
def dkwX6_isSaid_6 : List UInt8 := [180, 0, 92, 28, 4, 100, 51, 154, 0, 12, 42, 180, 0, 92, 28, 51, 153, 0, 7, 4, 167, 0, 4, 3]
abbrev dktX6_isSaid_6 : List UInt8 := dkwX6_isSaid_6 ++ dktX6_isSaid_7
def dkwX6_isSaid_5 : List UInt8 := [100, 51, 153, 0, 16, 42, 180, 0, 92, 28, 51, 153, 0, 7, 4, 167, 0, 32, 3, 167, 0, 28, 42]
abbrev dktX6_isSaid_5 : List UInt8 := dkwX6_isSaid_5 ++ dktX6_isSaid_6
def dkwX6_isSaid_4 : List UInt8 := [180, 0, 92, 28, 4, 100, 42, 180, 0, 33, 21, 4, 46, 16, 21, 160, 0, 31, 42, 180, 0, 92, 28, 4]
abbrev dktX6_isSaid_4 : List UInt8 := dkwX6_isSaid_4 ++ dktX6_isSaid_5
def dkwX6_isSaid_3 : List UInt8 := [21, 4, 46, 16, 21, 159, 0, 15, 42, 180, 0, 33, 21, 4, 46, 16, 22, 160, 0, 82, 132, 2, 255, 42]
abbrev dktX6_isSaid_3 : List UInt8 := dkwX6_isSaid_3 ++ dktX6_isSaid_4
def dkwX6_isSaid_2 : List UInt8 := [180, 0, 92, 28, 4, 100, 51, 154, 0, 7, 4, 167, 0, 4, 3, 84, 167, 0, 145, 42, 180, 0, 33]
abbrev dktX6_isSaid_2 : List UInt8 := dkwX6_isSaid_2 ++ dktX6_isSaid_3
def dkwX6_isSaid_1 : List UInt8 := [54, 4, 42, 180, 0, 33, 21, 4, 46, 16, 20, 160, 0, 30, 42, 180, 0, 92, 28, 4, 100, 42]
abbrev dktX6_isSaid_1 : List UInt8 := dkwX6_isSaid_1 ++ dktX6_isSaid_2
def dkwX6_isSaid_0 : List UInt8 := [3, 61, 3, 62, 29, 42, 180, 0, 33, 17, 0, 224, 46, 162, 0, 199, 17, 0, 225, 6, 29, 104, 96]
abbrev dktX6_isSaid_0 : List UInt8 := dkwX6_isSaid_0 ++ dktX6_isSaid_1
theorem dksX6_isSaid_0 : cX6_isSaid.data.toList.drop 0 = dktX6_isSaid_0 := by decide +kernel
theorem dksX6_isSaid_1 : cX6_isSaid.data.toList.drop 23 = dktX6_isSaid_1 := dk_seg dksX6_isSaid_0 23 rfl rfl
theorem dksX6_isSaid_2 : cX6_isSaid.data.toList.drop 45 = dktX6_isSaid_2 := dk_seg dksX6_isSaid_1 22 rfl rfl
theorem dksX6_isSaid_3 : cX6_isSaid.data.toList.drop 68 = dktX6_isSaid_3 := dk_seg dksX6_isSaid_2 23 rfl rfl
theorem dksX6_isSaid_4 : cX6_isSaid.data.toList.drop 92 = dktX6_isSaid_4 := dk_seg dksX6_isSaid_3 24 rfl rfl
theorem dksX6_isSaid_5 : cX6_isSaid.data.toList.drop 116 = dktX6_isSaid_5 := dk_seg dksX6_isSaid_4 24 rfl rfl
theorem dksX6_isSaid_6 : cX6_isSaid.data.toList.drop 139 = dktX6_isSaid_6 := dk_seg dksX6_isSaid_5 23 rfl rfl
theorem dksX6_isSaid_7 : cX6_isSaid.data.toList.drop 163 = dktX6_isSaid_7 := dk_seg dksX6_isSaid_6 24 rfl rfl
theorem dksX6_isSaid_8 : cX6_isSaid.data.toList.drop 187 = dktX6_isSaid_8 := dk_seg dksX6_isSaid_7 24 rfl rfl
theorem dksX6_isSaid_9 : cX6_isSaid.data.toList.drop 209 = dktX6_isSaid_9 := dk_seg dksX6_isSaid_8 22 rfl rfl
theorem dX6_isSaid_0 : decode cX6_isSaid 0 = .ok (.iconst 0, 1) := dk_3 (dk_at dksX6_isSaid_0 0 rfl rfl)
theorem dX6_isSaid_1 : decode cX6_isSaid 1 = .ok (.istore_n 2, 1) := dk_61 (dk_at dksX6_isSaid_0 1 rfl rfl)
theorem dX6_isSaid_2 : decode cX6_isSaid 2 = .ok (.iconst 0, 1) := dk_3 (dk_at dksX6_isSaid_0 2 rfl rfl)
theorem dX6_isSaid_3 : decode cX6_isSaid 3 = .ok (.istore_n 3, 1) := dk_62 (dk_at dksX6_isSaid_0 3 rfl rfl)
theorem dX6_isSaid_4 : decode cX6_isSaid 4 = .ok (.iload_n 3, 1) := dk_29 (dk_at dksX6_isSaid_0 4 rfl rfl)
theorem dX6_isSaid_5 : decode cX6_isSaid 5 = .ok (.aload_n 0, 1) := dk_42 (dk_at dksX6_isSaid_0 5 rfl rfl)
theorem dX6_isSaid_6 : decode cX6_isSaid 6 = .ok (.getfield 33, 3) := dk_180 0 33 (dk_at dksX6_isSaid_0 6 rfl rfl)
theorem dX6_isSaid_9 : decode cX6_isSaid 9 = .ok (.sipush 224, 3) := dk_17 0 224 (dk_at dksX6_isSaid_0 9 rfl rfl)
theorem dX6_isSaid_12 : decode cX6_isSaid 12 = .ok (.iaload, 1) := dk_46 (dk_at dksX6_isSaid_0 12 rfl rfl)
theorem dX6_isSaid_13 : decode cX6_isSaid 13 = .ok (.if_icmp .ge 199, 3) := dk_162 0 199 (dk_at dksX6_isSaid_0 13 rfl rfl)
theorem dX6_isSaid_16 : decode cX6_isSaid 16 = .ok (.sipush 225, 3) := dk_17 0 225 (dk_at dksX6_isSaid_0 16 rfl rfl)
theorem dX6_isSaid_19 : decode cX6_isSaid 19 = .ok (.iconst 3, 1) := dk_6 (dk_at dksX6_isSaid_0 19 rfl rfl)
theorem dX6_isSaid_20 : decode cX6_isSaid 20 = .ok (.iload_n 3, 1) := dk_29 (dk_at dksX6_isSaid_0 20 rfl rfl)
theorem dX6_isSaid_21 : decode cX6_isSaid 21 = .ok (.imul, 1) := dk_104 (dk_at dksX6_isSaid_0 21 rfl rfl)
theorem dX6_isSaid_22 : decode cX6_isSaid 22 = .ok (.iadd, 1) := dk_96 (dk_at dksX6_isSaid_0 22 rfl rfl)
theorem dX6_isSaid_23 : decode cX6_isSaid 23 = .ok (.istore 4, 2) := dk_54 4 (dk_at dksX6_isSaid_1 0 rfl rfl)
theorem dX6_isSaid_25 : decode cX6_isSaid 25 = .ok (.aload_n 0, 1) := dk_42 (dk_at dksX6_isSaid_1 2 rfl rfl)
theorem dX6_isSaid_26 : decode cX6_isSaid 26 = .ok (.getfield 33, 3) := dk_180 0 33 (dk_at dksX6_isSaid_1 3 rfl rfl)
theorem dX6_isSaid_29 : decode cX6_isSaid 29 = .ok (.iload 4, 2) := dk_21 4 (dk_at dksX6_isSaid_1 6 rfl rfl)
theorem dX6_isSaid_31 : decode cX6_isSaid 31 = .ok (.iaload, 1) := dk_46 (dk_at dksX6_isSaid_1 8 rfl rfl)
theorem dX6_isSaid_32 : decode cX6_isSaid 32 = .ok (.bipush 20, 2) := dk_16 20 (dk_at dksX6_isSaid_1 9 rfl rfl)
theorem dX6_isSaid_34 : decode cX6_isSaid 34 = .ok (.if_icmp .ne 30, 3) := dk_160 0 30 (dk_at dksX6_isSaid_1 11 rfl rfl)
theorem dX6_isSaid_37 : decode cX6_isSaid 37 = .ok (.aload_n 0, 1) := dk_42 (dk_at dksX6_isSaid_1 14 rfl rfl)
theorem dX6_isSaid_38 : decode cX6_isSaid 38 = .ok (.getfield 92, 3) := dk_180 0 92 (dk_at dksX6_isSaid_1 15 rfl rfl)
theorem dX6_isSaid_41 : decode cX6_isSaid 41 = .ok (.iload_n 2, 1) := dk_28 (dk_at dksX6_isSaid_1 18 rfl rfl)
theorem dX6_isSaid_42 : decode cX6_isSaid 42 = .ok (.iconst 1, 1) := dk_4 (dk_at dksX6_isSaid_1 19 rfl rfl)
theorem dX6_isSaid_43 : decode cX6_isSaid 43 = .ok (.isub, 1) := dk_100 (dk_at dksX6_isSaid_1 20 rfl rfl)
theorem dX6_isSaid_44 : decode cX6_isSaid 44 = .ok (.aload_n 0, 1) := dk_42 (dk_at dksX6_isSaid_1 21 rfl rfl)
theorem dX6_isSaid_45 : decode cX6_isSaid 45 = .ok (.getfield 92, 3) := dk_180 0 92 (dk_at dksX6_isSaid_2 0 rfl rfl)
theorem dX6_isSaid_48 : decode cX6_isSaid 48 = .ok (.iload_n 2, 1) := dk_28 (dk_at dksX6_isSaid_2 3 rfl rfl)
theorem dX6_isSaid_49 : decode cX6_isSaid 49 = .ok (.iconst 1, 1) := dk_4 (dk_at dksX6_isSaid_2 4 rfl rfl)
theorem dX6_isSaid_50 : decode cX6_isSaid 50 = .ok (.isub, 1) := dk_100 (dk_at dksX6_isSaid_2 5 rfl rfl)
theorem dX6_isSaid_51 : decode cX6_isSaid 51 = .ok (.baload, 1) := dk_51 (dk_at dksX6_isSaid_2 6 rfl rfl)
theorem dX6_isSaid_52 : decode cX6_isSaid 52 = .ok (.ifCond .ne 7, 3) := dk_154 0 7 (dk_at dksX6_isSaid_2 7 rfl rfl)
theorem dX6_isSaid_55 : decode cX6_isSaid 55 = .ok (.iconst 1, 1) := dk_4 (dk_at dksX6_isSaid_2 10 rfl rfl)
theorem dX6_isSaid_56 : decode cX6_isSaid 56 = .ok (.goto 4, 3) := dk_167 0 4 (dk_at dksX6_isSaid_2 11 rfl rfl)
theorem dX6_isSaid_59 : decode cX6_isSaid 59 = .ok (.iconst 0, 1) := dk_3 (dk_at dksX6_isSaid_2 14 rfl rfl)
theorem dX6_isSaid_60 : decode cX6_isSaid 60 = .ok (.bastore, 1) := dk_84 (dk_at dksX6_isSaid_2 15 rfl rfl)
theorem dX6_isSaid_61 : decode cX6_isSaid 61 = .ok (.goto 145, 3) := dk_167 0 145 (dk_at dksX6_isSaid_2 16 rfl rfl)
theorem dX6_isSaid_64 : decode cX6_isSaid 64 = .ok (.aload_n 0, 1) := dk_42 (dk_at dksX6_isSaid_2 19 rfl rfl)
theorem dX6_isSaid_65 : decode cX6_isSaid 65 = .ok (.getfield 33, 3) := dk_180 0 33 (dk_at dksX6_isSaid_2 20 rfl rfl)
theorem dX6_isSaid_68 : decode cX6_isSaid 68 = .ok (.iload 4, 2) := dk_21 4 (dk_at dksX6_isSaid_3 0 rfl rfl)
theorem dX6_isSaid_70 : decode cX6_isSaid 70 = .ok (.iaload, 1) := dk_46 (dk_at dksX6_isSaid_3 2 rfl rfl)
theorem dX6_isSaid_71 : decode cX6_isSaid 71 = .ok (.bipush 21, 2) := dk_16 21 (dk_at dksX6_isSaid_3 3 rfl rfl)
theorem dX6_isSaid_73 : decode cX6_isSaid 73 = .ok (.if_icmp .eq 15, 3) := dk_159 0 15 (dk_at dksX6_isSaid_3 5 rfl rfl)
theorem dX6_isSaid_76 : decode cX6_isSaid 76 = .ok (.aload_n 0, 1) := dk_42 (dk_at dksX6_isSaid_3 8 rfl rfl)
theorem dX6_isSaid_77 : decode cX6_isSaid 77 = .ok (.getfield 33, 3) := dk_180 0 33 (dk_at dksX6_isSaid_3 9 rfl rfl)
theorem dX6_isSaid_80 : decode cX6_isSaid 80 = .ok (.iload 4, 2) := dk_21 4 (dk_at dksX6_isSaid_3 12 rfl rfl)
theorem dX6_isSaid_82 : decode cX6_isSaid 82 = .ok (.iaload, 1) := dk_46 (dk_at dksX6_isSaid_3 14 rfl rfl)
theorem dX6_isSaid_83 : decode cX6_isSaid 83 = .ok (.bipush 22, 2) := dk_16 22 (dk_at dksX6_isSaid_3 15 rfl rfl)
theorem dX6_isSaid_85 : decode cX6_isSaid 85 = .ok (.if_icmp .ne 82, 3) := dk_160 0 82 (dk_at dksX6_isSaid_3 17 rfl rfl)
theorem dX6_isSaid_88 : decode cX6_isSaid 88 = .ok (.iinc 2 (-1), 3) := dk_132 2 255 (dk_at dksX6_isSaid_3 20 rfl rfl)
theorem dX6_isSaid_91 : decode cX6_isSaid 91 = .ok (.aload_n 0, 1) := dk_42 (dk_at dksX6_isSaid_3 23 rfl rfl)
theorem dX6_isSaid_92 : decode cX6_isSaid 92 = .ok (.getfield 92, 3) := dk_180 0 92 (dk_at dksX6_isSaid_4 0 rfl rfl)
theorem dX6_isSaid_95 : decode cX6_isSaid 95 = .ok (.iload_n 2, 1) := dk_28 (dk_at dksX6_isSaid_4 3 rfl rfl)
theorem dX6_isSaid_96 : decode cX6_isSaid 96 = .ok (.iconst 1, 1) := dk_4 (dk_at dksX6_isSaid_4 4 rfl rfl)
theorem dX6_isSaid_97 : decode cX6_isSaid 97 = .ok (.isub, 1) := dk_100 (dk_at dksX6_isSaid_4 5 rfl rfl)
theorem dX6_isSaid_98 : decode cX6_isSaid 98 = .ok (.aload_n 0, 1) := dk_42 (dk_at dksX6_isSaid_4 6 rfl rfl)
theorem dX6_isSaid_99 : decode cX6_isSaid 99 = .ok (.getfield 33, 3) := dk_180 0 33 (dk_at dksX6_isSaid_4 7 rfl rfl)
theorem dX6_isSaid_102 : decode cX6_isSaid 102 = .ok (.iload 4, 2) := dk_21 4 (dk_at dksX6_isSaid_4 10 rfl rfl)
theorem dX6_isSaid_104 : decode cX6_isSaid 104 = .ok (.iaload, 1) := dk_46 (dk_at dksX6_isSaid_4 12 rfl rfl)
theorem dX6_isSaid_105 : decode cX6_isSaid 105 = .ok (.bipush 21, 2) := dk_16 21 (dk_at dksX6_isSaid_4 13 rfl rfl)
theorem dX6_isSaid_107 : decode cX6_isSaid 107 = .ok (.if_icmp .ne 31, 3) := dk_160 0 31 (dk_at dksX6_isSaid_4 15 rfl rfl)
theorem dX6_isSaid_110 : decode cX6_isSaid 110 = .ok (.aload_n 0, 1) := dk_42 (dk_at dksX6_isSaid_4 18 rfl rfl)
theorem dX6_isSaid_111 : decode cX6_isSaid 111 = .ok (.getfield 92, 3) := dk_180 0 92 (dk_at dksX6_isSaid_4 19 rfl rfl)
theorem dX6_isSaid_114 : decode cX6_isSaid 114 = .ok (.iload_n 2, 1) := dk_28 (dk_at dksX6_isSaid_4 22 rfl rfl)
theorem dX6_isSaid_115 : decode cX6_isSaid 115 = .ok (.iconst 1, 1) := dk_4 (dk_at dksX6_isSaid_4 23 rfl rfl)
theorem dX6_isSaid_116 : decode cX6_isSaid 116 = .ok (.isub, 1) := dk_100 (dk_at dksX6_isSaid_5 0 rfl rfl)
theorem dX6_isSaid_117 : decode cX6_isSaid 117 = .ok (.baload, 1) := dk_51 (dk_at dksX6_isSaid_5 1 rfl rfl)
theorem dX6_isSaid_118 : decode cX6_isSaid 118 = .ok (.ifCond .eq 16, 3) := dk_153 0 16 (dk_at dksX6_isSaid_5 2 rfl rfl)
theorem dX6_isSaid_121 : decode cX6_isSaid 121 = .ok (.aload_n 0, 1) := dk_42 (dk_at dksX6_isSaid_5 5 rfl rfl)
theorem dX6_isSaid_122 : decode cX6_isSaid 122 = .ok (.getfield 92, 3) := dk_180 0 92 (dk_at dksX6_isSaid_5 6 rfl rfl)
theorem dX6_isSaid_125 : decode cX6_isSaid 125 = .ok (.iload_n 2, 1) := dk_28 (dk_at dksX6_isSaid_5 9 rfl rfl)
theorem dX6_isSaid_126 : decode cX6_isSaid 126 = .ok (.baload, 1) := dk_51 (dk_at dksX6_isSaid_5 10 rfl rfl)
theorem dX6_isSaid_127 : decode cX6_isSaid 127 = .ok (.ifCond .eq 7, 3) := dk_153 0 7 (dk_at dksX6_isSaid_5 11 rfl rfl)
theorem dX6_isSaid_130 : decode cX6_isSaid 130 = .ok (.iconst 1, 1) := dk_4 (dk_at dksX6_isSaid_5 14 rfl rfl)
theorem dX6_isSaid_131 : decode cX6_isSaid 131 = .ok (.goto 32, 3) := dk_167 0 32 (dk_at dksX6_isSaid_5 15 rfl rfl)
theorem dX6_isSaid_134 : decode cX6_isSaid 134 = .ok (.iconst 0, 1) := dk_3 (dk_at dksX6_isSaid_5 18 rfl rfl)
theorem dX6_isSaid_135 : decode cX6_isSaid 135 = .ok (.goto 28, 3) := dk_167 0 28 (dk_at dksX6_isSaid_5 19 rfl rfl)
theorem dX6_isSaid_138 : decode cX6_isSaid 138 = .ok (.aload_n 0, 1) := dk_42 (dk_at dksX6_isSaid_5 22 rfl rfl)
theorem dX6_isSaid_139 : decode cX6_isSaid 139 = .ok (.getfield 92, 3) := dk_180 0 92 (dk_at dksX6_isSaid_6 0 rfl rfl)
theorem dX6_isSaid_142 : decode cX6_isSaid 142 = .ok (.iload_n 2, 1) := dk_28 (dk_at dksX6_isSaid_6 3 rfl rfl)
theorem dX6_isSaid_143 : decode cX6_isSaid 143 = .ok (.iconst 1, 1) := dk_4 (dk_at dksX6_isSaid_6 4 rfl rfl)
theorem dX6_isSaid_144 : decode cX6_isSaid 144 = .ok (.isub, 1) := dk_100 (dk_at dksX6_isSaid_6 5 rfl rfl)
theorem dX6_isSaid_145 : decode cX6_isSaid 145 = .ok (.baload, 1) := dk_51 (dk_at dksX6_isSaid_6 6 rfl rfl)
theorem dX6_isSaid_146 : decode cX6_isSaid 146 = .ok (.ifCond .ne 12, 3) := dk_154 0 12 (dk_at dksX6_isSaid_6 7 rfl rfl)
theorem dX6_isSaid_149 : decode cX6_isSaid 149 = .ok (.aload_n 0, 1) := dk_42 (dk_at dksX6_isSaid_6 10 rfl rfl)
theorem dX6_isSaid_150 : decode cX6_isSaid 150 = .ok (.getfield 92, 3) := dk_180 0 92 (dk_at dksX6_isSaid_6 11 rfl rfl)
theorem dX6_isSaid_153 : decode cX6_isSaid 153 = .ok (.iload_n 2, 1) := dk_28 (dk_at dksX6_isSaid_6 14 rfl rfl)
theorem dX6_isSaid_154 : decode cX6_isSaid 154 = .ok (.baload, 1) := dk_51 (dk_at dksX6_isSaid_6 15 rfl rfl)
theorem dX6_isSaid_155 : decode cX6_isSaid 155 = .ok (.ifCond .eq 7, 3) := dk_153 0 7 (dk_at dksX6_isSaid_6 16 rfl rfl)
theorem dX6_isSaid_158 : decode cX6_isSaid 158 = .ok (.iconst 1, 1) := dk_4 (dk_at dksX6_isSaid_6 19 rfl rfl)
theorem dX6_isSaid_159 : decode cX6_isSaid 159 = .ok (.goto 4, 3) := dk_167 0 4 (dk_at dksX6_isSaid_6 20 rfl rfl)
theorem dX6_isSaid_162 : decode cX6_isSaid 162 = .ok (.iconst 0, 1) := dk_3 (dk_at dksX6_isSaid_6 23 rfl rfl)
theorem dX6_isSaid_163 : decode cX6_isSaid 163 = .ok (.bastore, 1) := dk_84 (dk_at dksX6_isSaid_7 0 rfl rfl)
theorem dX6_isSaid_164 : decode cX6_isSaid 164 = .ok (.goto 42, 3) := dk_167 0 42 (dk_at dksX6_isSaid_7 1 rfl rfl)
theorem dX6_isSaid_167 : decode cX6_isSaid 167 = .ok (.aload_n 0, 1) := dk_42 (dk_at dksX6_isSaid_7 4 rfl rfl)
theorem dX6_isSaid_168 : decode cX6_isSaid 168 = .ok (.getfield 92, 3) := dk_180 0 92 (dk_at dksX6_isSaid_7 5 rfl rfl)
theorem dX6_isSaid_171 : decode cX6_isSaid 171 = .ok (.iload_n 2, 1) := dk_28 (dk_at dksX6_isSaid_7 8 rfl rfl)
theorem dX6_isSaid_172 : decode cX6_isSaid 172 = .ok (.aload_n 0, 1) := dk_42 (dk_at dksX6_isSaid_7 9 rfl rfl)
theorem dX6_isSaid_173 : decode cX6_isSaid 173 = .ok (.iload_n 1, 1) := dk_27 (dk_at dksX6_isSaid_7 10 rfl rfl)
theorem dX6_isSaid_174 : decode cX6_isSaid 174 = .ok (.aload_n 0, 1) := dk_42 (dk_at dksX6_isSaid_7 11 rfl rfl)
theorem dX6_isSaid_175 : decode cX6_isSaid 175 = .ok (.getfield 33, 3) := dk_180 0 33 (dk_at dksX6_isSaid_7 12 rfl rfl)
theorem dX6_isSaid_178 : decode cX6_isSaid 178 = .ok (.iload 4, 2) := dk_21 4 (dk_at dksX6_isSaid_7 15 rfl rfl)
theorem dX6_isSaid_180 : decode cX6_isSaid 180 = .ok (.iaload, 1) := dk_46 (dk_at dksX6_isSaid_7 17 rfl rfl)
theorem dX6_isSaid_181 : decode cX6_isSaid 181 = .ok (.aload_n 0, 1) := dk_42 (dk_at dksX6_isSaid_7 18 rfl rfl)
theorem dX6_isSaid_182 : decode cX6_isSaid 182 = .ok (.getfield 33, 3) := dk_180 0 33 (dk_at dksX6_isSaid_7 19 rfl rfl)
theorem dX6_isSaid_185 : decode cX6_isSaid 185 = .ok (.iload 4, 2) := dk_21 4 (dk_at dksX6_isSaid_7 22 rfl rfl)
theorem dX6_isSaid_187 : decode cX6_isSaid 187 = .ok (.iconst 1, 1) := dk_4 (dk_at dksX6_isSaid_8 0 rfl rfl)
theorem dX6_isSaid_188 : decode cX6_isSaid 188 = .ok (.iadd, 1) := dk_96 (dk_at dksX6_isSaid_8 1 rfl rfl)
theorem dX6_isSaid_189 : decode cX6_isSaid 189 = .ok (.iaload, 1) := dk_46 (dk_at dksX6_isSaid_8 2 rfl rfl)
theorem dX6_isSaid_190 : decode cX6_isSaid 190 = .ok (.aload_n 0, 1) := dk_42 (dk_at dksX6_isSaid_8 3 rfl rfl)
theorem dX6_isSaid_191 : decode cX6_isSaid 191 = .ok (.getfield 33, 3) := dk_180 0 33 (dk_at dksX6_isSaid_8 4 rfl rfl)
theorem dX6_isSaid_194 : decode cX6_isSaid 194 = .ok (.iload 4, 2) := dk_21 4 (dk_at dksX6_isSaid_8 7 rfl rfl)
theorem dX6_isSaid_196 : decode cX6_isSaid 196 = .ok (.iconst 2, 1) := dk_5 (dk_at dksX6_isSaid_8 9 rfl rfl)
theorem dX6_isSaid_197 : decode cX6_isSaid 197 = .ok (.iadd, 1) := dk_96 (dk_at dksX6_isSaid_8 10 rfl rfl)
theorem dX6_isSaid_198 : decode cX6_isSaid 198 = .ok (.iaload, 1) := dk_46 (dk_at dksX6_isSaid_8 11 rfl rfl)
theorem dX6_isSaid_199 : decode cX6_isSaid 199 = .ok (.invokevirtual 473, 3) := dk_182 1 217 (dk_at dksX6_isSaid_8 12 rfl rfl)
theorem dX6_isSaid_202 : decode cX6_isSaid 202 = .ok (.bastore, 1) := dk_84 (dk_at dksX6_isSaid_8 15 rfl rfl)
theorem dX6_isSaid_203 : decode cX6_isSaid 203 = .ok (.iinc 2 1, 3) := dk_132 2 1 (dk_at dksX6_isSaid_8 16 rfl rfl)
theorem dX6_isSaid_206 : decode cX6_isSaid 206 = .ok (.iinc 3 1, 3) := dk_132 3 1 (dk_at dksX6_isSaid_8 19 rfl rfl)
theorem dX6_isSaid_209 : decode cX6_isSaid 209 = .ok (.goto (-205), 3) := dk_167 255 51 (dk_at dksX6_isSaid_9 0 rfl rfl)
theorem dX6_isSaid_212 : decode cX6_isSaid 212 = .ok (.aload_n 0, 1) := dk_42 (dk_at dksX6_isSaid_9 3 rfl rfl)
theorem dX6_isSaid_213 : decode cX6_isSaid 213 = .ok (.getfield 92, 3) := dk_180 0 92 (dk_at dksX6_isSaid_9 4 rfl rfl)
theorem dX6_isSaid_216 : decode cX6_isSaid 216 = .ok (.iconst 0, 1) := dk_3 (dk_at dksX6_isSaid_9 7 rfl rfl)
theorem dX6_isSaid_217 : decode cX6_isSaid 217 = .ok (.baload, 1) := dk_51 (dk_at dksX6_isSaid_9 8 rfl rfl)
theorem dX6_isSaid_218 : decode cX6_isSaid 218 = .ok (.ireturn, 1) := dk_172 (dk_at dksX6_isSaid_9 9 rfl rfl)
abbrev cX6_isLeaf : ByteArray := prog_25_method_109_code
def yX6_isLeaf : MethodName := ⟨RX6, "isLeaf", "(IIII)Z"⟩
def dkwX6_isLeaf_6 : List UInt8 := [42, 180, 0, 62, 27, 46, 21, 4, 184, 1, 214, 172, 29, 27, 21, 4, 184, 1, 214, 172]
abbrev dktX6_isLeaf_6 : List UInt8 := dkwX6_isLeaf_6 ++ []
def dkwX6_isLeaf_5 : List UInt8 := [153, 0, 21, 29, 42, 27, 182, 0, 249, 21, 4, 184, 1, 214, 153, 0, 7, 4, 167, 0, 4, 3, 172, 29]
abbrev dktX6_isLeaf_5 : List UInt8 := dkwX6_isLeaf_5 ++ dktX6_isLeaf_6
def dkwX6_isLeaf_4 : List UInt8 := [182, 1, 79, 172, 29, 42, 180, 0, 53, 27, 46, 21, 4, 184, 1, 214, 172, 42, 27, 182, 1, 69]
abbrev dktX6_isLeaf_4 : List UInt8 := dkwX6_isLeaf_4 ++ dktX6_isLeaf_5
def dkwX6_isLeaf_3 : List UInt8 := [27, 184, 0, 246, 172, 42, 180, 1, 29, 27, 184, 0, 246, 172, 42, 27, 182, 1, 166, 172, 42, 21, 4, 27]
abbrev dktX6_isLeaf_3 : List UInt8 := dkwX6_isLeaf_3 ++ dktX6_isLeaf_4
def dkwX6_isLeaf_2 : List UInt8 := [42, 27, 182, 1, 72, 154, 0, 7, 4, 167, 0, 4, 3, 172, 42, 27, 182, 1, 69, 172, 42, 180, 1, 26]
abbrev dktX6_isLeaf_2 : List UInt8 := dkwX6_isLeaf_2 ++ dktX6_isLeaf_3
def dkwX6_isLeaf_1 : List UInt8 := [170, 0, 0, 0, 0, 0, 157, 0, 0, 0, 0, 0, 0, 0, 8, 0, 0, 0, 51, 0, 0, 0, 65, 0, 0, 0, 71, 0, 0, 0, 80, 0, 0, 0, 89, 0, 0, 0, 95, 0, 0, 0, 103, 0, 0, 0, 116, 0, 0, 0, 144]
abbrev dktX6_isLeaf_1 : List UInt8 := dkwX6_isLeaf_1 ++ dktX6_isLeaf_2
def dkwX6_isLeaf_0 : List UInt8 := [28]
abbrev dktX6_isLeaf_0 : List UInt8 := dkwX6_isLeaf_0 ++ dktX6_isLeaf_1
theorem dksX6_isLeaf_0 : cX6_isLeaf.data.toList.drop 0 = dktX6_isLeaf_0 := by decide +kernel
theorem dksX6_isLeaf_1 : cX6_isLeaf.data.toList.drop 1 = dktX6_isLeaf_1 := dk_seg dksX6_isLeaf_0 1 rfl rfl
theorem dksX6_isLeaf_2 : cX6_isLeaf.data.toList.drop 52 = dktX6_isLeaf_2 := dk_seg dksX6_isLeaf_1 51 rfl rfl
theorem dksX6_isLeaf_3 : cX6_isLeaf.data.toList.drop 76 = dktX6_isLeaf_3 := dk_seg dksX6_isLeaf_2 24 rfl rfl
theorem dksX6_isLeaf_4 : cX6_isLeaf.data.toList.drop 100 = dktX6_isLeaf_4 := dk_seg dksX6_isLeaf_3 24 rfl rfl
theorem dksX6_isLeaf_5 : cX6_isLeaf.data.toList.drop 122 = dktX6_isLeaf_5 := dk_seg dksX6_isLeaf_4 22 rfl rfl
theorem dksX6_isLeaf_6 : cX6_isLeaf.data.toList.drop 146 = dktX6_isLeaf_6 := dk_seg dksX6_isLeaf_5 24 rfl rfl
theorem dX6_isLeaf_0 : decode cX6_isLeaf 0 = .ok (.iload_n 2, 1) := dk_28 (dk_at dksX6_isLeaf_0 0 rfl rfl)
theorem dX6_isLeaf_1 : decode cX6_isLeaf 1 = .ok (.tableswitch 157 0 8 #[51, 65, 71, 80, 89, 95, 103, 116, 144], 51) := by decide +kernel
theorem dX6_isLeaf_52 : decode cX6_isLeaf 52 = .ok (.aload_n 0, 1) := dk_42 (dk_at dksX6_isLeaf_2 0 rfl rfl)
theorem dX6_isLeaf_53 : decode cX6_isLeaf 53 = .ok (.iload_n 1, 1) := dk_27 (dk_at dksX6_isLeaf_2 1 rfl rfl)
theorem dX6_isLeaf_54 : decode cX6_isLeaf 54 = .ok (.invokevirtual 328, 3) := dk_182 1 72 (dk_at dksX6_isLeaf_2 2 rfl rfl)
theorem dX6_isLeaf_57 : decode cX6_isLeaf 57 = .ok (.ifCond .ne 7, 3) := dk_154 0 7 (dk_at dksX6_isLeaf_2 5 rfl rfl)
theorem dX6_isLeaf_60 : decode cX6_isLeaf 60 = .ok (.iconst 1, 1) := dk_4 (dk_at dksX6_isLeaf_2 8 rfl rfl)
theorem dX6_isLeaf_61 : decode cX6_isLeaf 61 = .ok (.goto 4, 3) := dk_167 0 4 (dk_at dksX6_isLeaf_2 9 rfl rfl)
theorem dX6_isLeaf_64 : decode cX6_isLeaf 64 = .ok (.iconst 0, 1) := dk_3 (dk_at dksX6_isLeaf_2 12 rfl rfl)
theorem dX6_isLeaf_65 : decode cX6_isLeaf 65 = .ok (.ireturn, 1) := dk_172 (dk_at dksX6_isLeaf_2 13 rfl rfl)
theorem dX6_isLeaf_66 : decode cX6_isLeaf 66 = .ok (.aload_n 0, 1) := dk_42 (dk_at dksX6_isLeaf_2 14 rfl rfl)
theorem dX6_isLeaf_67 : decode cX6_isLeaf 67 = .ok (.iload_n 1, 1) := dk_27 (dk_at dksX6_isLeaf_2 15 rfl rfl)
theorem dX6_isLeaf_68 : decode cX6_isLeaf 68 = .ok (.invokevirtual 325, 3) := dk_182 1 69 (dk_at dksX6_isLeaf_2 16 rfl rfl)
theorem dX6_isLeaf_71 : decode cX6_isLeaf 71 = .ok (.ireturn, 1) := dk_172 (dk_at dksX6_isLeaf_2 19 rfl rfl)
theorem dX6_isLeaf_72 : decode cX6_isLeaf 72 = .ok (.aload_n 0, 1) := dk_42 (dk_at dksX6_isLeaf_2 20 rfl rfl)
theorem dX6_isLeaf_73 : decode cX6_isLeaf 73 = .ok (.getfield 282, 3) := dk_180 1 26 (dk_at dksX6_isLeaf_2 21 rfl rfl)
theorem dX6_isLeaf_76 : decode cX6_isLeaf 76 = .ok (.iload_n 1, 1) := dk_27 (dk_at dksX6_isLeaf_3 0 rfl rfl)
theorem dX6_isLeaf_77 : decode cX6_isLeaf 77 = .ok (.invokestatic 246, 3) := dk_184 0 246 (dk_at dksX6_isLeaf_3 1 rfl rfl)
theorem dX6_isLeaf_80 : decode cX6_isLeaf 80 = .ok (.ireturn, 1) := dk_172 (dk_at dksX6_isLeaf_3 4 rfl rfl)
theorem dX6_isLeaf_81 : decode cX6_isLeaf 81 = .ok (.aload_n 0, 1) := dk_42 (dk_at dksX6_isLeaf_3 5 rfl rfl)
theorem dX6_isLeaf_82 : decode cX6_isLeaf 82 = .ok (.getfield 285, 3) := dk_180 1 29 (dk_at dksX6_isLeaf_3 6 rfl rfl)
theorem dX6_isLeaf_85 : decode cX6_isLeaf 85 = .ok (.iload_n 1, 1) := dk_27 (dk_at dksX6_isLeaf_3 9 rfl rfl)
theorem dX6_isLeaf_86 : decode cX6_isLeaf 86 = .ok (.invokestatic 246, 3) := dk_184 0 246 (dk_at dksX6_isLeaf_3 10 rfl rfl)
theorem dX6_isLeaf_89 : decode cX6_isLeaf 89 = .ok (.ireturn, 1) := dk_172 (dk_at dksX6_isLeaf_3 13 rfl rfl)
theorem dX6_isLeaf_90 : decode cX6_isLeaf 90 = .ok (.aload_n 0, 1) := dk_42 (dk_at dksX6_isLeaf_3 14 rfl rfl)
theorem dX6_isLeaf_91 : decode cX6_isLeaf 91 = .ok (.iload_n 1, 1) := dk_27 (dk_at dksX6_isLeaf_3 15 rfl rfl)
theorem dX6_isLeaf_92 : decode cX6_isLeaf 92 = .ok (.invokevirtual 422, 3) := dk_182 1 166 (dk_at dksX6_isLeaf_3 16 rfl rfl)
theorem dX6_isLeaf_95 : decode cX6_isLeaf 95 = .ok (.ireturn, 1) := dk_172 (dk_at dksX6_isLeaf_3 19 rfl rfl)
theorem dX6_isLeaf_96 : decode cX6_isLeaf 96 = .ok (.aload_n 0, 1) := dk_42 (dk_at dksX6_isLeaf_3 20 rfl rfl)
theorem dX6_isLeaf_97 : decode cX6_isLeaf 97 = .ok (.iload 4, 2) := dk_21 4 (dk_at dksX6_isLeaf_3 21 rfl rfl)
theorem dX6_isLeaf_99 : decode cX6_isLeaf 99 = .ok (.iload_n 1, 1) := dk_27 (dk_at dksX6_isLeaf_3 23 rfl rfl)
theorem dX6_isLeaf_100 : decode cX6_isLeaf 100 = .ok (.invokevirtual 335, 3) := dk_182 1 79 (dk_at dksX6_isLeaf_4 0 rfl rfl)
theorem dX6_isLeaf_103 : decode cX6_isLeaf 103 = .ok (.ireturn, 1) := dk_172 (dk_at dksX6_isLeaf_4 3 rfl rfl)
theorem dX6_isLeaf_104 : decode cX6_isLeaf 104 = .ok (.iload_n 3, 1) := dk_29 (dk_at dksX6_isLeaf_4 4 rfl rfl)
theorem dX6_isLeaf_105 : decode cX6_isLeaf 105 = .ok (.aload_n 0, 1) := dk_42 (dk_at dksX6_isLeaf_4 5 rfl rfl)
theorem dX6_isLeaf_106 : decode cX6_isLeaf 106 = .ok (.getfield 53, 3) := dk_180 0 53 (dk_at dksX6_isLeaf_4 6 rfl rfl)
theorem dX6_isLeaf_109 : decode cX6_isLeaf 109 = .ok (.iload_n 1, 1) := dk_27 (dk_at dksX6_isLeaf_4 9 rfl rfl)
theorem dX6_isLeaf_110 : decode cX6_isLeaf 110 = .ok (.iaload, 1) := dk_46 (dk_at dksX6_isLeaf_4 10 rfl rfl)
theorem dX6_isLeaf_111 : decode cX6_isLeaf 111 = .ok (.iload 4, 2) := dk_21 4 (dk_at dksX6_isLeaf_4 11 rfl rfl)
theorem dX6_isLeaf_113 : decode cX6_isLeaf 113 = .ok (.invokestatic 470, 3) := dk_184 1 214 (dk_at dksX6_isLeaf_4 13 rfl rfl)
theorem dX6_isLeaf_116 : decode cX6_isLeaf 116 = .ok (.ireturn, 1) := dk_172 (dk_at dksX6_isLeaf_4 16 rfl rfl)
theorem dX6_isLeaf_117 : decode cX6_isLeaf 117 = .ok (.aload_n 0, 1) := dk_42 (dk_at dksX6_isLeaf_4 17 rfl rfl)
theorem dX6_isLeaf_118 : decode cX6_isLeaf 118 = .ok (.iload_n 1, 1) := dk_27 (dk_at dksX6_isLeaf_4 18 rfl rfl)
theorem dX6_isLeaf_119 : decode cX6_isLeaf 119 = .ok (.invokevirtual 325, 3) := dk_182 1 69 (dk_at dksX6_isLeaf_4 19 rfl rfl)
theorem dX6_isLeaf_122 : decode cX6_isLeaf 122 = .ok (.ifCond .eq 21, 3) := dk_153 0 21 (dk_at dksX6_isLeaf_5 0 rfl rfl)
theorem dX6_isLeaf_125 : decode cX6_isLeaf 125 = .ok (.iload_n 3, 1) := dk_29 (dk_at dksX6_isLeaf_5 3 rfl rfl)
theorem dX6_isLeaf_126 : decode cX6_isLeaf 126 = .ok (.aload_n 0, 1) := dk_42 (dk_at dksX6_isLeaf_5 4 rfl rfl)
theorem dX6_isLeaf_127 : decode cX6_isLeaf 127 = .ok (.iload_n 1, 1) := dk_27 (dk_at dksX6_isLeaf_5 5 rfl rfl)
theorem dX6_isLeaf_128 : decode cX6_isLeaf 128 = .ok (.invokevirtual 249, 3) := dk_182 0 249 (dk_at dksX6_isLeaf_5 6 rfl rfl)
theorem dX6_isLeaf_131 : decode cX6_isLeaf 131 = .ok (.iload 4, 2) := dk_21 4 (dk_at dksX6_isLeaf_5 9 rfl rfl)
theorem dX6_isLeaf_133 : decode cX6_isLeaf 133 = .ok (.invokestatic 470, 3) := dk_184 1 214 (dk_at dksX6_isLeaf_5 11 rfl rfl)
theorem dX6_isLeaf_136 : decode cX6_isLeaf 136 = .ok (.ifCond .eq 7, 3) := dk_153 0 7 (dk_at dksX6_isLeaf_5 14 rfl rfl)
theorem dX6_isLeaf_139 : decode cX6_isLeaf 139 = .ok (.iconst 1, 1) := dk_4 (dk_at dksX6_isLeaf_5 17 rfl rfl)
theorem dX6_isLeaf_140 : decode cX6_isLeaf 140 = .ok (.goto 4, 3) := dk_167 0 4 (dk_at dksX6_isLeaf_5 18 rfl rfl)
theorem dX6_isLeaf_143 : decode cX6_isLeaf 143 = .ok (.iconst 0, 1) := dk_3 (dk_at dksX6_isLeaf_5 21 rfl rfl)
theorem dX6_isLeaf_144 : decode cX6_isLeaf 144 = .ok (.ireturn, 1) := dk_172 (dk_at dksX6_isLeaf_5 22 rfl rfl)
theorem dX6_isLeaf_145 : decode cX6_isLeaf 145 = .ok (.iload_n 3, 1) := dk_29 (dk_at dksX6_isLeaf_5 23 rfl rfl)
theorem dX6_isLeaf_146 : decode cX6_isLeaf 146 = .ok (.aload_n 0, 1) := dk_42 (dk_at dksX6_isLeaf_6 0 rfl rfl)
theorem dX6_isLeaf_147 : decode cX6_isLeaf 147 = .ok (.getfield 62, 3) := dk_180 0 62 (dk_at dksX6_isLeaf_6 1 rfl rfl)
theorem dX6_isLeaf_150 : decode cX6_isLeaf 150 = .ok (.iload_n 1, 1) := dk_27 (dk_at dksX6_isLeaf_6 4 rfl rfl)
theorem dX6_isLeaf_151 : decode cX6_isLeaf 151 = .ok (.iaload, 1) := dk_46 (dk_at dksX6_isLeaf_6 5 rfl rfl)
theorem dX6_isLeaf_152 : decode cX6_isLeaf 152 = .ok (.iload 4, 2) := dk_21 4 (dk_at dksX6_isLeaf_6 6 rfl rfl)
theorem dX6_isLeaf_154 : decode cX6_isLeaf 154 = .ok (.invokestatic 470, 3) := dk_184 1 214 (dk_at dksX6_isLeaf_6 8 rfl rfl)
theorem dX6_isLeaf_157 : decode cX6_isLeaf 157 = .ok (.ireturn, 1) := dk_172 (dk_at dksX6_isLeaf_6 11 rfl rfl)
theorem dX6_isLeaf_158 : decode cX6_isLeaf 158 = .ok (.iload_n 3, 1) := dk_29 (dk_at dksX6_isLeaf_6 12 rfl rfl)
theorem dX6_isLeaf_159 : decode cX6_isLeaf 159 = .ok (.iload_n 1, 1) := dk_27 (dk_at dksX6_isLeaf_6 13 rfl rfl)
theorem dX6_isLeaf_160 : decode cX6_isLeaf 160 = .ok (.iload 4, 2) := dk_21 4 (dk_at dksX6_isLeaf_6 14 rfl rfl)
theorem dX6_isLeaf_162 : decode cX6_isLeaf 162 = .ok (.invokestatic 470, 3) := dk_184 1 214 (dk_at dksX6_isLeaf_6 16 rfl rfl)
theorem dX6_isLeaf_165 : decode cX6_isLeaf 165 = .ok (.ireturn, 1) := dk_172 (dk_at dksX6_isLeaf_6 19 rfl rfl)
abbrev cX6_isSo : ByteArray := prog_25_method_108_code
def yX6_isSo : MethodName := ⟨RX6, "isSo", "(III)Z"⟩
def dkwX6_isSo_2 : List UInt8 := [167, 0, 4, 3, 172]
abbrev dktX6_isSo_2 : List UInt8 := dkwX6_isSo_2 ++ []
def dkwX6_isSo_1 : List UInt8 := [160, 0, 16, 27, 28, 160, 0, 7, 4, 167, 0, 17, 3, 167, 0, 13, 27, 28, 164, 0, 7, 4]
abbrev dktX6_isSo_1 : List UInt8 := dkwX6_isSo_1 ++ dktX6_isSo_2
def dkwX6_isSo_0 : List UInt8 := [26, 16, 60, 160, 0, 16, 27, 28, 162, 0, 7, 4, 167, 0, 36, 3, 167, 0, 32, 26, 16, 61]
abbrev dktX6_isSo_0 : List UInt8 := dkwX6_isSo_0 ++ dktX6_isSo_1
theorem dksX6_isSo_0 : cX6_isSo.data.toList.drop 0 = dktX6_isSo_0 := by decide +kernel
theorem dksX6_isSo_1 : cX6_isSo.data.toList.drop 22 = dktX6_isSo_1 := dk_seg dksX6_isSo_0 22 rfl rfl
theorem dksX6_isSo_2 : cX6_isSo.data.toList.drop 44 = dktX6_isSo_2 := dk_seg dksX6_isSo_1 22 rfl rfl
theorem dX6_isSo_0 : decode cX6_isSo 0 = .ok (.iload_n 0, 1) := dk_26 (dk_at dksX6_isSo_0 0 rfl rfl)
theorem dX6_isSo_1 : decode cX6_isSo 1 = .ok (.bipush 60, 2) := dk_16 60 (dk_at dksX6_isSo_0 1 rfl rfl)
theorem dX6_isSo_3 : decode cX6_isSo 3 = .ok (.if_icmp .ne 16, 3) := dk_160 0 16 (dk_at dksX6_isSo_0 3 rfl rfl)
theorem dX6_isSo_6 : decode cX6_isSo 6 = .ok (.iload_n 1, 1) := dk_27 (dk_at dksX6_isSo_0 6 rfl rfl)
theorem dX6_isSo_7 : decode cX6_isSo 7 = .ok (.iload_n 2, 1) := dk_28 (dk_at dksX6_isSo_0 7 rfl rfl)
theorem dX6_isSo_8 : decode cX6_isSo 8 = .ok (.if_icmp .ge 7, 3) := dk_162 0 7 (dk_at dksX6_isSo_0 8 rfl rfl)
theorem dX6_isSo_11 : decode cX6_isSo 11 = .ok (.iconst 1, 1) := dk_4 (dk_at dksX6_isSo_0 11 rfl rfl)
theorem dX6_isSo_12 : decode cX6_isSo 12 = .ok (.goto 36, 3) := dk_167 0 36 (dk_at dksX6_isSo_0 12 rfl rfl)
theorem dX6_isSo_15 : decode cX6_isSo 15 = .ok (.iconst 0, 1) := dk_3 (dk_at dksX6_isSo_0 15 rfl rfl)
theorem dX6_isSo_16 : decode cX6_isSo 16 = .ok (.goto 32, 3) := dk_167 0 32 (dk_at dksX6_isSo_0 16 rfl rfl)
theorem dX6_isSo_19 : decode cX6_isSo 19 = .ok (.iload_n 0, 1) := dk_26 (dk_at dksX6_isSo_0 19 rfl rfl)
theorem dX6_isSo_20 : decode cX6_isSo 20 = .ok (.bipush 61, 2) := dk_16 61 (dk_at dksX6_isSo_0 20 rfl rfl)
theorem dX6_isSo_22 : decode cX6_isSo 22 = .ok (.if_icmp .ne 16, 3) := dk_160 0 16 (dk_at dksX6_isSo_1 0 rfl rfl)
theorem dX6_isSo_25 : decode cX6_isSo 25 = .ok (.iload_n 1, 1) := dk_27 (dk_at dksX6_isSo_1 3 rfl rfl)
theorem dX6_isSo_26 : decode cX6_isSo 26 = .ok (.iload_n 2, 1) := dk_28 (dk_at dksX6_isSo_1 4 rfl rfl)
theorem dX6_isSo_27 : decode cX6_isSo 27 = .ok (.if_icmp .ne 7, 3) := dk_160 0 7 (dk_at dksX6_isSo_1 5 rfl rfl)
theorem dX6_isSo_30 : decode cX6_isSo 30 = .ok (.iconst 1, 1) := dk_4 (dk_at dksX6_isSo_1 8 rfl rfl)
theorem dX6_isSo_31 : decode cX6_isSo 31 = .ok (.goto 17, 3) := dk_167 0 17 (dk_at dksX6_isSo_1 9 rfl rfl)
theorem dX6_isSo_34 : decode cX6_isSo 34 = .ok (.iconst 0, 1) := dk_3 (dk_at dksX6_isSo_1 12 rfl rfl)
theorem dX6_isSo_35 : decode cX6_isSo 35 = .ok (.goto 13, 3) := dk_167 0 13 (dk_at dksX6_isSo_1 13 rfl rfl)
theorem dX6_isSo_38 : decode cX6_isSo 38 = .ok (.iload_n 1, 1) := dk_27 (dk_at dksX6_isSo_1 16 rfl rfl)
theorem dX6_isSo_39 : decode cX6_isSo 39 = .ok (.iload_n 2, 1) := dk_28 (dk_at dksX6_isSo_1 17 rfl rfl)
theorem dX6_isSo_40 : decode cX6_isSo 40 = .ok (.if_icmp .le 7, 3) := dk_164 0 7 (dk_at dksX6_isSo_1 18 rfl rfl)
theorem dX6_isSo_43 : decode cX6_isSo 43 = .ok (.iconst 1, 1) := dk_4 (dk_at dksX6_isSo_1 21 rfl rfl)
theorem dX6_isSo_44 : decode cX6_isSo 44 = .ok (.goto 4, 3) := dk_167 0 4 (dk_at dksX6_isSo_2 0 rfl rfl)
theorem dX6_isSo_47 : decode cX6_isSo 47 = .ok (.iconst 0, 1) := dk_3 (dk_at dksX6_isSo_2 3 rfl rfl)
theorem dX6_isSo_48 : decode cX6_isSo 48 = .ok (.ireturn, 1) := dk_172 (dk_at dksX6_isSo_2 4 rfl rfl)
abbrev cX6_image : ByteArray := prog_25_method_112_code
def yX6_image : MethodName := ⟨RX6, "image", "(I)Z"⟩
def dkwX6_image_3 : List UInt8 := [180, 0, 46, 28, 47, 80, 132, 2, 1, 167, 255, 230, 42, 180, 0, 102, 27, 4, 84, 4, 172]
abbrev dktX6_image_3 : List UInt8 := dkwX6_image_3 ++ []
def dkwX6_image_2 : List UInt8 := [167, 255, 228, 3, 61, 28, 16, 28, 162, 0, 26, 42, 180, 0, 99, 16, 28, 27, 104, 28, 96, 42]
abbrev dktX6_image_2 : List UInt8 := dkwX6_image_2 ++ dktX6_image_3
def dkwX6_image_1 : List UInt8 := [162, 0, 27, 42, 180, 0, 96, 17, 1, 104, 27, 104, 28, 96, 42, 180, 0, 33, 28, 46, 79, 132, 2, 1]
abbrev dktX6_image_1 : List UInt8 := dkwX6_image_1 ++ dktX6_image_2
def dkwX6_image_0 : List UInt8 := [42, 3, 181, 0, 1, 27, 3, 4, 184, 0, 189, 154, 0, 5, 3, 172, 3, 61, 28, 17, 1, 104]
abbrev dktX6_image_0 : List UInt8 := dkwX6_image_0 ++ dktX6_image_1
theorem dksX6_image_0 : cX6_image.data.toList.drop 0 = dktX6_image_0 := by decide +kernel
theorem dksX6_image_1 : cX6_image.data.toList.drop 22 = dktX6_image_1 := dk_seg dksX6_image_0 22 rfl rfl
theorem dksX6_image_2 : cX6_image.data.toList.drop 46 = dktX6_image_2 := dk_seg dksX6_image_1 24 rfl rfl
theorem dksX6_image_3 : cX6_image.data.toList.drop 68 = dktX6_image_3 := dk_seg dksX6_image_2 22 rfl rfl
theorem dX6_image_0 : decode cX6_image 0 = .ok (.aload_n 0, 1) := dk_42 (dk_at dksX6_image_0 0 rfl rfl)
theorem dX6_image_1 : decode cX6_image 1 = .ok (.iconst 0, 1) := dk_3 (dk_at dksX6_image_0 1 rfl rfl)
theorem dX6_image_2 : decode cX6_image 2 = .ok (.putfield 1, 3) := dk_181 0 1 (dk_at dksX6_image_0 2 rfl rfl)
theorem dX6_image_5 : decode cX6_image 5 = .ok (.iload_n 1, 1) := dk_27 (dk_at dksX6_image_0 5 rfl rfl)
theorem dX6_image_6 : decode cX6_image 6 = .ok (.iconst 0, 1) := dk_3 (dk_at dksX6_image_0 6 rfl rfl)
theorem dX6_image_7 : decode cX6_image 7 = .ok (.iconst 1, 1) := dk_4 (dk_at dksX6_image_0 7 rfl rfl)
theorem dX6_image_8 : decode cX6_image 8 = .ok (.invokestatic 189, 3) := dk_184 0 189 (dk_at dksX6_image_0 8 rfl rfl)
theorem dX6_image_11 : decode cX6_image 11 = .ok (.ifCond .ne 5, 3) := dk_154 0 5 (dk_at dksX6_image_0 11 rfl rfl)
theorem dX6_image_14 : decode cX6_image 14 = .ok (.iconst 0, 1) := dk_3 (dk_at dksX6_image_0 14 rfl rfl)
theorem dX6_image_15 : decode cX6_image 15 = .ok (.ireturn, 1) := dk_172 (dk_at dksX6_image_0 15 rfl rfl)
theorem dX6_image_16 : decode cX6_image 16 = .ok (.iconst 0, 1) := dk_3 (dk_at dksX6_image_0 16 rfl rfl)
theorem dX6_image_17 : decode cX6_image 17 = .ok (.istore_n 2, 1) := dk_61 (dk_at dksX6_image_0 17 rfl rfl)
theorem dX6_image_18 : decode cX6_image 18 = .ok (.iload_n 2, 1) := dk_28 (dk_at dksX6_image_0 18 rfl rfl)
theorem dX6_image_19 : decode cX6_image 19 = .ok (.sipush 360, 3) := dk_17 1 104 (dk_at dksX6_image_0 19 rfl rfl)
theorem dX6_image_22 : decode cX6_image 22 = .ok (.if_icmp .ge 27, 3) := dk_162 0 27 (dk_at dksX6_image_1 0 rfl rfl)
theorem dX6_image_25 : decode cX6_image 25 = .ok (.aload_n 0, 1) := dk_42 (dk_at dksX6_image_1 3 rfl rfl)
theorem dX6_image_26 : decode cX6_image 26 = .ok (.getfield 96, 3) := dk_180 0 96 (dk_at dksX6_image_1 4 rfl rfl)
theorem dX6_image_29 : decode cX6_image 29 = .ok (.sipush 360, 3) := dk_17 1 104 (dk_at dksX6_image_1 7 rfl rfl)
theorem dX6_image_32 : decode cX6_image 32 = .ok (.iload_n 1, 1) := dk_27 (dk_at dksX6_image_1 10 rfl rfl)
theorem dX6_image_33 : decode cX6_image 33 = .ok (.imul, 1) := dk_104 (dk_at dksX6_image_1 11 rfl rfl)
theorem dX6_image_34 : decode cX6_image 34 = .ok (.iload_n 2, 1) := dk_28 (dk_at dksX6_image_1 12 rfl rfl)
theorem dX6_image_35 : decode cX6_image 35 = .ok (.iadd, 1) := dk_96 (dk_at dksX6_image_1 13 rfl rfl)
theorem dX6_image_36 : decode cX6_image 36 = .ok (.aload_n 0, 1) := dk_42 (dk_at dksX6_image_1 14 rfl rfl)
theorem dX6_image_37 : decode cX6_image 37 = .ok (.getfield 33, 3) := dk_180 0 33 (dk_at dksX6_image_1 15 rfl rfl)
theorem dX6_image_40 : decode cX6_image 40 = .ok (.iload_n 2, 1) := dk_28 (dk_at dksX6_image_1 18 rfl rfl)
theorem dX6_image_41 : decode cX6_image 41 = .ok (.iaload, 1) := dk_46 (dk_at dksX6_image_1 19 rfl rfl)
theorem dX6_image_42 : decode cX6_image 42 = .ok (.iastore, 1) := dk_79 (dk_at dksX6_image_1 20 rfl rfl)
theorem dX6_image_43 : decode cX6_image 43 = .ok (.iinc 2 1, 3) := dk_132 2 1 (dk_at dksX6_image_1 21 rfl rfl)
theorem dX6_image_46 : decode cX6_image 46 = .ok (.goto (-28), 3) := dk_167 255 228 (dk_at dksX6_image_2 0 rfl rfl)
theorem dX6_image_49 : decode cX6_image 49 = .ok (.iconst 0, 1) := dk_3 (dk_at dksX6_image_2 3 rfl rfl)
theorem dX6_image_50 : decode cX6_image 50 = .ok (.istore_n 2, 1) := dk_61 (dk_at dksX6_image_2 4 rfl rfl)
theorem dX6_image_51 : decode cX6_image 51 = .ok (.iload_n 2, 1) := dk_28 (dk_at dksX6_image_2 5 rfl rfl)
theorem dX6_image_52 : decode cX6_image 52 = .ok (.bipush 28, 2) := dk_16 28 (dk_at dksX6_image_2 6 rfl rfl)
theorem dX6_image_54 : decode cX6_image 54 = .ok (.if_icmp .ge 26, 3) := dk_162 0 26 (dk_at dksX6_image_2 8 rfl rfl)
theorem dX6_image_57 : decode cX6_image 57 = .ok (.aload_n 0, 1) := dk_42 (dk_at dksX6_image_2 11 rfl rfl)
theorem dX6_image_58 : decode cX6_image 58 = .ok (.getfield 99, 3) := dk_180 0 99 (dk_at dksX6_image_2 12 rfl rfl)
theorem dX6_image_61 : decode cX6_image 61 = .ok (.bipush 28, 2) := dk_16 28 (dk_at dksX6_image_2 15 rfl rfl)
theorem dX6_image_63 : decode cX6_image 63 = .ok (.iload_n 1, 1) := dk_27 (dk_at dksX6_image_2 17 rfl rfl)
theorem dX6_image_64 : decode cX6_image 64 = .ok (.imul, 1) := dk_104 (dk_at dksX6_image_2 18 rfl rfl)
theorem dX6_image_65 : decode cX6_image 65 = .ok (.iload_n 2, 1) := dk_28 (dk_at dksX6_image_2 19 rfl rfl)
theorem dX6_image_66 : decode cX6_image 66 = .ok (.iadd, 1) := dk_96 (dk_at dksX6_image_2 20 rfl rfl)
theorem dX6_image_67 : decode cX6_image 67 = .ok (.aload_n 0, 1) := dk_42 (dk_at dksX6_image_2 21 rfl rfl)
theorem dX6_image_68 : decode cX6_image 68 = .ok (.getfield 46, 3) := dk_180 0 46 (dk_at dksX6_image_3 0 rfl rfl)
theorem dX6_image_71 : decode cX6_image 71 = .ok (.iload_n 2, 1) := dk_28 (dk_at dksX6_image_3 3 rfl rfl)
theorem dX6_image_72 : decode cX6_image 72 = .ok (.laload, 1) := dk_47 (dk_at dksX6_image_3 4 rfl rfl)
theorem dX6_image_73 : decode cX6_image 73 = .ok (.lastore, 1) := dk_80 (dk_at dksX6_image_3 5 rfl rfl)
theorem dX6_image_74 : decode cX6_image 74 = .ok (.iinc 2 1, 3) := dk_132 2 1 (dk_at dksX6_image_3 6 rfl rfl)
theorem dX6_image_77 : decode cX6_image 77 = .ok (.goto (-26), 3) := dk_167 255 230 (dk_at dksX6_image_3 9 rfl rfl)
theorem dX6_image_80 : decode cX6_image 80 = .ok (.aload_n 0, 1) := dk_42 (dk_at dksX6_image_3 12 rfl rfl)
theorem dX6_image_81 : decode cX6_image 81 = .ok (.getfield 102, 3) := dk_180 0 102 (dk_at dksX6_image_3 13 rfl rfl)
theorem dX6_image_84 : decode cX6_image 84 = .ok (.iload_n 1, 1) := dk_27 (dk_at dksX6_image_3 16 rfl rfl)
theorem dX6_image_85 : decode cX6_image 85 = .ok (.iconst 1, 1) := dk_4 (dk_at dksX6_image_3 17 rfl rfl)
theorem dX6_image_86 : decode cX6_image 86 = .ok (.bastore, 1) := dk_84 (dk_at dksX6_image_3 18 rfl rfl)
theorem dX6_image_87 : decode cX6_image 87 = .ok (.iconst 1, 1) := dk_4 (dk_at dksX6_image_3 19 rfl rfl)
theorem dX6_image_88 : decode cX6_image 88 = .ok (.ireturn, 1) := dk_172 (dk_at dksX6_image_3 20 rfl rfl)
abbrev cX6_restore : ByteArray := prog_25_method_113_code
def yX6_restore : MethodName := ⟨RX6, "restore", "(I)Z"⟩
def dkwX6_restore_4 : List UInt8 := [181, 0, 242, 4, 172]
abbrev dktX6_restore_4 : List UInt8 := dkwX6_restore_4 ++ []
def dkwX6_restore_3 : List UInt8 := [180, 0, 99, 16, 28, 27, 104, 28, 96, 47, 80, 132, 2, 1, 167, 255, 230, 42, 3, 181, 0, 239, 42, 3]
abbrev dktX6_restore_3 : List UInt8 := dkwX6_restore_3 ++ dktX6_restore_4
def dkwX6_restore_2 : List UInt8 := [28, 96, 46, 79, 132, 2, 1, 167, 255, 228, 3, 61, 28, 16, 28, 162, 0, 26, 42, 180, 0, 46, 28, 42]
abbrev dktX6_restore_2 : List UInt8 := dkwX6_restore_2 ++ dktX6_restore_3
def dkwX6_restore_1 : List UInt8 := [172, 3, 61, 28, 17, 1, 104, 162, 0, 27, 42, 180, 0, 33, 28, 42, 180, 0, 96, 17, 1, 104, 27, 104]
abbrev dktX6_restore_1 : List UInt8 := dkwX6_restore_1 ++ dktX6_restore_2
def dkwX6_restore_0 : List UInt8 := [42, 3, 181, 0, 1, 27, 3, 4, 184, 0, 189, 153, 0, 12, 42, 180, 0, 102, 27, 51, 154, 0, 5, 3]
abbrev dktX6_restore_0 : List UInt8 := dkwX6_restore_0 ++ dktX6_restore_1
theorem dksX6_restore_0 : cX6_restore.data.toList.drop 0 = dktX6_restore_0 := by decide +kernel
theorem dksX6_restore_1 : cX6_restore.data.toList.drop 24 = dktX6_restore_1 := dk_seg dksX6_restore_0 24 rfl rfl
theorem dksX6_restore_2 : cX6_restore.data.toList.drop 48 = dktX6_restore_2 := dk_seg dksX6_restore_1 24 rfl rfl
theorem dksX6_restore_3 : cX6_restore.data.toList.drop 72 = dktX6_restore_3 := dk_seg dksX6_restore_2 24 rfl rfl
theorem dksX6_restore_4 : cX6_restore.data.toList.drop 96 = dktX6_restore_4 := dk_seg dksX6_restore_3 24 rfl rfl
theorem dX6_restore_0 : decode cX6_restore 0 = .ok (.aload_n 0, 1) := dk_42 (dk_at dksX6_restore_0 0 rfl rfl)
theorem dX6_restore_1 : decode cX6_restore 1 = .ok (.iconst 0, 1) := dk_3 (dk_at dksX6_restore_0 1 rfl rfl)
theorem dX6_restore_2 : decode cX6_restore 2 = .ok (.putfield 1, 3) := dk_181 0 1 (dk_at dksX6_restore_0 2 rfl rfl)
theorem dX6_restore_5 : decode cX6_restore 5 = .ok (.iload_n 1, 1) := dk_27 (dk_at dksX6_restore_0 5 rfl rfl)
theorem dX6_restore_6 : decode cX6_restore 6 = .ok (.iconst 0, 1) := dk_3 (dk_at dksX6_restore_0 6 rfl rfl)
theorem dX6_restore_7 : decode cX6_restore 7 = .ok (.iconst 1, 1) := dk_4 (dk_at dksX6_restore_0 7 rfl rfl)
theorem dX6_restore_8 : decode cX6_restore 8 = .ok (.invokestatic 189, 3) := dk_184 0 189 (dk_at dksX6_restore_0 8 rfl rfl)
theorem dX6_restore_11 : decode cX6_restore 11 = .ok (.ifCond .eq 12, 3) := dk_153 0 12 (dk_at dksX6_restore_0 11 rfl rfl)
theorem dX6_restore_14 : decode cX6_restore 14 = .ok (.aload_n 0, 1) := dk_42 (dk_at dksX6_restore_0 14 rfl rfl)
theorem dX6_restore_15 : decode cX6_restore 15 = .ok (.getfield 102, 3) := dk_180 0 102 (dk_at dksX6_restore_0 15 rfl rfl)
theorem dX6_restore_18 : decode cX6_restore 18 = .ok (.iload_n 1, 1) := dk_27 (dk_at dksX6_restore_0 18 rfl rfl)
theorem dX6_restore_19 : decode cX6_restore 19 = .ok (.baload, 1) := dk_51 (dk_at dksX6_restore_0 19 rfl rfl)
theorem dX6_restore_20 : decode cX6_restore 20 = .ok (.ifCond .ne 5, 3) := dk_154 0 5 (dk_at dksX6_restore_0 20 rfl rfl)
theorem dX6_restore_23 : decode cX6_restore 23 = .ok (.iconst 0, 1) := dk_3 (dk_at dksX6_restore_0 23 rfl rfl)
theorem dX6_restore_24 : decode cX6_restore 24 = .ok (.ireturn, 1) := dk_172 (dk_at dksX6_restore_1 0 rfl rfl)
theorem dX6_restore_25 : decode cX6_restore 25 = .ok (.iconst 0, 1) := dk_3 (dk_at dksX6_restore_1 1 rfl rfl)
theorem dX6_restore_26 : decode cX6_restore 26 = .ok (.istore_n 2, 1) := dk_61 (dk_at dksX6_restore_1 2 rfl rfl)
theorem dX6_restore_27 : decode cX6_restore 27 = .ok (.iload_n 2, 1) := dk_28 (dk_at dksX6_restore_1 3 rfl rfl)
theorem dX6_restore_28 : decode cX6_restore 28 = .ok (.sipush 360, 3) := dk_17 1 104 (dk_at dksX6_restore_1 4 rfl rfl)
theorem dX6_restore_31 : decode cX6_restore 31 = .ok (.if_icmp .ge 27, 3) := dk_162 0 27 (dk_at dksX6_restore_1 7 rfl rfl)
theorem dX6_restore_34 : decode cX6_restore 34 = .ok (.aload_n 0, 1) := dk_42 (dk_at dksX6_restore_1 10 rfl rfl)
theorem dX6_restore_35 : decode cX6_restore 35 = .ok (.getfield 33, 3) := dk_180 0 33 (dk_at dksX6_restore_1 11 rfl rfl)
theorem dX6_restore_38 : decode cX6_restore 38 = .ok (.iload_n 2, 1) := dk_28 (dk_at dksX6_restore_1 14 rfl rfl)
theorem dX6_restore_39 : decode cX6_restore 39 = .ok (.aload_n 0, 1) := dk_42 (dk_at dksX6_restore_1 15 rfl rfl)
theorem dX6_restore_40 : decode cX6_restore 40 = .ok (.getfield 96, 3) := dk_180 0 96 (dk_at dksX6_restore_1 16 rfl rfl)
theorem dX6_restore_43 : decode cX6_restore 43 = .ok (.sipush 360, 3) := dk_17 1 104 (dk_at dksX6_restore_1 19 rfl rfl)
theorem dX6_restore_46 : decode cX6_restore 46 = .ok (.iload_n 1, 1) := dk_27 (dk_at dksX6_restore_1 22 rfl rfl)
theorem dX6_restore_47 : decode cX6_restore 47 = .ok (.imul, 1) := dk_104 (dk_at dksX6_restore_1 23 rfl rfl)
theorem dX6_restore_48 : decode cX6_restore 48 = .ok (.iload_n 2, 1) := dk_28 (dk_at dksX6_restore_2 0 rfl rfl)
theorem dX6_restore_49 : decode cX6_restore 49 = .ok (.iadd, 1) := dk_96 (dk_at dksX6_restore_2 1 rfl rfl)
theorem dX6_restore_50 : decode cX6_restore 50 = .ok (.iaload, 1) := dk_46 (dk_at dksX6_restore_2 2 rfl rfl)
theorem dX6_restore_51 : decode cX6_restore 51 = .ok (.iastore, 1) := dk_79 (dk_at dksX6_restore_2 3 rfl rfl)
theorem dX6_restore_52 : decode cX6_restore 52 = .ok (.iinc 2 1, 3) := dk_132 2 1 (dk_at dksX6_restore_2 4 rfl rfl)
theorem dX6_restore_55 : decode cX6_restore 55 = .ok (.goto (-28), 3) := dk_167 255 228 (dk_at dksX6_restore_2 7 rfl rfl)
theorem dX6_restore_58 : decode cX6_restore 58 = .ok (.iconst 0, 1) := dk_3 (dk_at dksX6_restore_2 10 rfl rfl)
theorem dX6_restore_59 : decode cX6_restore 59 = .ok (.istore_n 2, 1) := dk_61 (dk_at dksX6_restore_2 11 rfl rfl)
theorem dX6_restore_60 : decode cX6_restore 60 = .ok (.iload_n 2, 1) := dk_28 (dk_at dksX6_restore_2 12 rfl rfl)
theorem dX6_restore_61 : decode cX6_restore 61 = .ok (.bipush 28, 2) := dk_16 28 (dk_at dksX6_restore_2 13 rfl rfl)
theorem dX6_restore_63 : decode cX6_restore 63 = .ok (.if_icmp .ge 26, 3) := dk_162 0 26 (dk_at dksX6_restore_2 15 rfl rfl)
theorem dX6_restore_66 : decode cX6_restore 66 = .ok (.aload_n 0, 1) := dk_42 (dk_at dksX6_restore_2 18 rfl rfl)
theorem dX6_restore_67 : decode cX6_restore 67 = .ok (.getfield 46, 3) := dk_180 0 46 (dk_at dksX6_restore_2 19 rfl rfl)
theorem dX6_restore_70 : decode cX6_restore 70 = .ok (.iload_n 2, 1) := dk_28 (dk_at dksX6_restore_2 22 rfl rfl)
theorem dX6_restore_71 : decode cX6_restore 71 = .ok (.aload_n 0, 1) := dk_42 (dk_at dksX6_restore_2 23 rfl rfl)
theorem dX6_restore_72 : decode cX6_restore 72 = .ok (.getfield 99, 3) := dk_180 0 99 (dk_at dksX6_restore_3 0 rfl rfl)
theorem dX6_restore_75 : decode cX6_restore 75 = .ok (.bipush 28, 2) := dk_16 28 (dk_at dksX6_restore_3 3 rfl rfl)
theorem dX6_restore_77 : decode cX6_restore 77 = .ok (.iload_n 1, 1) := dk_27 (dk_at dksX6_restore_3 5 rfl rfl)
theorem dX6_restore_78 : decode cX6_restore 78 = .ok (.imul, 1) := dk_104 (dk_at dksX6_restore_3 6 rfl rfl)
theorem dX6_restore_79 : decode cX6_restore 79 = .ok (.iload_n 2, 1) := dk_28 (dk_at dksX6_restore_3 7 rfl rfl)
theorem dX6_restore_80 : decode cX6_restore 80 = .ok (.iadd, 1) := dk_96 (dk_at dksX6_restore_3 8 rfl rfl)
theorem dX6_restore_81 : decode cX6_restore 81 = .ok (.laload, 1) := dk_47 (dk_at dksX6_restore_3 9 rfl rfl)
theorem dX6_restore_82 : decode cX6_restore 82 = .ok (.lastore, 1) := dk_80 (dk_at dksX6_restore_3 10 rfl rfl)
theorem dX6_restore_83 : decode cX6_restore 83 = .ok (.iinc 2 1, 3) := dk_132 2 1 (dk_at dksX6_restore_3 11 rfl rfl)
theorem dX6_restore_86 : decode cX6_restore 86 = .ok (.goto (-26), 3) := dk_167 255 230 (dk_at dksX6_restore_3 14 rfl rfl)
theorem dX6_restore_89 : decode cX6_restore 89 = .ok (.aload_n 0, 1) := dk_42 (dk_at dksX6_restore_3 17 rfl rfl)
theorem dX6_restore_90 : decode cX6_restore 90 = .ok (.iconst 0, 1) := dk_3 (dk_at dksX6_restore_3 18 rfl rfl)
theorem dX6_restore_91 : decode cX6_restore 91 = .ok (.putfield 239, 3) := dk_181 0 239 (dk_at dksX6_restore_3 19 rfl rfl)
theorem dX6_restore_94 : decode cX6_restore 94 = .ok (.aload_n 0, 1) := dk_42 (dk_at dksX6_restore_3 22 rfl rfl)
theorem dX6_restore_95 : decode cX6_restore 95 = .ok (.iconst 0, 1) := dk_3 (dk_at dksX6_restore_3 23 rfl rfl)
theorem dX6_restore_96 : decode cX6_restore 96 = .ok (.putfield 242, 3) := dk_181 0 242 (dk_at dksX6_restore_4 0 rfl rfl)
theorem dX6_restore_99 : decode cX6_restore 99 = .ok (.iconst 1, 1) := dk_4 (dk_at dksX6_restore_4 3 rfl rfl)
theorem dX6_restore_100 : decode cX6_restore 100 = .ok (.ireturn, 1) := dk_172 (dk_at dksX6_restore_4 4 rfl rfl)
abbrev cX6_count : ByteArray := prog_25_method_114_code
def yX6_count : MethodName := ⟨RX6, "count", "(I)I"⟩
def dkwX6_count_4 : List UInt8 := [180, 0, 7, 172, 2, 172]
abbrev dktX6_count_4 : List UInt8 := dkwX6_count_4 ++ []
def dkwX6_count_3 : List UInt8 := [42, 180, 0, 33, 4, 46, 172, 42, 180, 0, 33, 5, 46, 172, 42, 180, 0, 33, 3, 46, 172, 28, 172, 42]
abbrev dktX6_count_3 : List UInt8 := dkwX6_count_3 ++ dktX6_count_4
def dkwX6_count_2 : List UInt8 := [170, 0, 0, 0, 0, 62, 0, 0, 0, 0, 0, 0, 0, 4, 0, 0, 0, 34, 0, 0, 0, 41, 0, 0, 0, 48, 0, 0, 0, 55, 0, 0, 0, 57]
abbrev dktX6_count_2 : List UInt8 := dkwX6_count_2 ++ dktX6_count_3
def dkwX6_count_1 : List UInt8 := [42, 29, 182, 1, 69, 153, 0, 7, 4, 167, 0, 4, 3, 96, 61, 132, 3, 1, 167, 255, 227, 27]
abbrev dktX6_count_1 : List UInt8 := dkwX6_count_1 ++ dktX6_count_2
def dkwX6_count_0 : List UInt8 := [42, 3, 181, 0, 1, 42, 182, 1, 66, 3, 61, 3, 62, 29, 42, 180, 0, 33, 5, 46, 162, 0, 25, 28]
abbrev dktX6_count_0 : List UInt8 := dkwX6_count_0 ++ dktX6_count_1
theorem dksX6_count_0 : cX6_count.data.toList.drop 0 = dktX6_count_0 := by decide +kernel
theorem dksX6_count_1 : cX6_count.data.toList.drop 24 = dktX6_count_1 := dk_seg dksX6_count_0 24 rfl rfl
theorem dksX6_count_2 : cX6_count.data.toList.drop 46 = dktX6_count_2 := dk_seg dksX6_count_1 22 rfl rfl
theorem dksX6_count_3 : cX6_count.data.toList.drop 80 = dktX6_count_3 := dk_seg dksX6_count_2 34 rfl rfl
theorem dksX6_count_4 : cX6_count.data.toList.drop 104 = dktX6_count_4 := dk_seg dksX6_count_3 24 rfl rfl
theorem dX6_count_0 : decode cX6_count 0 = .ok (.aload_n 0, 1) := dk_42 (dk_at dksX6_count_0 0 rfl rfl)
theorem dX6_count_1 : decode cX6_count 1 = .ok (.iconst 0, 1) := dk_3 (dk_at dksX6_count_0 1 rfl rfl)
theorem dX6_count_2 : decode cX6_count 2 = .ok (.putfield 1, 3) := dk_181 0 1 (dk_at dksX6_count_0 2 rfl rfl)
theorem dX6_count_5 : decode cX6_count 5 = .ok (.aload_n 0, 1) := dk_42 (dk_at dksX6_count_0 5 rfl rfl)
theorem dX6_count_6 : decode cX6_count 6 = .ok (.invokevirtual 322, 3) := dk_182 1 66 (dk_at dksX6_count_0 6 rfl rfl)
theorem dX6_count_9 : decode cX6_count 9 = .ok (.iconst 0, 1) := dk_3 (dk_at dksX6_count_0 9 rfl rfl)
theorem dX6_count_10 : decode cX6_count 10 = .ok (.istore_n 2, 1) := dk_61 (dk_at dksX6_count_0 10 rfl rfl)
theorem dX6_count_11 : decode cX6_count 11 = .ok (.iconst 0, 1) := dk_3 (dk_at dksX6_count_0 11 rfl rfl)
theorem dX6_count_12 : decode cX6_count 12 = .ok (.istore_n 3, 1) := dk_62 (dk_at dksX6_count_0 12 rfl rfl)
theorem dX6_count_13 : decode cX6_count 13 = .ok (.iload_n 3, 1) := dk_29 (dk_at dksX6_count_0 13 rfl rfl)
theorem dX6_count_14 : decode cX6_count 14 = .ok (.aload_n 0, 1) := dk_42 (dk_at dksX6_count_0 14 rfl rfl)
theorem dX6_count_15 : decode cX6_count 15 = .ok (.getfield 33, 3) := dk_180 0 33 (dk_at dksX6_count_0 15 rfl rfl)
theorem dX6_count_18 : decode cX6_count 18 = .ok (.iconst 2, 1) := dk_5 (dk_at dksX6_count_0 18 rfl rfl)
theorem dX6_count_19 : decode cX6_count 19 = .ok (.iaload, 1) := dk_46 (dk_at dksX6_count_0 19 rfl rfl)
theorem dX6_count_20 : decode cX6_count 20 = .ok (.if_icmp .ge 25, 3) := dk_162 0 25 (dk_at dksX6_count_0 20 rfl rfl)
theorem dX6_count_23 : decode cX6_count 23 = .ok (.iload_n 2, 1) := dk_28 (dk_at dksX6_count_0 23 rfl rfl)
theorem dX6_count_24 : decode cX6_count 24 = .ok (.aload_n 0, 1) := dk_42 (dk_at dksX6_count_1 0 rfl rfl)
theorem dX6_count_25 : decode cX6_count 25 = .ok (.iload_n 3, 1) := dk_29 (dk_at dksX6_count_1 1 rfl rfl)
theorem dX6_count_26 : decode cX6_count 26 = .ok (.invokevirtual 325, 3) := dk_182 1 69 (dk_at dksX6_count_1 2 rfl rfl)
theorem dX6_count_29 : decode cX6_count 29 = .ok (.ifCond .eq 7, 3) := dk_153 0 7 (dk_at dksX6_count_1 5 rfl rfl)
theorem dX6_count_32 : decode cX6_count 32 = .ok (.iconst 1, 1) := dk_4 (dk_at dksX6_count_1 8 rfl rfl)
theorem dX6_count_33 : decode cX6_count 33 = .ok (.goto 4, 3) := dk_167 0 4 (dk_at dksX6_count_1 9 rfl rfl)
theorem dX6_count_36 : decode cX6_count 36 = .ok (.iconst 0, 1) := dk_3 (dk_at dksX6_count_1 12 rfl rfl)
theorem dX6_count_37 : decode cX6_count 37 = .ok (.iadd, 1) := dk_96 (dk_at dksX6_count_1 13 rfl rfl)
theorem dX6_count_38 : decode cX6_count 38 = .ok (.istore_n 2, 1) := dk_61 (dk_at dksX6_count_1 14 rfl rfl)
theorem dX6_count_39 : decode cX6_count 39 = .ok (.iinc 3 1, 3) := dk_132 3 1 (dk_at dksX6_count_1 15 rfl rfl)
theorem dX6_count_42 : decode cX6_count 42 = .ok (.goto (-29), 3) := dk_167 255 227 (dk_at dksX6_count_1 18 rfl rfl)
theorem dX6_count_45 : decode cX6_count 45 = .ok (.iload_n 1, 1) := dk_27 (dk_at dksX6_count_1 21 rfl rfl)
theorem dX6_count_46 : decode cX6_count 46 = .ok (.tableswitch 62 0 4 #[34, 41, 48, 55, 57], 34) := by decide +kernel
theorem dX6_count_80 : decode cX6_count 80 = .ok (.aload_n 0, 1) := dk_42 (dk_at dksX6_count_3 0 rfl rfl)
theorem dX6_count_81 : decode cX6_count 81 = .ok (.getfield 33, 3) := dk_180 0 33 (dk_at dksX6_count_3 1 rfl rfl)
theorem dX6_count_84 : decode cX6_count 84 = .ok (.iconst 1, 1) := dk_4 (dk_at dksX6_count_3 4 rfl rfl)
theorem dX6_count_85 : decode cX6_count 85 = .ok (.iaload, 1) := dk_46 (dk_at dksX6_count_3 5 rfl rfl)
theorem dX6_count_86 : decode cX6_count 86 = .ok (.ireturn, 1) := dk_172 (dk_at dksX6_count_3 6 rfl rfl)
theorem dX6_count_87 : decode cX6_count 87 = .ok (.aload_n 0, 1) := dk_42 (dk_at dksX6_count_3 7 rfl rfl)
theorem dX6_count_88 : decode cX6_count 88 = .ok (.getfield 33, 3) := dk_180 0 33 (dk_at dksX6_count_3 8 rfl rfl)
theorem dX6_count_91 : decode cX6_count 91 = .ok (.iconst 2, 1) := dk_5 (dk_at dksX6_count_3 11 rfl rfl)
theorem dX6_count_92 : decode cX6_count 92 = .ok (.iaload, 1) := dk_46 (dk_at dksX6_count_3 12 rfl rfl)
theorem dX6_count_93 : decode cX6_count 93 = .ok (.ireturn, 1) := dk_172 (dk_at dksX6_count_3 13 rfl rfl)
theorem dX6_count_94 : decode cX6_count 94 = .ok (.aload_n 0, 1) := dk_42 (dk_at dksX6_count_3 14 rfl rfl)
theorem dX6_count_95 : decode cX6_count 95 = .ok (.getfield 33, 3) := dk_180 0 33 (dk_at dksX6_count_3 15 rfl rfl)
theorem dX6_count_98 : decode cX6_count 98 = .ok (.iconst 0, 1) := dk_3 (dk_at dksX6_count_3 18 rfl rfl)
theorem dX6_count_99 : decode cX6_count 99 = .ok (.iaload, 1) := dk_46 (dk_at dksX6_count_3 19 rfl rfl)
theorem dX6_count_100 : decode cX6_count 100 = .ok (.ireturn, 1) := dk_172 (dk_at dksX6_count_3 20 rfl rfl)
theorem dX6_count_101 : decode cX6_count 101 = .ok (.iload_n 2, 1) := dk_28 (dk_at dksX6_count_3 21 rfl rfl)
theorem dX6_count_102 : decode cX6_count 102 = .ok (.ireturn, 1) := dk_172 (dk_at dksX6_count_3 22 rfl rfl)
theorem dX6_count_103 : decode cX6_count 103 = .ok (.aload_n 0, 1) := dk_42 (dk_at dksX6_count_3 23 rfl rfl)
theorem dX6_count_104 : decode cX6_count 104 = .ok (.getfield 7, 3) := dk_180 0 7 (dk_at dksX6_count_4 0 rfl rfl)
theorem dX6_count_107 : decode cX6_count 107 = .ok (.ireturn, 1) := dk_172 (dk_at dksX6_count_4 3 rfl rfl)
theorem dX6_count_108 : decode cX6_count 108 = .ok (.iconst (-1), 1) := dk_2 (dk_at dksX6_count_4 4 rfl rfl)
theorem dX6_count_109 : decode cX6_count 109 = .ok (.ireturn, 1) := dk_172 (dk_at dksX6_count_4 5 rfl rfl)
theorem q147 : (Jvm.Cond.initialized "FinalLinksModel") ∈ lw_all := lw_g (lw_at lw_m1 41 rfl) rfl
theorem q621 : (Jvm.Cond.selects "FinalLinksModel" ({ cls := "java/lang/Object", name := "getClass", desc := "()Ljava/lang/Class;" } : Jvm.MethodName) ({ cls := "java/lang/Object", name := "getClass", desc := "()Ljava/lang/Class;" } : Jvm.MethodName)) ∈ lw_all := lw_g (lw_at lw_m3 35 rfl) rfl
theorem q934 : (Jvm.Cond.selects "FinalLinksModel" ({ cls := "java/lang/Object", name := "hashCode", desc := "()I" } : Jvm.MethodName) ({ cls := "java/lang/Object", name := "hashCode", desc := "()I" } : Jvm.MethodName)) ∈ lw_all := lw_g (lw_at lw_m4 108 rfl) rfl
theorem q1047 : (Jvm.Cond.selects "FinalLinksModel" ({ cls := "java/lang/Object", name := "equals", desc := "(Ljava/lang/Object;)Z" } : Jvm.MethodName) ({ cls := "java/lang/Object", name := "equals", desc := "(Ljava/lang/Object;)Z" } : Jvm.MethodName)) ∈ lw_all := lw_g (lw_at lw_m4 221 rfl) rfl
theorem q2889 : (Jvm.Cond.instanceMethod ({ cls := "FinalLinksModel", name := "thrown", desc := "()I" } : Jvm.MethodName)) ∈ lw_all := lw_g (lw_at lw_m12 143 rfl) rfl
theorem q2890 : (Jvm.Cond.selects "FinalLinksModel" ({ cls := "FinalLinksModel", name := "thrown", desc := "()I" } : Jvm.MethodName) ({ cls := "FinalLinksModel", name := "thrown", desc := "()I" } : Jvm.MethodName)) ∈ lw_all := lw_g (lw_at lw_m12 144 rfl) rfl
theorem q2891 : (Jvm.Cond.code ({ cls := "FinalLinksModel", name := "thrown", desc := "()I" } : Jvm.MethodName) prog_25_method_1_code (1 : Nat) (Option.some Jvm.ClassFile.FieldType.int)) ∈ lw_all := lw_g (lw_at lw_m12 145 rfl) rfl
theorem q2893 : (Jvm.Cond.instanceMethod ({ cls := "FinalLinksModel", name := "feed", desc := "(IIIII)I" } : Jvm.MethodName)) ∈ lw_all := lw_g (lw_at lw_m12 147 rfl) rfl
theorem q2894 : (Jvm.Cond.selects "FinalLinksModel" ({ cls := "FinalLinksModel", name := "feed", desc := "(IIIII)I" } : Jvm.MethodName) ({ cls := "FinalLinksModel", name := "feed", desc := "(IIIII)I" } : Jvm.MethodName)) ∈ lw_all := lw_g (lw_at lw_m12 148 rfl) rfl
theorem q2895 : (Jvm.Cond.code ({ cls := "FinalLinksModel", name := "feed", desc := "(IIIII)I" } : Jvm.MethodName) prog_25_method_3_code (6 : Nat) (Option.some Jvm.ClassFile.FieldType.int)) ∈ lw_all := lw_g (lw_at lw_m12 149 rfl) rfl
theorem q2896 : (Jvm.Cond.methodLink "FinalLinksModel" (10 : Nat) ({ cls := "FinalLinksModel", name := "four", desc := "(I)V" } : Jvm.MethodName)) ∈ lw_all := lw_g (lw_at lw_m12 150 rfl) rfl
theorem q2897 : (Jvm.Cond.privateMethod ({ cls := "FinalLinksModel", name := "four", desc := "(I)V" } : Jvm.MethodName)) ∈ lw_tbl := lw_at lw_m12 151 rfl
theorem q2898 : (Jvm.Cond.instanceMethod ({ cls := "FinalLinksModel", name := "four", desc := "(I)V" } : Jvm.MethodName)) ∈ lw_all := lw_g (lw_at lw_m12 152 rfl) rfl
theorem q2899 : (Jvm.Cond.instantiable "FinalLinksModel" (58 : Nat)) ∈ lw_all := lw_g (lw_at lw_m12 153 rfl) rfl
theorem q2900 : (Jvm.Cond.code ({ cls := "FinalLinksModel", name := "four", desc := "(I)V" } : Jvm.MethodName) prog_25_method_4_code (3 : Nat) (Option.none : Option Jvm.ClassFile.FieldType)) ∈ lw_all := lw_g (lw_at lw_m12 154 rfl) rfl
theorem q2902 : (Jvm.Cond.instanceMethod ({ cls := "FinalLinksModel", name := "end", desc := "(I)Z" } : Jvm.MethodName)) ∈ lw_all := lw_g (lw_at lw_m12 156 rfl) rfl
theorem q2903 : (Jvm.Cond.selects "FinalLinksModel" ({ cls := "FinalLinksModel", name := "end", desc := "(I)Z" } : Jvm.MethodName) ({ cls := "FinalLinksModel", name := "end", desc := "(I)Z" } : Jvm.MethodName)) ∈ lw_all := lw_g (lw_at lw_m12 157 rfl) rfl
theorem q2904 : (Jvm.Cond.code ({ cls := "FinalLinksModel", name := "end", desc := "(I)Z" } : Jvm.MethodName) prog_25_method_5_code (2 : Nat) (Option.some Jvm.ClassFile.FieldType.boolean)) ∈ lw_all := lw_g (lw_at lw_m12 158 rfl) rfl
theorem q2907 : (Jvm.Cond.instanceMethod ({ cls := "FinalLinksModel", name := "<init>", desc := "()V" } : Jvm.MethodName)) ∈ lw_all := lw_g (lw_at lw_m12 161 rfl) rfl
theorem q2908 : (Jvm.Cond.code ({ cls := "FinalLinksModel", name := "<init>", desc := "()V" } : Jvm.MethodName) prog_25_method_9_code (1 : Nat) (Option.none : Option Jvm.ClassFile.FieldType)) ∈ lw_all := lw_g (lw_at lw_m12 162 rfl) rfl
theorem q2909 : (Jvm.Cond.methodLink "FinalLinksModel" (27 : Nat) ({ cls := "java/lang/Object", name := "<init>", desc := "()V" } : Jvm.MethodName)) ∈ lw_all := lw_g (lw_at lw_m12 163 rfl) rfl
theorem q2910 : (Jvm.Cond.constantLong "FinalLinksModel" (105 : Nat) (435678045032 : Int64)) ∈ lw_all := lw_g (lw_at lw_m12 164 rfl) rfl
theorem q2911 : (Jvm.Cond.constantLong "FinalLinksModel" (107 : Nat) (508676040050 : Int64)) ∈ lw_all := lw_g (lw_at lw_m12 165 rfl) rfl
theorem q2912 : (Jvm.Cond.constantLong "FinalLinksModel" (109 : Nat) (422726034283 : Int64)) ∈ lw_all := lw_g (lw_at lw_m12 166 rfl) rfl
theorem q2913 : (Jvm.Cond.constantLong "FinalLinksModel" (111 : Nat) (28526 : Int64)) ∈ lw_all := lw_g (lw_at lw_m12 167 rfl) rfl
theorem q2914 : (Jvm.Cond.constantLong "FinalLinksModel" (113 : Nat) (109299962373989 : Int64)) ∈ lw_all := lw_g (lw_at lw_m12 168 rfl) rfl
theorem q2915 : (Jvm.Cond.constantLong "FinalLinksModel" (115 : Nat) (1987015781 : Int64)) ∈ lw_all := lw_g (lw_at lw_m12 169 rfl) rfl
theorem q2916 : (Jvm.Cond.constantLong "FinalLinksModel" (117 : Nat) (1819242347 : Int64)) ∈ lw_all := lw_g (lw_at lw_m12 170 rfl) rfl
theorem q2917 : (Jvm.Cond.constantLong "FinalLinksModel" (119 : Nat) (1735552887 : Int64)) ∈ lw_all := lw_g (lw_at lw_m12 171 rfl) rfl
theorem q2918 : (Jvm.Cond.constantLong "FinalLinksModel" (121 : Nat) (28530 : Int64)) ∈ lw_all := lw_g (lw_at lw_m12 172 rfl) rfl
theorem q2919 : (Jvm.Cond.constantLong "FinalLinksModel" (123 : Nat) (6385252 : Int64)) ∈ lw_all := lw_g (lw_at lw_m12 173 rfl) rfl
theorem q2920 : (Jvm.Cond.constantLong "FinalLinksModel" (125 : Nat) (7237492 : Int64)) ∈ lw_all := lw_g (lw_at lw_m12 174 rfl) rfl
theorem q2921 : (Jvm.Cond.constantLong "FinalLinksModel" (127 : Nat) (1818583398 : Int64)) ∈ lw_all := lw_g (lw_at lw_m12 175 rfl) rfl
theorem q2922 : (Jvm.Cond.constantLong "FinalLinksModel" (129 : Nat) (482905517684 : Int64)) ∈ lw_all := lw_g (lw_at lw_m12 176 rfl) rfl
theorem q2923 : (Jvm.Cond.constantLong "FinalLinksModel" (131 : Nat) (1786082164 : Int64)) ∈ lw_all := lw_g (lw_at lw_m12 177 rfl) rfl
theorem q2924 : (Jvm.Cond.constantLong "FinalLinksModel" (133 : Nat) (439855505772 : Int64)) ∈ lw_all := lw_g (lw_at lw_m12 178 rfl) rfl
theorem q2925 : (Jvm.Cond.constantLong "FinalLinksModel" (135 : Nat) (109300197582190 : Int64)) ∈ lw_all := lw_g (lw_at lw_m12 179 rfl) rfl
theorem q2926 : (Jvm.Cond.constantLong "FinalLinksModel" (137 : Nat) (504363246962 : Int64)) ∈ lw_all := lw_g (lw_at lw_m12 180 rfl) rfl
theorem q2927 : (Jvm.Cond.constantLong "FinalLinksModel" (139 : Nat) (114784769370228 : Int64)) ∈ lw_all := lw_g (lw_at lw_m12 181 rfl) rfl
theorem q2928 : (Jvm.Cond.constantLong "FinalLinksModel" (141 : Nat) (465558725996 : Int64)) ∈ lw_all := lw_g (lw_at lw_m12 182 rfl) rfl
theorem q2929 : (Jvm.Cond.constantLong "FinalLinksModel" (143 : Nat) (1751475828 : Int64)) ∈ lw_all := lw_g (lw_at lw_m12 183 rfl) rfl
theorem q2930 : (Jvm.Cond.constantLong "FinalLinksModel" (145 : Nat) (121450625394034 : Int64)) ∈ lw_all := lw_g (lw_at lw_m12 184 rfl) rfl
theorem q2931 : (Jvm.Cond.fieldLink "FinalLinksModel" (1 : Nat) "FinalLinksModel" "thrown" "I") ∈ lw_all := lw_g (lw_at lw_m12 185 rfl) rfl
theorem q2932 : (Jvm.Cond.fieldLink "FinalLinksModel" (14 : Nat) "FinalLinksModel" "tape" "[B") ∈ lw_all := lw_g (lw_at lw_m12 186 rfl) rfl
theorem q2933 : (Jvm.Cond.fieldLink "FinalLinksModel" (7 : Nat) "FinalLinksModel" "length" "I") ∈ lw_all := lw_g (lw_at lw_m12 187 rfl) rfl
theorem q2934 : (Jvm.Cond.fieldLink "FinalLinksModel" (18 : Nat) "FinalLinksModel" "size" "I") ∈ lw_all := lw_g (lw_at lw_m12 188 rfl) rfl
theorem q2935 : (Jvm.Cond.fieldLink "FinalLinksModel" (21 : Nat) "FinalLinksModel" "p" "I") ∈ lw_all := lw_g (lw_at lw_m12 189 rfl) rfl
theorem q2936 : (Jvm.Cond.fieldLink "FinalLinksModel" (24 : Nat) "FinalLinksModel" "limit" "I") ∈ lw_all := lw_g (lw_at lw_m12 190 rfl) rfl
theorem q2937 : (Jvm.Cond.fieldLink "FinalLinksModel" (33 : Nat) "FinalLinksModel" "s" "[I") ∈ lw_all := lw_g (lw_at lw_m12 191 rfl) rfl
theorem q2938 : (Jvm.Cond.fieldLink "FinalLinksModel" (37 : Nat) "FinalLinksModel" "h" "[I") ∈ lw_all := lw_g (lw_at lw_m12 192 rfl) rfl
theorem q2939 : (Jvm.Cond.fieldLink "FinalLinksModel" (40 : Nat) "FinalLinksModel" "read" "[I") ∈ lw_all := lw_g (lw_at lw_m12 193 rfl) rfl
theorem q2940 : (Jvm.Cond.fieldLink "FinalLinksModel" (43 : Nat) "FinalLinksModel" "line" "[I") ∈ lw_all := lw_g (lw_at lw_m12 194 rfl) rfl
theorem q2941 : (Jvm.Cond.fieldLink "FinalLinksModel" (46 : Nat) "FinalLinksModel" "names" "[J") ∈ lw_all := lw_g (lw_at lw_m12 195 rfl) rfl
theorem q2942 : (Jvm.Cond.fieldLink "FinalLinksModel" (50 : Nat) "FinalLinksModel" "reserved" "[J") ∈ lw_all := lw_g (lw_at lw_m12 196 rfl) rfl
theorem q2943 : (Jvm.Cond.fieldLink "FinalLinksModel" (157 : Nat) "FinalLinksModel" "token" "I") ∈ lw_all := lw_g (lw_at lw_m12 197 rfl) rfl
theorem q2944 : (Jvm.Cond.fieldLink "FinalLinksModel" (151 : Nat) "FinalLinksModel" "at" "I") ∈ lw_all := lw_g (lw_at lw_m12 198 rfl) rfl
theorem q2945 : (Jvm.Cond.fieldLink "FinalLinksModel" (154 : Nat) "FinalLinksModel" "span" "I") ∈ lw_all := lw_g (lw_at lw_m12 199 rfl) rfl
theorem q2946 : (Jvm.Cond.fieldLink "FinalLinksModel" (167 : Nat) "FinalLinksModel" "number" "I") ∈ lw_all := lw_g (lw_at lw_m12 200 rfl) rfl
theorem q2947 : (Jvm.Cond.fieldLink "FinalLinksModel" (174 : Nat) "FinalLinksModel" "fault" "I") ∈ lw_all := lw_g (lw_at lw_m12 201 rfl) rfl
theorem q2948 : (Jvm.Cond.fieldLink "FinalLinksModel" (177 : Nat) "FinalLinksModel" "faultAt" "I") ∈ lw_all := lw_g (lw_at lw_m12 202 rfl) rfl
theorem q2949 : (Jvm.Cond.fieldLink "FinalLinksModel" (170 : Nat) "FinalLinksModel" "word" "J") ∈ lw_all := lw_g (lw_at lw_m12 203 rfl) rfl
theorem q2950 : (Jvm.Cond.fieldLink "FinalLinksModel" (193 : Nat) "FinalLinksModel" "got" "I") ∈ lw_all := lw_g (lw_at lw_m12 204 rfl) rfl
theorem q2951 : (Jvm.Cond.fieldLink "FinalLinksModel" (204 : Nat) "FinalLinksModel" "lines" "I") ∈ lw_all := lw_g (lw_at lw_m12 205 rfl) rfl
theorem q2952 : (Jvm.Cond.fieldLink "FinalLinksModel" (53 : Nat) "FinalLinksModel" "high" "[I") ∈ lw_all := lw_g (lw_at lw_m12 206 rfl) rfl
theorem q2953 : (Jvm.Cond.fieldLink "FinalLinksModel" (56 : Nat) "FinalLinksModel" "aheads" "[I") ∈ lw_all := lw_g (lw_at lw_m12 207 rfl) rfl
theorem q2954 : (Jvm.Cond.fieldLink "FinalLinksModel" (59 : Nat) "FinalLinksModel" "masks" "[I") ∈ lw_all := lw_g (lw_at lw_m12 208 rfl) rfl
theorem q2955 : (Jvm.Cond.fieldLink "FinalLinksModel" (62 : Nat) "FinalLinksModel" "hefts" "[I") ∈ lw_all := lw_g (lw_at lw_m12 209 rfl) rfl
theorem q2956 : (Jvm.Cond.fieldLink "FinalLinksModel" (65 : Nat) "FinalLinksModel" "way" "[I") ∈ lw_all := lw_g (lw_at lw_m12 210 rfl) rfl
theorem q2957 : (Jvm.Cond.fieldLink "FinalLinksModel" (282 : Nat) "FinalLinksModel" "just" "I") ∈ lw_all := lw_g (lw_at lw_m12 211 rfl) rfl
theorem q2958 : (Jvm.Cond.fieldLink "FinalLinksModel" (285 : Nat) "FinalLinksModel" "finals" "I") ∈ lw_all := lw_g (lw_at lw_m12 212 rfl) rfl
theorem q2959 : (Jvm.Cond.fieldLink "FinalLinksModel" (270 : Nat) "FinalLinksModel" "offenders" "I") ∈ lw_all := lw_g (lw_at lw_m12 213 rfl) rfl
theorem q2960 : (Jvm.Cond.fieldLink "FinalLinksModel" (294 : Nat) "FinalLinksModel" "base" "I") ∈ lw_all := lw_g (lw_at lw_m12 214 rfl) rfl
theorem q2961 : (Jvm.Cond.fieldLink "FinalLinksModel" (297 : Nat) "FinalLinksModel" "wayMany" "I") ∈ lw_all := lw_g (lw_at lw_m12 215 rfl) rfl
theorem q2962 : (Jvm.Cond.fieldLink "FinalLinksModel" (276 : Nat) "FinalLinksModel" "linkMany" "I") ∈ lw_all := lw_g (lw_at lw_m12 216 rfl) rfl
theorem q2963 : (Jvm.Cond.fieldLink "FinalLinksModel" (288 : Nat) "FinalLinksModel" "countMany" "I") ∈ lw_all := lw_g (lw_at lw_m12 217 rfl) rfl
theorem q2964 : (Jvm.Cond.fieldLink "FinalLinksModel" (273 : Nat) "FinalLinksModel" "pairMany" "I") ∈ lw_all := lw_g (lw_at lw_m12 218 rfl) rfl
theorem q2965 : (Jvm.Cond.fieldLink "FinalLinksModel" (242 : Nat) "FinalLinksModel" "isFresh" "Z") ∈ lw_all := lw_g (lw_at lw_m12 219 rfl) rfl
theorem q2966 : (Jvm.Cond.fieldLink "FinalLinksModel" (68 : Nat) "FinalLinksModel" "undone" "[I") ∈ lw_all := lw_g (lw_at lw_m12 220 rfl) rfl
theorem q2967 : (Jvm.Cond.fieldLink "FinalLinksModel" (71 : Nat) "FinalLinksModel" "before" "[I") ∈ lw_all := lw_g (lw_at lw_m12 221 rfl) rfl
theorem q2968 : (Jvm.Cond.fieldLink "FinalLinksModel" (74 : Nat) "FinalLinksModel" "first" "[I") ∈ lw_all := lw_g (lw_at lw_m12 222 rfl) rfl
theorem q2969 : (Jvm.Cond.fieldLink "FinalLinksModel" (239 : Nat) "FinalLinksModel" "undoMany" "I") ∈ lw_all := lw_g (lw_at lw_m12 223 rfl) rfl
theorem q2970 : (Jvm.Cond.fieldLink "FinalLinksModel" (378 : Nat) "FinalLinksModel" "needSet" "I") ∈ lw_all := lw_g (lw_at lw_m12 224 rfl) rfl
theorem q2971 : (Jvm.Cond.fieldLink "FinalLinksModel" (77 : Nat) "FinalLinksModel" "needed" "I") ∈ lw_all := lw_g (lw_at lw_m12 225 rfl) rfl
theorem q2972 : (Jvm.Cond.fieldLink "FinalLinksModel" (80 : Nat) "FinalLinksModel" "wayFrom" "I") ∈ lw_all := lw_g (lw_at lw_m12 226 rfl) rfl
theorem q2973 : (Jvm.Cond.fieldLink "FinalLinksModel" (83 : Nat) "FinalLinksModel" "text" "[B") ∈ lw_all := lw_g (lw_at lw_m12 227 rfl) rfl
theorem q2974 : (Jvm.Cond.fieldLink "FinalLinksModel" (393 : Nat) "FinalLinksModel" "textMany" "I") ∈ lw_all := lw_g (lw_at lw_m12 228 rfl) rfl
theorem q2975 : (Jvm.Cond.fieldLink "FinalLinksModel" (412 : Nat) "FinalLinksModel" "seed" "I") ∈ lw_all := lw_g (lw_at lw_m12 229 rfl) rfl
theorem q2976 : (Jvm.Cond.fieldLink "FinalLinksModel" (425 : Nat) "FinalLinksModel" "bookMany" "I") ∈ lw_all := lw_g (lw_at lw_m12 230 rfl) rfl
theorem q2977 : (Jvm.Cond.fieldLink "FinalLinksModel" (86 : Nat) "FinalLinksModel" "toldAt" "[I") ∈ lw_all := lw_g (lw_at lw_m12 231 rfl) rfl
theorem q2978 : (Jvm.Cond.fieldLink "FinalLinksModel" (434 : Nat) "FinalLinksModel" "hasTold" "Z") ∈ lw_all := lw_g (lw_at lw_m12 232 rfl) rfl
theorem q2979 : (Jvm.Cond.fieldLink "FinalLinksModel" (89 : Nat) "FinalLinksModel" "stack" "[I") ∈ lw_all := lw_g (lw_at lw_m12 233 rfl) rfl
theorem q2980 : (Jvm.Cond.fieldLink "FinalLinksModel" (437 : Nat) "FinalLinksModel" "codes" "I") ∈ lw_all := lw_g (lw_at lw_m12 234 rfl) rfl
theorem q2981 : (Jvm.Cond.fieldLink "FinalLinksModel" (452 : Nat) "FinalLinksModel" "ones" "I") ∈ lw_all := lw_g (lw_at lw_m12 235 rfl) rfl
theorem q2982 : (Jvm.Cond.fieldLink "FinalLinksModel" (440 : Nat) "FinalLinksModel" "top" "I") ∈ lw_all := lw_g (lw_at lw_m12 236 rfl) rfl
theorem q2983 : (Jvm.Cond.fieldLink "FinalLinksModel" (446 : Nat) "FinalLinksModel" "deep" "I") ∈ lw_all := lw_g (lw_at lw_m12 237 rfl) rfl
theorem q2984 : (Jvm.Cond.fieldLink "FinalLinksModel" (455 : Nat) "FinalLinksModel" "isWhole" "Z") ∈ lw_all := lw_g (lw_at lw_m12 238 rfl) rfl
theorem q2985 : (Jvm.Cond.fieldLink "FinalLinksModel" (92 : Nat) "FinalLinksModel" "truths" "[Z") ∈ lw_all := lw_g (lw_at lw_m12 239 rfl) rfl
theorem q2986 : (Jvm.Cond.fieldLink "FinalLinksModel" (96 : Nat) "FinalLinksModel" "imaged" "[I") ∈ lw_all := lw_g (lw_at lw_m13 0 rfl) rfl
theorem q2987 : (Jvm.Cond.fieldLink "FinalLinksModel" (99 : Nat) "FinalLinksModel" "namesKept" "[J") ∈ lw_all := lw_g (lw_at lw_m13 1 rfl) rfl
theorem q2988 : (Jvm.Cond.fieldLink "FinalLinksModel" (102 : Nat) "FinalLinksModel" "areKept" "[Z") ∈ lw_all := lw_g (lw_at lw_m13 2 rfl) rfl
theorem q2989 : (Jvm.Cond.lays "FinalLinksModel" "FinalLinksModel" "thrown" "I") ∈ lw_all := lw_g (lw_at lw_m13 3 rfl) rfl
theorem q2990 : (Jvm.Cond.soleField "FinalLinksModel" "thrown") ∈ lw_all := lw_g (lw_at lw_m13 4 rfl) rfl
theorem q2991 : (Jvm.Cond.laysFinal "FinalLinksModel" "FinalLinksModel" "tape" "[B") ∈ lw_all := lw_g (lw_at lw_m13 5 rfl) rfl
theorem q2992 : (Jvm.Cond.soleField "FinalLinksModel" "tape") ∈ lw_all := lw_g (lw_at lw_m13 6 rfl) rfl
theorem q2993 : (Jvm.Cond.lays "FinalLinksModel" "FinalLinksModel" "length" "I") ∈ lw_all := lw_g (lw_at lw_m13 7 rfl) rfl
theorem q2994 : (Jvm.Cond.soleField "FinalLinksModel" "length") ∈ lw_all := lw_g (lw_at lw_m13 8 rfl) rfl
theorem q2995 : (Jvm.Cond.lays "FinalLinksModel" "FinalLinksModel" "size" "I") ∈ lw_all := lw_g (lw_at lw_m13 9 rfl) rfl
theorem q2996 : (Jvm.Cond.soleField "FinalLinksModel" "size") ∈ lw_all := lw_g (lw_at lw_m13 10 rfl) rfl
theorem q2997 : (Jvm.Cond.lays "FinalLinksModel" "FinalLinksModel" "p" "I") ∈ lw_all := lw_g (lw_at lw_m13 11 rfl) rfl
theorem q2998 : (Jvm.Cond.soleField "FinalLinksModel" "p") ∈ lw_all := lw_g (lw_at lw_m13 12 rfl) rfl
theorem q2999 : (Jvm.Cond.lays "FinalLinksModel" "FinalLinksModel" "limit" "I") ∈ lw_all := lw_g (lw_at lw_m13 13 rfl) rfl
theorem q3000 : (Jvm.Cond.soleField "FinalLinksModel" "limit") ∈ lw_all := lw_g (lw_at lw_m13 14 rfl) rfl
theorem q3001 : (Jvm.Cond.laysFinal "FinalLinksModel" "FinalLinksModel" "s" "[I") ∈ lw_all := lw_g (lw_at lw_m13 15 rfl) rfl
theorem q3002 : (Jvm.Cond.soleField "FinalLinksModel" "s") ∈ lw_all := lw_g (lw_at lw_m13 16 rfl) rfl
theorem q3003 : (Jvm.Cond.laysFinal "FinalLinksModel" "FinalLinksModel" "h" "[I") ∈ lw_all := lw_g (lw_at lw_m13 17 rfl) rfl
theorem q3004 : (Jvm.Cond.soleField "FinalLinksModel" "h") ∈ lw_all := lw_g (lw_at lw_m13 18 rfl) rfl
theorem q3005 : (Jvm.Cond.laysFinal "FinalLinksModel" "FinalLinksModel" "read" "[I") ∈ lw_all := lw_g (lw_at lw_m13 19 rfl) rfl
theorem q3006 : (Jvm.Cond.soleField "FinalLinksModel" "read") ∈ lw_all := lw_g (lw_at lw_m13 20 rfl) rfl
theorem q3007 : (Jvm.Cond.laysFinal "FinalLinksModel" "FinalLinksModel" "line" "[I") ∈ lw_all := lw_g (lw_at lw_m13 21 rfl) rfl
theorem q3008 : (Jvm.Cond.soleField "FinalLinksModel" "line") ∈ lw_all := lw_g (lw_at lw_m13 22 rfl) rfl
theorem q3009 : (Jvm.Cond.laysFinal "FinalLinksModel" "FinalLinksModel" "names" "[J") ∈ lw_all := lw_g (lw_at lw_m13 23 rfl) rfl
theorem q3010 : (Jvm.Cond.soleField "FinalLinksModel" "names") ∈ lw_all := lw_g (lw_at lw_m13 24 rfl) rfl
theorem q3011 : (Jvm.Cond.laysFinal "FinalLinksModel" "FinalLinksModel" "reserved" "[J") ∈ lw_all := lw_g (lw_at lw_m13 25 rfl) rfl
theorem q3012 : (Jvm.Cond.soleField "FinalLinksModel" "reserved") ∈ lw_all := lw_g (lw_at lw_m13 26 rfl) rfl
theorem q3013 : (Jvm.Cond.lays "FinalLinksModel" "FinalLinksModel" "token" "I") ∈ lw_all := lw_g (lw_at lw_m13 27 rfl) rfl
theorem q3014 : (Jvm.Cond.soleField "FinalLinksModel" "token") ∈ lw_all := lw_g (lw_at lw_m13 28 rfl) rfl
theorem q3015 : (Jvm.Cond.lays "FinalLinksModel" "FinalLinksModel" "at" "I") ∈ lw_all := lw_g (lw_at lw_m13 29 rfl) rfl
theorem q3016 : (Jvm.Cond.soleField "FinalLinksModel" "at") ∈ lw_all := lw_g (lw_at lw_m13 30 rfl) rfl
theorem q3017 : (Jvm.Cond.lays "FinalLinksModel" "FinalLinksModel" "span" "I") ∈ lw_all := lw_g (lw_at lw_m13 31 rfl) rfl
theorem q3018 : (Jvm.Cond.soleField "FinalLinksModel" "span") ∈ lw_all := lw_g (lw_at lw_m13 32 rfl) rfl
theorem q3019 : (Jvm.Cond.lays "FinalLinksModel" "FinalLinksModel" "number" "I") ∈ lw_all := lw_g (lw_at lw_m13 33 rfl) rfl
theorem q3020 : (Jvm.Cond.soleField "FinalLinksModel" "number") ∈ lw_all := lw_g (lw_at lw_m13 34 rfl) rfl
theorem q3021 : (Jvm.Cond.lays "FinalLinksModel" "FinalLinksModel" "fault" "I") ∈ lw_all := lw_g (lw_at lw_m13 35 rfl) rfl
theorem q3022 : (Jvm.Cond.soleField "FinalLinksModel" "fault") ∈ lw_all := lw_g (lw_at lw_m13 36 rfl) rfl
theorem q3023 : (Jvm.Cond.lays "FinalLinksModel" "FinalLinksModel" "faultAt" "I") ∈ lw_all := lw_g (lw_at lw_m13 37 rfl) rfl
theorem q3024 : (Jvm.Cond.soleField "FinalLinksModel" "faultAt") ∈ lw_all := lw_g (lw_at lw_m13 38 rfl) rfl
theorem q3025 : (Jvm.Cond.lays "FinalLinksModel" "FinalLinksModel" "word" "J") ∈ lw_all := lw_g (lw_at lw_m13 39 rfl) rfl
theorem q3026 : (Jvm.Cond.soleField "FinalLinksModel" "word") ∈ lw_all := lw_g (lw_at lw_m13 40 rfl) rfl
theorem q3027 : (Jvm.Cond.lays "FinalLinksModel" "FinalLinksModel" "got" "I") ∈ lw_all := lw_g (lw_at lw_m13 41 rfl) rfl
theorem q3028 : (Jvm.Cond.soleField "FinalLinksModel" "got") ∈ lw_all := lw_g (lw_at lw_m13 42 rfl) rfl
theorem q3029 : (Jvm.Cond.lays "FinalLinksModel" "FinalLinksModel" "lines" "I") ∈ lw_all := lw_g (lw_at lw_m13 43 rfl) rfl
theorem q3030 : (Jvm.Cond.soleField "FinalLinksModel" "lines") ∈ lw_all := lw_g (lw_at lw_m13 44 rfl) rfl
theorem q3031 : (Jvm.Cond.laysFinal "FinalLinksModel" "FinalLinksModel" "high" "[I") ∈ lw_all := lw_g (lw_at lw_m13 45 rfl) rfl
theorem q3032 : (Jvm.Cond.soleField "FinalLinksModel" "high") ∈ lw_all := lw_g (lw_at lw_m13 46 rfl) rfl
theorem q3033 : (Jvm.Cond.laysFinal "FinalLinksModel" "FinalLinksModel" "aheads" "[I") ∈ lw_all := lw_g (lw_at lw_m13 47 rfl) rfl
theorem q3034 : (Jvm.Cond.soleField "FinalLinksModel" "aheads") ∈ lw_all := lw_g (lw_at lw_m13 48 rfl) rfl
theorem q3035 : (Jvm.Cond.laysFinal "FinalLinksModel" "FinalLinksModel" "masks" "[I") ∈ lw_all := lw_g (lw_at lw_m13 49 rfl) rfl
theorem q3036 : (Jvm.Cond.soleField "FinalLinksModel" "masks") ∈ lw_all := lw_g (lw_at lw_m13 50 rfl) rfl
theorem q3037 : (Jvm.Cond.laysFinal "FinalLinksModel" "FinalLinksModel" "hefts" "[I") ∈ lw_all := lw_g (lw_at lw_m13 51 rfl) rfl
theorem q3038 : (Jvm.Cond.soleField "FinalLinksModel" "hefts") ∈ lw_all := lw_g (lw_at lw_m13 52 rfl) rfl
theorem q3039 : (Jvm.Cond.laysFinal "FinalLinksModel" "FinalLinksModel" "way" "[I") ∈ lw_all := lw_g (lw_at lw_m13 53 rfl) rfl
theorem q3040 : (Jvm.Cond.soleField "FinalLinksModel" "way") ∈ lw_all := lw_g (lw_at lw_m13 54 rfl) rfl
theorem q3041 : (Jvm.Cond.lays "FinalLinksModel" "FinalLinksModel" "just" "I") ∈ lw_all := lw_g (lw_at lw_m13 55 rfl) rfl
theorem q3042 : (Jvm.Cond.soleField "FinalLinksModel" "just") ∈ lw_all := lw_g (lw_at lw_m13 56 rfl) rfl
theorem q3043 : (Jvm.Cond.lays "FinalLinksModel" "FinalLinksModel" "finals" "I") ∈ lw_all := lw_g (lw_at lw_m13 57 rfl) rfl
theorem q3044 : (Jvm.Cond.soleField "FinalLinksModel" "finals") ∈ lw_all := lw_g (lw_at lw_m13 58 rfl) rfl
theorem q3045 : (Jvm.Cond.lays "FinalLinksModel" "FinalLinksModel" "offenders" "I") ∈ lw_all := lw_g (lw_at lw_m13 59 rfl) rfl
theorem q3046 : (Jvm.Cond.soleField "FinalLinksModel" "offenders") ∈ lw_all := lw_g (lw_at lw_m13 60 rfl) rfl
theorem q3047 : (Jvm.Cond.lays "FinalLinksModel" "FinalLinksModel" "base" "I") ∈ lw_all := lw_g (lw_at lw_m13 61 rfl) rfl
theorem q3048 : (Jvm.Cond.soleField "FinalLinksModel" "base") ∈ lw_all := lw_g (lw_at lw_m13 62 rfl) rfl
theorem q3049 : (Jvm.Cond.lays "FinalLinksModel" "FinalLinksModel" "wayMany" "I") ∈ lw_all := lw_g (lw_at lw_m13 63 rfl) rfl
theorem q3050 : (Jvm.Cond.soleField "FinalLinksModel" "wayMany") ∈ lw_all := lw_g (lw_at lw_m13 64 rfl) rfl
theorem q3051 : (Jvm.Cond.lays "FinalLinksModel" "FinalLinksModel" "linkMany" "I") ∈ lw_all := lw_g (lw_at lw_m13 65 rfl) rfl
theorem q3052 : (Jvm.Cond.soleField "FinalLinksModel" "linkMany") ∈ lw_all := lw_g (lw_at lw_m13 66 rfl) rfl
theorem q3053 : (Jvm.Cond.lays "FinalLinksModel" "FinalLinksModel" "countMany" "I") ∈ lw_all := lw_g (lw_at lw_m13 67 rfl) rfl
theorem q3054 : (Jvm.Cond.soleField "FinalLinksModel" "countMany") ∈ lw_all := lw_g (lw_at lw_m13 68 rfl) rfl
theorem q3055 : (Jvm.Cond.lays "FinalLinksModel" "FinalLinksModel" "pairMany" "I") ∈ lw_all := lw_g (lw_at lw_m13 69 rfl) rfl
theorem q3056 : (Jvm.Cond.soleField "FinalLinksModel" "pairMany") ∈ lw_all := lw_g (lw_at lw_m13 70 rfl) rfl
theorem q3057 : (Jvm.Cond.lays "FinalLinksModel" "FinalLinksModel" "isFresh" "Z") ∈ lw_all := lw_g (lw_at lw_m13 71 rfl) rfl
theorem q3058 : (Jvm.Cond.soleField "FinalLinksModel" "isFresh") ∈ lw_all := lw_g (lw_at lw_m13 72 rfl) rfl
theorem q3059 : (Jvm.Cond.laysFinal "FinalLinksModel" "FinalLinksModel" "undone" "[I") ∈ lw_all := lw_g (lw_at lw_m13 73 rfl) rfl
theorem q3060 : (Jvm.Cond.soleField "FinalLinksModel" "undone") ∈ lw_all := lw_g (lw_at lw_m13 74 rfl) rfl
theorem q3061 : (Jvm.Cond.laysFinal "FinalLinksModel" "FinalLinksModel" "before" "[I") ∈ lw_all := lw_g (lw_at lw_m13 75 rfl) rfl
theorem q3062 : (Jvm.Cond.soleField "FinalLinksModel" "before") ∈ lw_all := lw_g (lw_at lw_m13 76 rfl) rfl
theorem q3063 : (Jvm.Cond.laysFinal "FinalLinksModel" "FinalLinksModel" "first" "[I") ∈ lw_all := lw_g (lw_at lw_m13 77 rfl) rfl
theorem q3064 : (Jvm.Cond.soleField "FinalLinksModel" "first") ∈ lw_all := lw_g (lw_at lw_m13 78 rfl) rfl
theorem q3065 : (Jvm.Cond.lays "FinalLinksModel" "FinalLinksModel" "undoMany" "I") ∈ lw_all := lw_g (lw_at lw_m13 79 rfl) rfl
theorem q3066 : (Jvm.Cond.soleField "FinalLinksModel" "undoMany") ∈ lw_all := lw_g (lw_at lw_m13 80 rfl) rfl
theorem q3067 : (Jvm.Cond.lays "FinalLinksModel" "FinalLinksModel" "needSet" "I") ∈ lw_all := lw_g (lw_at lw_m13 81 rfl) rfl
theorem q3068 : (Jvm.Cond.soleField "FinalLinksModel" "needSet") ∈ lw_all := lw_g (lw_at lw_m13 82 rfl) rfl
theorem q3069 : (Jvm.Cond.lays "FinalLinksModel" "FinalLinksModel" "needed" "I") ∈ lw_all := lw_g (lw_at lw_m13 83 rfl) rfl
theorem q3070 : (Jvm.Cond.soleField "FinalLinksModel" "needed") ∈ lw_all := lw_g (lw_at lw_m13 84 rfl) rfl
theorem q3071 : (Jvm.Cond.lays "FinalLinksModel" "FinalLinksModel" "wayFrom" "I") ∈ lw_all := lw_g (lw_at lw_m13 85 rfl) rfl
theorem q3072 : (Jvm.Cond.soleField "FinalLinksModel" "wayFrom") ∈ lw_all := lw_g (lw_at lw_m13 86 rfl) rfl
theorem q3073 : (Jvm.Cond.laysFinal "FinalLinksModel" "FinalLinksModel" "text" "[B") ∈ lw_all := lw_g (lw_at lw_m13 87 rfl) rfl
theorem q3074 : (Jvm.Cond.soleField "FinalLinksModel" "text") ∈ lw_all := lw_g (lw_at lw_m13 88 rfl) rfl
theorem q3075 : (Jvm.Cond.lays "FinalLinksModel" "FinalLinksModel" "textMany" "I") ∈ lw_all := lw_g (lw_at lw_m13 89 rfl) rfl
theorem q3076 : (Jvm.Cond.soleField "FinalLinksModel" "textMany") ∈ lw_all := lw_g (lw_at lw_m13 90 rfl) rfl
theorem q3077 : (Jvm.Cond.lays "FinalLinksModel" "FinalLinksModel" "seed" "I") ∈ lw_all := lw_g (lw_at lw_m13 91 rfl) rfl
theorem q3078 : (Jvm.Cond.soleField "FinalLinksModel" "seed") ∈ lw_all := lw_g (lw_at lw_m13 92 rfl) rfl
theorem q3079 : (Jvm.Cond.lays "FinalLinksModel" "FinalLinksModel" "bookMany" "I") ∈ lw_all := lw_g (lw_at lw_m13 93 rfl) rfl
theorem q3080 : (Jvm.Cond.soleField "FinalLinksModel" "bookMany") ∈ lw_all := lw_g (lw_at lw_m13 94 rfl) rfl
theorem q3081 : (Jvm.Cond.laysFinal "FinalLinksModel" "FinalLinksModel" "toldAt" "[I") ∈ lw_all := lw_g (lw_at lw_m13 95 rfl) rfl
theorem q3082 : (Jvm.Cond.soleField "FinalLinksModel" "toldAt") ∈ lw_all := lw_g (lw_at lw_m13 96 rfl) rfl
theorem q3083 : (Jvm.Cond.lays "FinalLinksModel" "FinalLinksModel" "hasTold" "Z") ∈ lw_all := lw_g (lw_at lw_m13 97 rfl) rfl
theorem q3084 : (Jvm.Cond.soleField "FinalLinksModel" "hasTold") ∈ lw_all := lw_g (lw_at lw_m13 98 rfl) rfl
theorem q3085 : (Jvm.Cond.laysFinal "FinalLinksModel" "FinalLinksModel" "stack" "[I") ∈ lw_all := lw_g (lw_at lw_m13 99 rfl) rfl
theorem q3086 : (Jvm.Cond.soleField "FinalLinksModel" "stack") ∈ lw_all := lw_g (lw_at lw_m13 100 rfl) rfl
theorem q3087 : (Jvm.Cond.lays "FinalLinksModel" "FinalLinksModel" "codes" "I") ∈ lw_all := lw_g (lw_at lw_m13 101 rfl) rfl
theorem q3088 : (Jvm.Cond.soleField "FinalLinksModel" "codes") ∈ lw_all := lw_g (lw_at lw_m13 102 rfl) rfl
theorem q3089 : (Jvm.Cond.lays "FinalLinksModel" "FinalLinksModel" "ones" "I") ∈ lw_all := lw_g (lw_at lw_m13 103 rfl) rfl
theorem q3090 : (Jvm.Cond.soleField "FinalLinksModel" "ones") ∈ lw_all := lw_g (lw_at lw_m13 104 rfl) rfl
theorem q3091 : (Jvm.Cond.lays "FinalLinksModel" "FinalLinksModel" "top" "I") ∈ lw_all := lw_g (lw_at lw_m13 105 rfl) rfl
theorem q3092 : (Jvm.Cond.soleField "FinalLinksModel" "top") ∈ lw_all := lw_g (lw_at lw_m13 106 rfl) rfl
theorem q3093 : (Jvm.Cond.lays "FinalLinksModel" "FinalLinksModel" "deep" "I") ∈ lw_all := lw_g (lw_at lw_m13 107 rfl) rfl
theorem q3094 : (Jvm.Cond.soleField "FinalLinksModel" "deep") ∈ lw_all := lw_g (lw_at lw_m13 108 rfl) rfl
theorem q3095 : (Jvm.Cond.lays "FinalLinksModel" "FinalLinksModel" "isWhole" "Z") ∈ lw_all := lw_g (lw_at lw_m13 109 rfl) rfl
theorem q3096 : (Jvm.Cond.soleField "FinalLinksModel" "isWhole") ∈ lw_all := lw_g (lw_at lw_m13 110 rfl) rfl
theorem q3097 : (Jvm.Cond.laysFinal "FinalLinksModel" "FinalLinksModel" "truths" "[Z") ∈ lw_all := lw_g (lw_at lw_m13 111 rfl) rfl
theorem q3098 : (Jvm.Cond.soleField "FinalLinksModel" "truths") ∈ lw_all := lw_g (lw_at lw_m13 112 rfl) rfl
theorem q3099 : (Jvm.Cond.laysFinal "FinalLinksModel" "FinalLinksModel" "imaged" "[I") ∈ lw_all := lw_g (lw_at lw_m13 113 rfl) rfl
theorem q3100 : (Jvm.Cond.soleField "FinalLinksModel" "imaged") ∈ lw_all := lw_g (lw_at lw_m13 114 rfl) rfl
theorem q3101 : (Jvm.Cond.laysFinal "FinalLinksModel" "FinalLinksModel" "namesKept" "[J") ∈ lw_all := lw_g (lw_at lw_m13 115 rfl) rfl
theorem q3102 : (Jvm.Cond.soleField "FinalLinksModel" "namesKept") ∈ lw_all := lw_g (lw_at lw_m13 116 rfl) rfl
theorem q3103 : (Jvm.Cond.laysFinal "FinalLinksModel" "FinalLinksModel" "areKept" "[Z") ∈ lw_all := lw_g (lw_at lw_m13 117 rfl) rfl
theorem q3104 : (Jvm.Cond.soleField "FinalLinksModel" "areKept") ∈ lw_all := lw_g (lw_at lw_m13 118 rfl) rfl
theorem q3105 : (Jvm.Cond.superclass "FinalLinksModel" "java/lang/Object") ∈ lw_all := lw_g (lw_at lw_m13 119 rfl) rfl
theorem q3109 : (Jvm.Cond.instanceMethod ({ cls := "FinalLinksModel", name := "chain", desc := "()I" } : Jvm.MethodName)) ∈ lw_all := lw_g (lw_at lw_m13 123 rfl) rfl
theorem q3110 : (Jvm.Cond.selects "FinalLinksModel" ({ cls := "FinalLinksModel", name := "chain", desc := "()I" } : Jvm.MethodName) ({ cls := "FinalLinksModel", name := "chain", desc := "()I" } : Jvm.MethodName)) ∈ lw_all := lw_g (lw_at lw_m13 124 rfl) rfl
theorem q3111 : (Jvm.Cond.code ({ cls := "FinalLinksModel", name := "chain", desc := "()I" } : Jvm.MethodName) prog_25_method_27_code (2 : Nat) (Option.some Jvm.ClassFile.FieldType.int)) ∈ lw_all := lw_g (lw_at lw_m13 125 rfl) rfl
theorem q3112 : (Jvm.Cond.methodLink "FinalLinksModel" (230 : Nat) ({ cls := "FinalLinksModel", name := "taken", desc := "(I)V" } : Jvm.MethodName)) ∈ lw_all := lw_g (lw_at lw_m13 126 rfl) rfl
theorem q3113 : (Jvm.Cond.privateMethod ({ cls := "FinalLinksModel", name := "taken", desc := "(I)V" } : Jvm.MethodName)) ∈ lw_tbl := lw_at lw_m13 127 rfl
theorem q3114 : (Jvm.Cond.instanceMethod ({ cls := "FinalLinksModel", name := "taken", desc := "(I)V" } : Jvm.MethodName)) ∈ lw_all := lw_g (lw_at lw_m13 128 rfl) rfl
theorem q3115 : (Jvm.Cond.code ({ cls := "FinalLinksModel", name := "taken", desc := "(I)V" } : Jvm.MethodName) prog_25_method_6_code (2 : Nat) (Option.none : Option Jvm.ClassFile.FieldType)) ∈ lw_all := lw_g (lw_at lw_m13 129 rfl) rfl
theorem q3116 : (Jvm.Cond.methodLink "FinalLinksModel" (186 : Nat) ({ cls := "FinalLinksModel", name := "next", desc := "()V" } : Jvm.MethodName)) ∈ lw_all := lw_g (lw_at lw_m13 130 rfl) rfl
theorem q3117 : (Jvm.Cond.privateMethod ({ cls := "FinalLinksModel", name := "next", desc := "()V" } : Jvm.MethodName)) ∈ lw_tbl := lw_at lw_m13 131 rfl
theorem q3118 : (Jvm.Cond.instanceMethod ({ cls := "FinalLinksModel", name := "next", desc := "()V" } : Jvm.MethodName)) ∈ lw_all := lw_g (lw_at lw_m13 132 rfl) rfl
theorem q3119 : (Jvm.Cond.code ({ cls := "FinalLinksModel", name := "next", desc := "()V" } : Jvm.MethodName) prog_25_method_13_code (4 : Nat) (Option.none : Option Jvm.ClassFile.FieldType)) ∈ lw_all := lw_g (lw_at lw_m13 133 rfl) rfl
theorem q3120 : (Jvm.Cond.methodLink "FinalLinksModel" (147 : Nat) ({ cls := "FinalLinksModel", name := "peek", desc := "()I" } : Jvm.MethodName)) ∈ lw_all := lw_g (lw_at lw_m13 134 rfl) rfl
theorem q3121 : (Jvm.Cond.privateMethod ({ cls := "FinalLinksModel", name := "peek", desc := "()I" } : Jvm.MethodName)) ∈ lw_tbl := lw_at lw_m13 135 rfl
theorem q3122 : (Jvm.Cond.instanceMethod ({ cls := "FinalLinksModel", name := "peek", desc := "()I" } : Jvm.MethodName)) ∈ lw_all := lw_g (lw_at lw_m13 136 rfl) rfl
theorem q3123 : (Jvm.Cond.code ({ cls := "FinalLinksModel", name := "peek", desc := "()I" } : Jvm.MethodName) prog_25_method_10_code (1 : Nat) (Option.some Jvm.ClassFile.FieldType.int)) ∈ lw_all := lw_g (lw_at lw_m13 137 rfl) rfl
theorem q3124 : (Jvm.Cond.methodLink "FinalLinksModel" (160 : Nat) ({ cls := "FinalLinksModel", name := "isSmall", desc := "(I)Z" } : Jvm.MethodName)) ∈ lw_all := lw_g (lw_at lw_m13 138 rfl) rfl
theorem q3125 : (Jvm.Cond.static ({ cls := "FinalLinksModel", name := "isSmall", desc := "(I)Z" } : Jvm.MethodName)) ∈ lw_all := lw_g (lw_at lw_m13 139 rfl) rfl
theorem q3126 : (Jvm.Cond.code ({ cls := "FinalLinksModel", name := "isSmall", desc := "(I)Z" } : Jvm.MethodName) prog_25_method_11_code (1 : Nat) (Option.some Jvm.ClassFile.FieldType.boolean)) ∈ lw_all := lw_g (lw_at lw_m13 140 rfl) rfl
theorem q3127 : (Jvm.Cond.methodLink "FinalLinksModel" (164 : Nat) ({ cls := "FinalLinksModel", name := "isDigit", desc := "(I)Z" } : Jvm.MethodName)) ∈ lw_all := lw_g (lw_at lw_m13 141 rfl) rfl
theorem q3128 : (Jvm.Cond.static ({ cls := "FinalLinksModel", name := "isDigit", desc := "(I)Z" } : Jvm.MethodName)) ∈ lw_all := lw_g (lw_at lw_m13 142 rfl) rfl
theorem q3129 : (Jvm.Cond.code ({ cls := "FinalLinksModel", name := "isDigit", desc := "(I)Z" } : Jvm.MethodName) prog_25_method_12_code (1 : Nat) (Option.some Jvm.ClassFile.FieldType.boolean)) ∈ lw_all := lw_g (lw_at lw_m13 143 rfl) rfl
theorem q3130 : (Jvm.Cond.methodLink "FinalLinksModel" (233 : Nat) ({ cls := "FinalLinksModel", name := "readLine", desc := "()Z" } : Jvm.MethodName)) ∈ lw_all := lw_g (lw_at lw_m13 144 rfl) rfl
theorem q3131 : (Jvm.Cond.privateMethod ({ cls := "FinalLinksModel", name := "readLine", desc := "()Z" } : Jvm.MethodName)) ∈ lw_tbl := lw_at lw_m13 145 rfl
theorem q3132 : (Jvm.Cond.instanceMethod ({ cls := "FinalLinksModel", name := "readLine", desc := "()Z" } : Jvm.MethodName)) ∈ lw_all := lw_g (lw_at lw_m13 146 rfl) rfl
theorem q3133 : (Jvm.Cond.code ({ cls := "FinalLinksModel", name := "readLine", desc := "()Z" } : Jvm.MethodName) prog_25_method_26_code (1 : Nat) (Option.some Jvm.ClassFile.FieldType.boolean)) ∈ lw_all := lw_g (lw_at lw_m13 147 rfl) rfl
theorem q3134 : (Jvm.Cond.methodLink "FinalLinksModel" (214 : Nat) ({ cls := "FinalLinksModel", name := "isWord", desc := "(J)Z" } : Jvm.MethodName)) ∈ lw_all := lw_g (lw_at lw_m13 148 rfl) rfl
theorem q3135 : (Jvm.Cond.privateMethod ({ cls := "FinalLinksModel", name := "isWord", desc := "(J)Z" } : Jvm.MethodName)) ∈ lw_tbl := lw_at lw_m13 149 rfl
theorem q3136 : (Jvm.Cond.instanceMethod ({ cls := "FinalLinksModel", name := "isWord", desc := "(J)Z" } : Jvm.MethodName)) ∈ lw_all := lw_g (lw_at lw_m13 150 rfl) rfl
theorem q3137 : (Jvm.Cond.code ({ cls := "FinalLinksModel", name := "isWord", desc := "(J)Z" } : Jvm.MethodName) prog_25_method_15_code (3 : Nat) (Option.some Jvm.ClassFile.FieldType.boolean)) ∈ lw_all := lw_g (lw_at lw_m13 151 rfl) rfl
theorem q3138 : (Jvm.Cond.methodLink "FinalLinksModel" (221 : Nat) ({ cls := "FinalLinksModel", name := "readEpoch", desc := "()Z" } : Jvm.MethodName)) ∈ lw_all := lw_g (lw_at lw_m13 152 rfl) rfl
theorem q3139 : (Jvm.Cond.privateMethod ({ cls := "FinalLinksModel", name := "readEpoch", desc := "()Z" } : Jvm.MethodName)) ∈ lw_tbl := lw_at lw_m13 153 rfl
theorem q3140 : (Jvm.Cond.instanceMethod ({ cls := "FinalLinksModel", name := "readEpoch", desc := "()Z" } : Jvm.MethodName)) ∈ lw_all := lw_g (lw_at lw_m13 154 rfl) rfl
theorem q3141 : (Jvm.Cond.code ({ cls := "FinalLinksModel", name := "readEpoch", desc := "()Z" } : Jvm.MethodName) prog_25_method_23_code (1 : Nat) (Option.some Jvm.ClassFile.FieldType.boolean)) ∈ lw_all := lw_g (lw_at lw_m13 155 rfl) rfl
theorem q3142 : (Jvm.Cond.methodLink "FinalLinksModel" (183 : Nat) ({ cls := "FinalLinksModel", name := "bad", desc := "(I)Z" } : Jvm.MethodName)) ∈ lw_all := lw_g (lw_at lw_m13 156 rfl) rfl
theorem q3143 : (Jvm.Cond.privateMethod ({ cls := "FinalLinksModel", name := "bad", desc := "(I)Z" } : Jvm.MethodName)) ∈ lw_tbl := lw_at lw_m13 157 rfl
theorem q3144 : (Jvm.Cond.instanceMethod ({ cls := "FinalLinksModel", name := "bad", desc := "(I)Z" } : Jvm.MethodName)) ∈ lw_all := lw_g (lw_at lw_m13 158 rfl) rfl
theorem q3145 : (Jvm.Cond.code ({ cls := "FinalLinksModel", name := "bad", desc := "(I)Z" } : Jvm.MethodName) prog_25_method_14_code (2 : Nat) (Option.some Jvm.ClassFile.FieldType.boolean)) ∈ lw_all := lw_g (lw_at lw_m13 159 rfl) rfl
theorem q3146 : (Jvm.Cond.methodLink "FinalLinksModel" (207 : Nat) ({ cls := "FinalLinksModel", name := "takes", desc := "(II)Z" } : Jvm.MethodName)) ∈ lw_all := lw_g (lw_at lw_m13 160 rfl) rfl
theorem q3147 : (Jvm.Cond.privateMethod ({ cls := "FinalLinksModel", name := "takes", desc := "(II)Z" } : Jvm.MethodName)) ∈ lw_tbl := lw_at lw_m13 161 rfl
theorem q3148 : (Jvm.Cond.instanceMethod ({ cls := "FinalLinksModel", name := "takes", desc := "(II)Z" } : Jvm.MethodName)) ∈ lw_all := lw_g (lw_at lw_m13 162 rfl) rfl
theorem q3149 : (Jvm.Cond.code ({ cls := "FinalLinksModel", name := "takes", desc := "(II)Z" } : Jvm.MethodName) prog_25_method_19_code (3 : Nat) (Option.some Jvm.ClassFile.FieldType.boolean)) ∈ lw_all := lw_g (lw_at lw_m13 163 rfl) rfl
theorem q3150 : (Jvm.Cond.methodLink "FinalLinksModel" (189 : Nat) ({ cls := "FinalLinksModel", name := "isIn", desc := "(III)Z" } : Jvm.MethodName)) ∈ lw_all := lw_g (lw_at lw_m13 164 rfl) rfl
theorem q3151 : (Jvm.Cond.static ({ cls := "FinalLinksModel", name := "isIn", desc := "(III)Z" } : Jvm.MethodName)) ∈ lw_all := lw_g (lw_at lw_m13 165 rfl) rfl
theorem q3152 : (Jvm.Cond.code ({ cls := "FinalLinksModel", name := "isIn", desc := "(III)Z" } : Jvm.MethodName) prog_25_method_7_code (3 : Nat) (Option.some Jvm.ClassFile.FieldType.boolean)) ∈ lw_all := lw_g (lw_at lw_m13 166 rfl) rfl
theorem q3153 : (Jvm.Cond.methodLink "FinalLinksModel" (224 : Nat) ({ cls := "FinalLinksModel", name := "readVoter", desc := "()Z" } : Jvm.MethodName)) ∈ lw_all := lw_g (lw_at lw_m13 167 rfl) rfl
theorem q3154 : (Jvm.Cond.privateMethod ({ cls := "FinalLinksModel", name := "readVoter", desc := "()Z" } : Jvm.MethodName)) ∈ lw_tbl := lw_at lw_m13 168 rfl
theorem q3155 : (Jvm.Cond.instanceMethod ({ cls := "FinalLinksModel", name := "readVoter", desc := "()Z" } : Jvm.MethodName)) ∈ lw_all := lw_g (lw_at lw_m13 169 rfl) rfl
theorem q3156 : (Jvm.Cond.code ({ cls := "FinalLinksModel", name := "readVoter", desc := "()Z" } : Jvm.MethodName) prog_25_method_24_code (2 : Nat) (Option.some Jvm.ClassFile.FieldType.boolean)) ∈ lw_all := lw_g (lw_at lw_m13 170 rfl) rfl
theorem q3157 : (Jvm.Cond.methodLink "FinalLinksModel" (211 : Nat) ({ cls := "FinalLinksModel", name := "isNew", desc := "()Z" } : Jvm.MethodName)) ∈ lw_all := lw_g (lw_at lw_m13 171 rfl) rfl
theorem q3158 : (Jvm.Cond.privateMethod ({ cls := "FinalLinksModel", name := "isNew", desc := "()Z" } : Jvm.MethodName)) ∈ lw_tbl := lw_at lw_m13 172 rfl
theorem q3159 : (Jvm.Cond.instanceMethod ({ cls := "FinalLinksModel", name := "isNew", desc := "()Z" } : Jvm.MethodName)) ∈ lw_all := lw_g (lw_at lw_m13 173 rfl) rfl
theorem q3160 : (Jvm.Cond.code ({ cls := "FinalLinksModel", name := "isNew", desc := "()Z" } : Jvm.MethodName) prog_25_method_22_code (1 : Nat) (Option.some Jvm.ClassFile.FieldType.boolean)) ∈ lw_all := lw_g (lw_at lw_m13 174 rfl) rfl
theorem q3161 : (Jvm.Cond.methodLink "FinalLinksModel" (196 : Nat) ({ cls := "FinalLinksModel", name := "isName", desc := "()Z" } : Jvm.MethodName)) ∈ lw_all := lw_g (lw_at lw_m13 175 rfl) rfl
theorem q3162 : (Jvm.Cond.privateMethod ({ cls := "FinalLinksModel", name := "isName", desc := "()Z" } : Jvm.MethodName)) ∈ lw_tbl := lw_at lw_m13 176 rfl
theorem q3163 : (Jvm.Cond.instanceMethod ({ cls := "FinalLinksModel", name := "isName", desc := "()Z" } : Jvm.MethodName)) ∈ lw_all := lw_g (lw_at lw_m13 177 rfl) rfl
theorem q3164 : (Jvm.Cond.code ({ cls := "FinalLinksModel", name := "isName", desc := "()Z" } : Jvm.MethodName) prog_25_method_18_code (3 : Nat) (Option.some Jvm.ClassFile.FieldType.boolean)) ∈ lw_all := lw_g (lw_at lw_m13 178 rfl) rfl
theorem q3165 : (Jvm.Cond.methodLink "FinalLinksModel" (200 : Nat) ({ cls := "FinalLinksModel", name := "seek", desc := "(II)I" } : Jvm.MethodName)) ∈ lw_all := lw_g (lw_at lw_m13 179 rfl) rfl
theorem q3166 : (Jvm.Cond.privateMethod ({ cls := "FinalLinksModel", name := "seek", desc := "(II)I" } : Jvm.MethodName)) ∈ lw_tbl := lw_at lw_m13 180 rfl
theorem q3167 : (Jvm.Cond.instanceMethod ({ cls := "FinalLinksModel", name := "seek", desc := "(II)I" } : Jvm.MethodName)) ∈ lw_all := lw_g (lw_at lw_m13 181 rfl) rfl
theorem q3168 : (Jvm.Cond.code ({ cls := "FinalLinksModel", name := "seek", desc := "(II)I" } : Jvm.MethodName) prog_25_method_20_code (4 : Nat) (Option.some Jvm.ClassFile.FieldType.int)) ∈ lw_all := lw_g (lw_at lw_m13 182 rfl) rfl
theorem q3169 : (Jvm.Cond.methodLink "FinalLinksModel" (227 : Nat) ({ cls := "FinalLinksModel", name := "readBlock", desc := "()Z" } : Jvm.MethodName)) ∈ lw_all := lw_g (lw_at lw_m13 183 rfl) rfl
theorem q3170 : (Jvm.Cond.privateMethod ({ cls := "FinalLinksModel", name := "readBlock", desc := "()Z" } : Jvm.MethodName)) ∈ lw_tbl := lw_at lw_m13 184 rfl
theorem q3171 : (Jvm.Cond.instanceMethod ({ cls := "FinalLinksModel", name := "readBlock", desc := "()Z" } : Jvm.MethodName)) ∈ lw_all := lw_g (lw_at lw_m13 185 rfl) rfl
theorem q3172 : (Jvm.Cond.code ({ cls := "FinalLinksModel", name := "readBlock", desc := "()Z" } : Jvm.MethodName) prog_25_method_25_code (4 : Nat) (Option.some Jvm.ClassFile.FieldType.boolean)) ∈ lw_all := lw_g (lw_at lw_m13 186 rfl) rfl
theorem q3173 : (Jvm.Cond.methodLink "FinalLinksModel" (218 : Nat) ({ cls := "FinalLinksModel", name := "takesName", desc := "(II)Z" } : Jvm.MethodName)) ∈ lw_all := lw_g (lw_at lw_m13 187 rfl) rfl
theorem q3174 : (Jvm.Cond.privateMethod ({ cls := "FinalLinksModel", name := "takesName", desc := "(II)Z" } : Jvm.MethodName)) ∈ lw_tbl := lw_at lw_m13 188 rfl
theorem q3175 : (Jvm.Cond.instanceMethod ({ cls := "FinalLinksModel", name := "takesName", desc := "(II)Z" } : Jvm.MethodName)) ∈ lw_all := lw_g (lw_at lw_m13 189 rfl) rfl
theorem q3176 : (Jvm.Cond.code ({ cls := "FinalLinksModel", name := "takesName", desc := "(II)Z" } : Jvm.MethodName) prog_25_method_21_code (3 : Nat) (Option.some Jvm.ClassFile.FieldType.boolean)) ∈ lw_all := lw_g (lw_at lw_m13 190 rfl) rfl
theorem q3177 : (Jvm.Cond.methodLink "FinalLinksModel" (236 : Nat) ({ cls := "FinalLinksModel", name := "sign", desc := "(I)Z" } : Jvm.MethodName)) ∈ lw_all := lw_g (lw_at lw_m13 191 rfl) rfl
theorem q3178 : (Jvm.Cond.privateMethod ({ cls := "FinalLinksModel", name := "sign", desc := "(I)Z" } : Jvm.MethodName)) ∈ lw_tbl := lw_at lw_m13 192 rfl
theorem q3179 : (Jvm.Cond.instanceMethod ({ cls := "FinalLinksModel", name := "sign", desc := "(I)Z" } : Jvm.MethodName)) ∈ lw_all := lw_g (lw_at lw_m13 193 rfl) rfl
theorem q3180 : (Jvm.Cond.code ({ cls := "FinalLinksModel", name := "sign", desc := "(I)Z" } : Jvm.MethodName) prog_25_method_17_code (2 : Nat) (Option.some Jvm.ClassFile.FieldType.boolean)) ∈ lw_all := lw_g (lw_at lw_m13 194 rfl) rfl
theorem q3181 : (Jvm.Cond.methodLink "FinalLinksModel" (180 : Nat) ({ cls := "FinalLinksModel", name := "isSign", desc := "(I)Z" } : Jvm.MethodName)) ∈ lw_all := lw_g (lw_at lw_m13 195 rfl) rfl
theorem q3182 : (Jvm.Cond.privateMethod ({ cls := "FinalLinksModel", name := "isSign", desc := "(I)Z" } : Jvm.MethodName)) ∈ lw_tbl := lw_at lw_m13 196 rfl
theorem q3183 : (Jvm.Cond.instanceMethod ({ cls := "FinalLinksModel", name := "isSign", desc := "(I)Z" } : Jvm.MethodName)) ∈ lw_all := lw_g (lw_at lw_m13 197 rfl) rfl
theorem q3184 : (Jvm.Cond.code ({ cls := "FinalLinksModel", name := "isSign", desc := "(I)Z" } : Jvm.MethodName) prog_25_method_16_code (2 : Nat) (Option.some Jvm.ClassFile.FieldType.boolean)) ∈ lw_all := lw_g (lw_at lw_m13 198 rfl) rfl
theorem q3186 : (Jvm.Cond.instanceMethod ({ cls := "FinalLinksModel", name := "fault", desc := "()I" } : Jvm.MethodName)) ∈ lw_all := lw_g (lw_at lw_m13 200 rfl) rfl
theorem q3187 : (Jvm.Cond.selects "FinalLinksModel" ({ cls := "FinalLinksModel", name := "fault", desc := "()I" } : Jvm.MethodName) ({ cls := "FinalLinksModel", name := "fault", desc := "()I" } : Jvm.MethodName)) ∈ lw_all := lw_g (lw_at lw_m13 201 rfl) rfl
theorem q3188 : (Jvm.Cond.code ({ cls := "FinalLinksModel", name := "fault", desc := "()I" } : Jvm.MethodName) prog_25_method_28_code (1 : Nat) (Option.some Jvm.ClassFile.FieldType.int)) ∈ lw_all := lw_g (lw_at lw_m13 202 rfl) rfl
theorem q3190 : (Jvm.Cond.instanceMethod ({ cls := "FinalLinksModel", name := "block", desc := "(II)I" } : Jvm.MethodName)) ∈ lw_all := lw_g (lw_at lw_m13 204 rfl) rfl
theorem q3191 : (Jvm.Cond.selects "FinalLinksModel" ({ cls := "FinalLinksModel", name := "block", desc := "(II)I" } : Jvm.MethodName) ({ cls := "FinalLinksModel", name := "block", desc := "(II)I" } : Jvm.MethodName)) ∈ lw_all := lw_g (lw_at lw_m13 205 rfl) rfl
theorem q3192 : (Jvm.Cond.code ({ cls := "FinalLinksModel", name := "block", desc := "(II)I" } : Jvm.MethodName) prog_25_method_49_code (3 : Nat) (Option.some Jvm.ClassFile.FieldType.int)) ∈ lw_all := lw_g (lw_at lw_m13 206 rfl) rfl
theorem q3193 : (Jvm.Cond.methodLink "FinalLinksModel" (315 : Nat) ({ cls := "FinalLinksModel", name := "isBlock", desc := "(I)Z" } : Jvm.MethodName)) ∈ lw_all := lw_g (lw_at lw_m13 207 rfl) rfl
theorem q3194 : (Jvm.Cond.privateMethod ({ cls := "FinalLinksModel", name := "isBlock", desc := "(I)Z" } : Jvm.MethodName)) ∈ lw_tbl := lw_at lw_m13 208 rfl
theorem q3195 : (Jvm.Cond.instanceMethod ({ cls := "FinalLinksModel", name := "isBlock", desc := "(I)Z" } : Jvm.MethodName)) ∈ lw_all := lw_g (lw_at lw_m13 209 rfl) rfl
theorem q3196 : (Jvm.Cond.code ({ cls := "FinalLinksModel", name := "isBlock", desc := "(I)Z" } : Jvm.MethodName) prog_25_method_29_code (2 : Nat) (Option.some Jvm.ClassFile.FieldType.boolean)) ∈ lw_all := lw_g (lw_at lw_m13 210 rfl) rfl
theorem q3197 : (Jvm.Cond.methodLink "FinalLinksModel" (318 : Nat) ({ cls := "FinalLinksModel", name := "throwsIf", desc := "(Z)Z" } : Jvm.MethodName)) ∈ lw_all := lw_g (lw_at lw_m13 211 rfl) rfl
theorem q3198 : (Jvm.Cond.privateMethod ({ cls := "FinalLinksModel", name := "throwsIf", desc := "(Z)Z" } : Jvm.MethodName)) ∈ lw_tbl := lw_at lw_m13 212 rfl
theorem q3199 : (Jvm.Cond.instanceMethod ({ cls := "FinalLinksModel", name := "throwsIf", desc := "(Z)Z" } : Jvm.MethodName)) ∈ lw_all := lw_g (lw_at lw_m13 213 rfl) rfl
theorem q3200 : (Jvm.Cond.code ({ cls := "FinalLinksModel", name := "throwsIf", desc := "(Z)Z" } : Jvm.MethodName) prog_25_method_2_code (2 : Nat) (Option.some Jvm.ClassFile.FieldType.boolean)) ∈ lw_all := lw_g (lw_at lw_m13 214 rfl) rfl
theorem q3201 : (Jvm.Cond.methodLink "FinalLinksModel" (322 : Nat) ({ cls := "FinalLinksModel", name := "lays", desc := "()V" } : Jvm.MethodName)) ∈ lw_all := lw_g (lw_at lw_m13 215 rfl) rfl
theorem q3202 : (Jvm.Cond.privateMethod ({ cls := "FinalLinksModel", name := "lays", desc := "()V" } : Jvm.MethodName)) ∈ lw_tbl := lw_at lw_m13 216 rfl
theorem q3203 : (Jvm.Cond.instanceMethod ({ cls := "FinalLinksModel", name := "lays", desc := "()V" } : Jvm.MethodName)) ∈ lw_all := lw_g (lw_at lw_m13 217 rfl) rfl
theorem q3204 : (Jvm.Cond.code ({ cls := "FinalLinksModel", name := "lays", desc := "()V" } : Jvm.MethodName) prog_25_method_46_code (1 : Nat) (Option.none : Option Jvm.ClassFile.FieldType)) ∈ lw_all := lw_g (lw_at lw_m13 218 rfl) rfl
theorem q3205 : (Jvm.Cond.methodLink "FinalLinksModel" (303 : Nat) ({ cls := "FinalLinksModel", name := "laysBlocks", desc := "()V" } : Jvm.MethodName)) ∈ lw_all := lw_g (lw_at lw_m13 219 rfl) rfl
theorem q3206 : (Jvm.Cond.privateMethod ({ cls := "FinalLinksModel", name := "laysBlocks", desc := "()V" } : Jvm.MethodName)) ∈ lw_tbl := lw_at lw_m13 220 rfl
theorem q3207 : (Jvm.Cond.instanceMethod ({ cls := "FinalLinksModel", name := "laysBlocks", desc := "()V" } : Jvm.MethodName)) ∈ lw_all := lw_g (lw_at lw_m13 221 rfl) rfl
theorem q3208 : (Jvm.Cond.code ({ cls := "FinalLinksModel", name := "laysBlocks", desc := "()V" } : Jvm.MethodName) prog_25_method_34_code (3 : Nat) (Option.none : Option Jvm.ClassFile.FieldType)) ∈ lw_all := lw_g (lw_at lw_m13 222 rfl) rfl
theorem q3209 : (Jvm.Cond.methodLink "FinalLinksModel" (306 : Nat) ({ cls := "FinalLinksModel", name := "laysVotes", desc := "()V" } : Jvm.MethodName)) ∈ lw_all := lw_g (lw_at lw_m13 223 rfl) rfl
theorem q3210 : (Jvm.Cond.privateMethod ({ cls := "FinalLinksModel", name := "laysVotes", desc := "()V" } : Jvm.MethodName)) ∈ lw_tbl := lw_at lw_m13 224 rfl
theorem q3211 : (Jvm.Cond.instanceMethod ({ cls := "FinalLinksModel", name := "laysVotes", desc := "()V" } : Jvm.MethodName)) ∈ lw_all := lw_g (lw_at lw_m13 225 rfl) rfl
theorem q3212 : (Jvm.Cond.code ({ cls := "FinalLinksModel", name := "laysVotes", desc := "()V" } : Jvm.MethodName) prog_25_method_42_code (4 : Nat) (Option.none : Option Jvm.ClassFile.FieldType)) ∈ lw_all := lw_g (lw_at lw_m13 226 rfl) rfl
theorem q3213 : (Jvm.Cond.methodLink "FinalLinksModel" (279 : Nat) ({ cls := "FinalLinksModel", name := "offence", desc := "(II)I" } : Jvm.MethodName)) ∈ lw_all := lw_g (lw_at lw_m13 227 rfl) rfl
theorem q3214 : (Jvm.Cond.privateMethod ({ cls := "FinalLinksModel", name := "offence", desc := "(II)I" } : Jvm.MethodName)) ∈ lw_tbl := lw_at lw_m13 228 rfl
theorem q3215 : (Jvm.Cond.instanceMethod ({ cls := "FinalLinksModel", name := "offence", desc := "(II)I" } : Jvm.MethodName)) ∈ lw_all := lw_g (lw_at lw_m13 229 rfl) rfl
theorem q3216 : (Jvm.Cond.code ({ cls := "FinalLinksModel", name := "offence", desc := "(II)I" } : Jvm.MethodName) prog_25_method_41_code (3 : Nat) (Option.some Jvm.ClassFile.FieldType.int)) ∈ lw_all := lw_g (lw_at lw_m13 230 rfl) rfl
theorem q3217 : (Jvm.Cond.methodLink "FinalLinksModel" (266 : Nat) ({ cls := "FinalLinksModel", name := "offenceBy", desc := "(IIII)I" } : Jvm.MethodName)) ∈ lw_all := lw_g (lw_at lw_m13 231 rfl) rfl
theorem q3218 : (Jvm.Cond.privateMethod ({ cls := "FinalLinksModel", name := "offenceBy", desc := "(IIII)I" } : Jvm.MethodName)) ∈ lw_tbl := lw_at lw_m13 232 rfl
theorem q3219 : (Jvm.Cond.instanceMethod ({ cls := "FinalLinksModel", name := "offenceBy", desc := "(IIII)I" } : Jvm.MethodName)) ∈ lw_all := lw_g (lw_at lw_m13 233 rfl) rfl
theorem q3220 : (Jvm.Cond.code ({ cls := "FinalLinksModel", name := "offenceBy", desc := "(IIII)I" } : Jvm.MethodName) prog_25_method_40_code (6 : Nat) (Option.some Jvm.ClassFile.FieldType.int)) ∈ lw_all := lw_g (lw_at lw_m13 234 rfl) rfl
theorem q3221 : (Jvm.Cond.methodLink "FinalLinksModel" (249 : Nat) ({ cls := "FinalLinksModel", name := "level", desc := "(I)I" } : Jvm.MethodName)) ∈ lw_all := lw_g (lw_at lw_m13 235 rfl) rfl
theorem q3222 : (Jvm.Cond.privateMethod ({ cls := "FinalLinksModel", name := "level", desc := "(I)I" } : Jvm.MethodName)) ∈ lw_tbl := lw_at lw_m13 236 rfl
theorem q3223 : (Jvm.Cond.instanceMethod ({ cls := "FinalLinksModel", name := "level", desc := "(I)I" } : Jvm.MethodName)) ∈ lw_all := lw_g (lw_at lw_m13 237 rfl) rfl
theorem q3224 : (Jvm.Cond.code ({ cls := "FinalLinksModel", name := "level", desc := "(I)I" } : Jvm.MethodName) prog_25_method_32_code (2 : Nat) (Option.some Jvm.ClassFile.FieldType.int)) ∈ lw_all := lw_g (lw_at lw_m13 238 rfl) rfl
theorem q3225 : (Jvm.Cond.methodLink "FinalLinksModel" (309 : Nat) ({ cls := "FinalLinksModel", name := "laysJust", desc := "()V" } : Jvm.MethodName)) ∈ lw_all := lw_g (lw_at lw_m13 239 rfl) rfl
theorem q3226 : (Jvm.Cond.privateMethod ({ cls := "FinalLinksModel", name := "laysJust", desc := "()V" } : Jvm.MethodName)) ∈ lw_tbl := lw_at lw_m14 0 rfl
theorem q3227 : (Jvm.Cond.instanceMethod ({ cls := "FinalLinksModel", name := "laysJust", desc := "()V" } : Jvm.MethodName)) ∈ lw_all := lw_g (lw_at lw_m14 1 rfl) rfl
theorem q3228 : (Jvm.Cond.code ({ cls := "FinalLinksModel", name := "laysJust", desc := "()V" } : Jvm.MethodName) prog_25_method_43_code (5 : Nat) (Option.none : Option Jvm.ClassFile.FieldType)) ∈ lw_all := lw_g (lw_at lw_m14 2 rfl) rfl
theorem q3229 : (Jvm.Cond.methodLink "FinalLinksModel" (291 : Nat) ({ cls := "FinalLinksModel", name := "counts", desc := "(II)Z" } : Jvm.MethodName)) ∈ lw_all := lw_g (lw_at lw_m14 3 rfl) rfl
theorem q3230 : (Jvm.Cond.privateMethod ({ cls := "FinalLinksModel", name := "counts", desc := "(II)Z" } : Jvm.MethodName)) ∈ lw_tbl := lw_at lw_m14 4 rfl
theorem q3231 : (Jvm.Cond.instanceMethod ({ cls := "FinalLinksModel", name := "counts", desc := "(II)Z" } : Jvm.MethodName)) ∈ lw_all := lw_g (lw_at lw_m14 5 rfl) rfl
theorem q3232 : (Jvm.Cond.code ({ cls := "FinalLinksModel", name := "counts", desc := "(II)Z" } : Jvm.MethodName) prog_25_method_39_code (3 : Nat) (Option.some Jvm.ClassFile.FieldType.boolean)) ∈ lw_all := lw_g (lw_at lw_m14 6 rfl) rfl
theorem q3233 : (Jvm.Cond.methodLink "FinalLinksModel" (263 : Nat) ({ cls := "FinalLinksModel", name := "isEnough", desc := "(III)Z" } : Jvm.MethodName)) ∈ lw_all := lw_g (lw_at lw_m14 7 rfl) rfl
theorem q3234 : (Jvm.Cond.privateMethod ({ cls := "FinalLinksModel", name := "isEnough", desc := "(III)Z" } : Jvm.MethodName)) ∈ lw_tbl := lw_at lw_m14 8 rfl
theorem q3235 : (Jvm.Cond.instanceMethod ({ cls := "FinalLinksModel", name := "isEnough", desc := "(III)Z" } : Jvm.MethodName)) ∈ lw_all := lw_g (lw_at lw_m14 9 rfl) rfl
theorem q3236 : (Jvm.Cond.code ({ cls := "FinalLinksModel", name := "isEnough", desc := "(III)Z" } : Jvm.MethodName) prog_25_method_38_code (5 : Nat) (Option.some Jvm.ClassFile.FieldType.boolean)) ∈ lw_all := lw_g (lw_at lw_m14 10 rfl) rfl
theorem q3237 : (Jvm.Cond.methodLink "FinalLinksModel" (260 : Nat) ({ cls := "FinalLinksModel", name := "sum", desc := "(III)I" } : Jvm.MethodName)) ∈ lw_all := lw_g (lw_at lw_m14 11 rfl) rfl
theorem q3238 : (Jvm.Cond.privateMethod ({ cls := "FinalLinksModel", name := "sum", desc := "(III)I" } : Jvm.MethodName)) ∈ lw_tbl := lw_at lw_m14 12 rfl
theorem q3239 : (Jvm.Cond.instanceMethod ({ cls := "FinalLinksModel", name := "sum", desc := "(III)I" } : Jvm.MethodName)) ∈ lw_all := lw_g (lw_at lw_m14 13 rfl) rfl
theorem q3240 : (Jvm.Cond.code ({ cls := "FinalLinksModel", name := "sum", desc := "(III)I" } : Jvm.MethodName) prog_25_method_37_code (6 : Nat) (Option.some Jvm.ClassFile.FieldType.int)) ∈ lw_all := lw_g (lw_at lw_m14 14 rfl) rfl
theorem q3241 : (Jvm.Cond.methodLink "FinalLinksModel" (246 : Nat) ({ cls := "FinalLinksModel", name := "bitOf", desc := "(II)Z" } : Jvm.MethodName)) ∈ lw_all := lw_g (lw_at lw_m14 15 rfl) rfl
theorem q3242 : (Jvm.Cond.static ({ cls := "FinalLinksModel", name := "bitOf", desc := "(II)Z" } : Jvm.MethodName)) ∈ lw_all := lw_g (lw_at lw_m14 16 rfl) rfl
theorem q3243 : (Jvm.Cond.code ({ cls := "FinalLinksModel", name := "bitOf", desc := "(II)Z" } : Jvm.MethodName) prog_25_method_8_code (2 : Nat) (Option.some Jvm.ClassFile.FieldType.boolean)) ∈ lw_all := lw_g (lw_at lw_m14 17 rfl) rfl
theorem q3244 : (Jvm.Cond.methodLink "FinalLinksModel" (256 : Nat) ({ cls := "FinalLinksModel", name := "weightFor", desc := "(III)I" } : Jvm.MethodName)) ∈ lw_all := lw_g (lw_at lw_m14 18 rfl) rfl
theorem q3245 : (Jvm.Cond.privateMethod ({ cls := "FinalLinksModel", name := "weightFor", desc := "(III)I" } : Jvm.MethodName)) ∈ lw_tbl := lw_at lw_m14 19 rfl
theorem q3246 : (Jvm.Cond.instanceMethod ({ cls := "FinalLinksModel", name := "weightFor", desc := "(III)I" } : Jvm.MethodName)) ∈ lw_all := lw_g (lw_at lw_m14 20 rfl) rfl
theorem q3247 : (Jvm.Cond.code ({ cls := "FinalLinksModel", name := "weightFor", desc := "(III)I" } : Jvm.MethodName) prog_25_method_36_code (6 : Nat) (Option.some Jvm.ClassFile.FieldType.int)) ∈ lw_all := lw_g (lw_at lw_m14 21 rfl) rfl
theorem q3248 : (Jvm.Cond.methodLink "FinalLinksModel" (253 : Nat) ({ cls := "FinalLinksModel", name := "weightBy", desc := "(II)I" } : Jvm.MethodName)) ∈ lw_all := lw_g (lw_at lw_m14 22 rfl) rfl
theorem q3249 : (Jvm.Cond.privateMethod ({ cls := "FinalLinksModel", name := "weightBy", desc := "(II)I" } : Jvm.MethodName)) ∈ lw_tbl := lw_at lw_m14 23 rfl
theorem q3250 : (Jvm.Cond.instanceMethod ({ cls := "FinalLinksModel", name := "weightBy", desc := "(II)I" } : Jvm.MethodName)) ∈ lw_all := lw_g (lw_at lw_m14 24 rfl) rfl
theorem q3251 : (Jvm.Cond.code ({ cls := "FinalLinksModel", name := "weightBy", desc := "(II)I" } : Jvm.MethodName) prog_25_method_35_code (4 : Nat) (Option.some Jvm.ClassFile.FieldType.int)) ∈ lw_all := lw_g (lw_at lw_m14 25 rfl) rfl
theorem q3252 : (Jvm.Cond.methodLink "FinalLinksModel" (312 : Nat) ({ cls := "FinalLinksModel", name := "laysWay", desc := "()V" } : Jvm.MethodName)) ∈ lw_all := lw_g (lw_at lw_m14 26 rfl) rfl
theorem q3253 : (Jvm.Cond.privateMethod ({ cls := "FinalLinksModel", name := "laysWay", desc := "()V" } : Jvm.MethodName)) ∈ lw_tbl := lw_at lw_m14 27 rfl
theorem q3254 : (Jvm.Cond.instanceMethod ({ cls := "FinalLinksModel", name := "laysWay", desc := "()V" } : Jvm.MethodName)) ∈ lw_all := lw_g (lw_at lw_m14 28 rfl) rfl
theorem q3255 : (Jvm.Cond.code ({ cls := "FinalLinksModel", name := "laysWay", desc := "()V" } : Jvm.MethodName) prog_25_method_44_code (4 : Nat) (Option.none : Option Jvm.ClassFile.FieldType)) ∈ lw_all := lw_g (lw_at lw_m14 29 rfl) rfl
theorem q3256 : (Jvm.Cond.methodLink "FinalLinksModel" (300 : Nat) ({ cls := "FinalLinksModel", name := "bestOn", desc := "(I)I" } : Jvm.MethodName)) ∈ lw_all := lw_g (lw_at lw_m14 30 rfl) rfl
theorem q3257 : (Jvm.Cond.privateMethod ({ cls := "FinalLinksModel", name := "bestOn", desc := "(I)I" } : Jvm.MethodName)) ∈ lw_tbl := lw_at lw_m14 31 rfl
theorem q3258 : (Jvm.Cond.instanceMethod ({ cls := "FinalLinksModel", name := "bestOn", desc := "(I)I" } : Jvm.MethodName)) ∈ lw_all := lw_g (lw_at lw_m14 32 rfl) rfl
theorem q3259 : (Jvm.Cond.code ({ cls := "FinalLinksModel", name := "bestOn", desc := "(I)I" } : Jvm.MethodName) prog_25_method_45_code (4 : Nat) (Option.some Jvm.ClassFile.FieldType.int)) ∈ lw_all := lw_g (lw_at lw_m14 33 rfl) rfl
theorem q3260 : (Jvm.Cond.methodLink "FinalLinksModel" (325 : Nat) ({ cls := "FinalLinksModel", name := "isPoint", desc := "(I)Z" } : Jvm.MethodName)) ∈ lw_all := lw_g (lw_at lw_m14 34 rfl) rfl
theorem q3261 : (Jvm.Cond.privateMethod ({ cls := "FinalLinksModel", name := "isPoint", desc := "(I)Z" } : Jvm.MethodName)) ∈ lw_tbl := lw_at lw_m14 35 rfl
theorem q3262 : (Jvm.Cond.instanceMethod ({ cls := "FinalLinksModel", name := "isPoint", desc := "(I)Z" } : Jvm.MethodName)) ∈ lw_all := lw_g (lw_at lw_m14 36 rfl) rfl
theorem q3263 : (Jvm.Cond.code ({ cls := "FinalLinksModel", name := "isPoint", desc := "(I)Z" } : Jvm.MethodName) prog_25_method_31_code (2 : Nat) (Option.some Jvm.ClassFile.FieldType.boolean)) ∈ lw_all := lw_g (lw_at lw_m14 37 rfl) rfl
theorem q3264 : (Jvm.Cond.methodLink "FinalLinksModel" (328 : Nat) ({ cls := "FinalLinksModel", name := "on", desc := "(I)I" } : Jvm.MethodName)) ∈ lw_all := lw_g (lw_at lw_m14 38 rfl) rfl
theorem q3265 : (Jvm.Cond.privateMethod ({ cls := "FinalLinksModel", name := "on", desc := "(I)I" } : Jvm.MethodName)) ∈ lw_tbl := lw_at lw_m14 39 rfl
theorem q3266 : (Jvm.Cond.instanceMethod ({ cls := "FinalLinksModel", name := "on", desc := "(I)I" } : Jvm.MethodName)) ∈ lw_all := lw_g (lw_at lw_m14 40 rfl) rfl
theorem q3267 : (Jvm.Cond.code ({ cls := "FinalLinksModel", name := "on", desc := "(I)I" } : Jvm.MethodName) prog_25_method_47_code (4 : Nat) (Option.some Jvm.ClassFile.FieldType.int)) ∈ lw_all := lw_g (lw_at lw_m14 41 rfl) rfl
theorem q3268 : (Jvm.Cond.methodLink "FinalLinksModel" (331 : Nat) ({ cls := "FinalLinksModel", name := "truth", desc := "(Z)I" } : Jvm.MethodName)) ∈ lw_all := lw_g (lw_at lw_m14 42 rfl) rfl
theorem q3269 : (Jvm.Cond.static ({ cls := "FinalLinksModel", name := "truth", desc := "(Z)I" } : Jvm.MethodName)) ∈ lw_all := lw_g (lw_at lw_m14 43 rfl) rfl
theorem q3270 : (Jvm.Cond.code ({ cls := "FinalLinksModel", name := "truth", desc := "(Z)I" } : Jvm.MethodName) prog_25_method_48_code (1 : Nat) (Option.some Jvm.ClassFile.FieldType.int)) ∈ lw_all := lw_g (lw_at lw_m14 44 rfl) rfl
theorem q3272 : (Jvm.Cond.instanceMethod ({ cls := "FinalLinksModel", name := "ahead", desc := "(II)I" } : Jvm.MethodName)) ∈ lw_all := lw_g (lw_at lw_m14 46 rfl) rfl
theorem q3273 : (Jvm.Cond.selects "FinalLinksModel" ({ cls := "FinalLinksModel", name := "ahead", desc := "(II)I" } : Jvm.MethodName) ({ cls := "FinalLinksModel", name := "ahead", desc := "(II)I" } : Jvm.MethodName)) ∈ lw_all := lw_g (lw_at lw_m14 47 rfl) rfl
theorem q3274 : (Jvm.Cond.code ({ cls := "FinalLinksModel", name := "ahead", desc := "(II)I" } : Jvm.MethodName) prog_25_method_50_code (3 : Nat) (Option.some Jvm.ClassFile.FieldType.int)) ∈ lw_all := lw_g (lw_at lw_m14 48 rfl) rfl
theorem q3275 : (Jvm.Cond.methodLink "FinalLinksModel" (335 : Nat) ({ cls := "FinalLinksModel", name := "isAhead", desc := "(II)Z" } : Jvm.MethodName)) ∈ lw_all := lw_g (lw_at lw_m14 49 rfl) rfl
theorem q3276 : (Jvm.Cond.privateMethod ({ cls := "FinalLinksModel", name := "isAhead", desc := "(II)Z" } : Jvm.MethodName)) ∈ lw_tbl := lw_at lw_m14 50 rfl
theorem q3277 : (Jvm.Cond.instanceMethod ({ cls := "FinalLinksModel", name := "isAhead", desc := "(II)Z" } : Jvm.MethodName)) ∈ lw_all := lw_g (lw_at lw_m14 51 rfl) rfl
theorem q3278 : (Jvm.Cond.code ({ cls := "FinalLinksModel", name := "isAhead", desc := "(II)Z" } : Jvm.MethodName) prog_25_method_33_code (3 : Nat) (Option.some Jvm.ClassFile.FieldType.boolean)) ∈ lw_all := lw_g (lw_at lw_m14 52 rfl) rfl
theorem q3280 : (Jvm.Cond.instanceMethod ({ cls := "FinalLinksModel", name := "fork", desc := "(II)I" } : Jvm.MethodName)) ∈ lw_all := lw_g (lw_at lw_m14 54 rfl) rfl
theorem q3281 : (Jvm.Cond.selects "FinalLinksModel" ({ cls := "FinalLinksModel", name := "fork", desc := "(II)I" } : Jvm.MethodName) ({ cls := "FinalLinksModel", name := "fork", desc := "(II)I" } : Jvm.MethodName)) ∈ lw_all := lw_g (lw_at lw_m14 55 rfl) rfl
theorem q3282 : (Jvm.Cond.code ({ cls := "FinalLinksModel", name := "fork", desc := "(II)I" } : Jvm.MethodName) prog_25_method_51_code (6 : Nat) (Option.some Jvm.ClassFile.FieldType.int)) ∈ lw_all := lw_g (lw_at lw_m14 56 rfl) rfl
theorem q3284 : (Jvm.Cond.instanceMethod ({ cls := "FinalLinksModel", name := "weight", desc := "(II)I" } : Jvm.MethodName)) ∈ lw_all := lw_g (lw_at lw_m14 58 rfl) rfl
theorem q3285 : (Jvm.Cond.selects "FinalLinksModel" ({ cls := "FinalLinksModel", name := "weight", desc := "(II)I" } : Jvm.MethodName) ({ cls := "FinalLinksModel", name := "weight", desc := "(II)I" } : Jvm.MethodName)) ∈ lw_all := lw_g (lw_at lw_m14 59 rfl) rfl
theorem q3286 : (Jvm.Cond.code ({ cls := "FinalLinksModel", name := "weight", desc := "(II)I" } : Jvm.MethodName) prog_25_method_52_code (3 : Nat) (Option.some Jvm.ClassFile.FieldType.int)) ∈ lw_all := lw_g (lw_at lw_m14 60 rfl) rfl
theorem q3287 : (Jvm.Cond.methodLink "FinalLinksModel" (338 : Nat) ({ cls := "FinalLinksModel", name := "isVoter", desc := "(I)Z" } : Jvm.MethodName)) ∈ lw_all := lw_g (lw_at lw_m14 61 rfl) rfl
theorem q3288 : (Jvm.Cond.privateMethod ({ cls := "FinalLinksModel", name := "isVoter", desc := "(I)Z" } : Jvm.MethodName)) ∈ lw_tbl := lw_at lw_m14 62 rfl
theorem q3289 : (Jvm.Cond.instanceMethod ({ cls := "FinalLinksModel", name := "isVoter", desc := "(I)Z" } : Jvm.MethodName)) ∈ lw_all := lw_g (lw_at lw_m14 63 rfl) rfl
theorem q3290 : (Jvm.Cond.code ({ cls := "FinalLinksModel", name := "isVoter", desc := "(I)Z" } : Jvm.MethodName) prog_25_method_30_code (2 : Nat) (Option.some Jvm.ClassFile.FieldType.boolean)) ∈ lw_all := lw_g (lw_at lw_m14 64 rfl) rfl
theorem q3292 : (Jvm.Cond.instanceMethod ({ cls := "FinalLinksModel", name := "voter", desc := "(II)I" } : Jvm.MethodName)) ∈ lw_all := lw_g (lw_at lw_m14 66 rfl) rfl
theorem q3293 : (Jvm.Cond.selects "FinalLinksModel" ({ cls := "FinalLinksModel", name := "voter", desc := "(II)I" } : Jvm.MethodName) ({ cls := "FinalLinksModel", name := "voter", desc := "(II)I" } : Jvm.MethodName)) ∈ lw_all := lw_g (lw_at lw_m14 67 rfl) rfl
theorem q3294 : (Jvm.Cond.code ({ cls := "FinalLinksModel", name := "voter", desc := "(II)I" } : Jvm.MethodName) prog_25_method_54_code (3 : Nat) (Option.some Jvm.ClassFile.FieldType.int)) ∈ lw_all := lw_g (lw_at lw_m14 68 rfl) rfl
theorem q3295 : (Jvm.Cond.methodLink "FinalLinksModel" (341 : Nat) ({ cls := "FinalLinksModel", name := "votesOf", desc := "(I)I" } : Jvm.MethodName)) ∈ lw_all := lw_g (lw_at lw_m14 69 rfl) rfl
theorem q3296 : (Jvm.Cond.privateMethod ({ cls := "FinalLinksModel", name := "votesOf", desc := "(I)I" } : Jvm.MethodName)) ∈ lw_tbl := lw_at lw_m14 70 rfl
theorem q3297 : (Jvm.Cond.instanceMethod ({ cls := "FinalLinksModel", name := "votesOf", desc := "(I)I" } : Jvm.MethodName)) ∈ lw_all := lw_g (lw_at lw_m14 71 rfl) rfl
theorem q3298 : (Jvm.Cond.code ({ cls := "FinalLinksModel", name := "votesOf", desc := "(I)I" } : Jvm.MethodName) prog_25_method_53_code (4 : Nat) (Option.some Jvm.ClassFile.FieldType.int)) ∈ lw_all := lw_g (lw_at lw_m14 72 rfl) rfl
theorem q3300 : (Jvm.Cond.instanceMethod ({ cls := "FinalLinksModel", name := "vote", desc := "(II)I" } : Jvm.MethodName)) ∈ lw_all := lw_g (lw_at lw_m14 74 rfl) rfl
theorem q3301 : (Jvm.Cond.selects "FinalLinksModel" ({ cls := "FinalLinksModel", name := "vote", desc := "(II)I" } : Jvm.MethodName) ({ cls := "FinalLinksModel", name := "vote", desc := "(II)I" } : Jvm.MethodName)) ∈ lw_all := lw_g (lw_at lw_m14 75 rfl) rfl
theorem q3302 : (Jvm.Cond.code ({ cls := "FinalLinksModel", name := "vote", desc := "(II)I" } : Jvm.MethodName) prog_25_method_55_code (3 : Nat) (Option.some Jvm.ClassFile.FieldType.int)) ∈ lw_all := lw_g (lw_at lw_m14 76 rfl) rfl
theorem q3304 : (Jvm.Cond.instanceMethod ({ cls := "FinalLinksModel", name := "link", desc := "(III)I" } : Jvm.MethodName)) ∈ lw_all := lw_g (lw_at lw_m14 78 rfl) rfl
theorem q3305 : (Jvm.Cond.selects "FinalLinksModel" ({ cls := "FinalLinksModel", name := "link", desc := "(III)I" } : Jvm.MethodName) ({ cls := "FinalLinksModel", name := "link", desc := "(III)I" } : Jvm.MethodName)) ∈ lw_all := lw_g (lw_at lw_m14 79 rfl) rfl
theorem q3306 : (Jvm.Cond.code ({ cls := "FinalLinksModel", name := "link", desc := "(III)I" } : Jvm.MethodName) prog_25_method_57_code (5 : Nat) (Option.some Jvm.ClassFile.FieldType.int)) ∈ lw_all := lw_g (lw_at lw_m14 80 rfl) rfl
theorem q3307 : (Jvm.Cond.methodLink "FinalLinksModel" (344 : Nat) ({ cls := "FinalLinksModel", name := "isLink", desc := "(II)Z" } : Jvm.MethodName)) ∈ lw_all := lw_g (lw_at lw_m14 81 rfl) rfl
theorem q3308 : (Jvm.Cond.privateMethod ({ cls := "FinalLinksModel", name := "isLink", desc := "(II)Z" } : Jvm.MethodName)) ∈ lw_tbl := lw_at lw_m14 82 rfl
theorem q3309 : (Jvm.Cond.instanceMethod ({ cls := "FinalLinksModel", name := "isLink", desc := "(II)Z" } : Jvm.MethodName)) ∈ lw_all := lw_g (lw_at lw_m14 83 rfl) rfl
theorem q3310 : (Jvm.Cond.code ({ cls := "FinalLinksModel", name := "isLink", desc := "(II)Z" } : Jvm.MethodName) prog_25_method_56_code (3 : Nat) (Option.some Jvm.ClassFile.FieldType.boolean)) ∈ lw_all := lw_g (lw_at lw_m14 84 rfl) rfl
theorem q3312 : (Jvm.Cond.instanceMethod ({ cls := "FinalLinksModel", name := "votes", desc := "(III)I" } : Jvm.MethodName)) ∈ lw_all := lw_g (lw_at lw_m14 86 rfl) rfl
theorem q3313 : (Jvm.Cond.selects "FinalLinksModel" ({ cls := "FinalLinksModel", name := "votes", desc := "(III)I" } : Jvm.MethodName) ({ cls := "FinalLinksModel", name := "votes", desc := "(III)I" } : Jvm.MethodName)) ∈ lw_all := lw_g (lw_at lw_m14 87 rfl) rfl
theorem q3314 : (Jvm.Cond.code ({ cls := "FinalLinksModel", name := "votes", desc := "(III)I" } : Jvm.MethodName) prog_25_method_62_code (5 : Nat) (Option.some Jvm.ClassFile.FieldType.int)) ∈ lw_all := lw_g (lw_at lw_m14 88 rfl) rfl
theorem q3315 : (Jvm.Cond.methodLink "FinalLinksModel" (347 : Nat) ({ cls := "FinalLinksModel", name := "whyVote", desc := "(III)I" } : Jvm.MethodName)) ∈ lw_all := lw_g (lw_at lw_m14 89 rfl) rfl
theorem q3316 : (Jvm.Cond.privateMethod ({ cls := "FinalLinksModel", name := "whyVote", desc := "(III)I" } : Jvm.MethodName)) ∈ lw_tbl := lw_at lw_m14 90 rfl
theorem q3317 : (Jvm.Cond.instanceMethod ({ cls := "FinalLinksModel", name := "whyVote", desc := "(III)I" } : Jvm.MethodName)) ∈ lw_all := lw_g (lw_at lw_m14 91 rfl) rfl
theorem q3318 : (Jvm.Cond.code ({ cls := "FinalLinksModel", name := "whyVote", desc := "(III)I" } : Jvm.MethodName) prog_25_method_58_code (4 : Nat) (Option.some Jvm.ClassFile.FieldType.int)) ∈ lw_all := lw_g (lw_at lw_m14 92 rfl) rfl
theorem q3319 : (Jvm.Cond.methodLink "FinalLinksModel" (350 : Nat) ({ cls := "FinalLinksModel", name := "keeps", desc := "()V" } : Jvm.MethodName)) ∈ lw_all := lw_g (lw_at lw_m14 93 rfl) rfl
theorem q3320 : (Jvm.Cond.privateMethod ({ cls := "FinalLinksModel", name := "keeps", desc := "()V" } : Jvm.MethodName)) ∈ lw_tbl := lw_at lw_m14 94 rfl
theorem q3321 : (Jvm.Cond.instanceMethod ({ cls := "FinalLinksModel", name := "keeps", desc := "()V" } : Jvm.MethodName)) ∈ lw_all := lw_g (lw_at lw_m14 95 rfl) rfl
theorem q3322 : (Jvm.Cond.code ({ cls := "FinalLinksModel", name := "keeps", desc := "()V" } : Jvm.MethodName) prog_25_method_68_code (1 : Nat) (Option.none : Option Jvm.ClassFile.FieldType)) ∈ lw_all := lw_g (lw_at lw_m14 96 rfl) rfl
theorem q3323 : (Jvm.Cond.methodLink "FinalLinksModel" (364 : Nat) ({ cls := "FinalLinksModel", name := "copies", desc := "([I)V" } : Jvm.MethodName)) ∈ lw_all := lw_g (lw_at lw_m14 97 rfl) rfl
theorem q3324 : (Jvm.Cond.privateMethod ({ cls := "FinalLinksModel", name := "copies", desc := "([I)V" } : Jvm.MethodName)) ∈ lw_tbl := lw_at lw_m14 98 rfl
theorem q3325 : (Jvm.Cond.instanceMethod ({ cls := "FinalLinksModel", name := "copies", desc := "([I)V" } : Jvm.MethodName)) ∈ lw_all := lw_g (lw_at lw_m14 99 rfl) rfl
theorem q3326 : (Jvm.Cond.code ({ cls := "FinalLinksModel", name := "copies", desc := "([I)V" } : Jvm.MethodName) prog_25_method_66_code (3 : Nat) (Option.none : Option Jvm.ClassFile.FieldType)) ∈ lw_all := lw_g (lw_at lw_m14 100 rfl) rfl
theorem q3327 : (Jvm.Cond.methodLink "FinalLinksModel" (368 : Nat) ({ cls := "FinalLinksModel", name := "stores", desc := "([I)V" } : Jvm.MethodName)) ∈ lw_all := lw_g (lw_at lw_m14 101 rfl) rfl
theorem q3328 : (Jvm.Cond.privateMethod ({ cls := "FinalLinksModel", name := "stores", desc := "([I)V" } : Jvm.MethodName)) ∈ lw_tbl := lw_at lw_m14 102 rfl
theorem q3329 : (Jvm.Cond.instanceMethod ({ cls := "FinalLinksModel", name := "stores", desc := "([I)V" } : Jvm.MethodName)) ∈ lw_all := lw_g (lw_at lw_m14 103 rfl) rfl
theorem q3330 : (Jvm.Cond.code ({ cls := "FinalLinksModel", name := "stores", desc := "([I)V" } : Jvm.MethodName) prog_25_method_65_code (3 : Nat) (Option.none : Option Jvm.ClassFile.FieldType)) ∈ lw_all := lw_g (lw_at lw_m14 104 rfl) rfl
theorem q3331 : (Jvm.Cond.methodLink "FinalLinksModel" (353 : Nat) ({ cls := "FinalLinksModel", name := "doesVote", desc := "(III)V" } : Jvm.MethodName)) ∈ lw_all := lw_g (lw_at lw_m14 105 rfl) rfl
theorem q3332 : (Jvm.Cond.privateMethod ({ cls := "FinalLinksModel", name := "doesVote", desc := "(III)V" } : Jvm.MethodName)) ∈ lw_tbl := lw_at lw_m14 106 rfl
theorem q3333 : (Jvm.Cond.instanceMethod ({ cls := "FinalLinksModel", name := "doesVote", desc := "(III)V" } : Jvm.MethodName)) ∈ lw_all := lw_g (lw_at lw_m14 107 rfl) rfl
theorem q3334 : (Jvm.Cond.code ({ cls := "FinalLinksModel", name := "doesVote", desc := "(III)V" } : Jvm.MethodName) prog_25_method_59_code (5 : Nat) (Option.none : Option Jvm.ClassFile.FieldType)) ∈ lw_all := lw_g (lw_at lw_m14 108 rfl) rfl
theorem q3336 : (Jvm.Cond.instanceMethod ({ cls := "FinalLinksModel", name := "looks", desc := "(II)I" } : Jvm.MethodName)) ∈ lw_all := lw_g (lw_at lw_m14 110 rfl) rfl
theorem q3337 : (Jvm.Cond.selects "FinalLinksModel" ({ cls := "FinalLinksModel", name := "looks", desc := "(II)I" } : Jvm.MethodName) ({ cls := "FinalLinksModel", name := "looks", desc := "(II)I" } : Jvm.MethodName)) ∈ lw_all := lw_g (lw_at lw_m14 111 rfl) rfl
theorem q3338 : (Jvm.Cond.code ({ cls := "FinalLinksModel", name := "looks", desc := "(II)I" } : Jvm.MethodName) prog_25_method_63_code (3 : Nat) (Option.some Jvm.ClassFile.FieldType.int)) ∈ lw_all := lw_g (lw_at lw_m14 112 rfl) rfl
theorem q3339 : (Jvm.Cond.methodLink "FinalLinksModel" (357 : Nat) ({ cls := "FinalLinksModel", name := "doesLook", desc := "(II)V" } : Jvm.MethodName)) ∈ lw_all := lw_g (lw_at lw_m14 113 rfl) rfl
theorem q3340 : (Jvm.Cond.privateMethod ({ cls := "FinalLinksModel", name := "doesLook", desc := "(II)V" } : Jvm.MethodName)) ∈ lw_tbl := lw_at lw_m14 114 rfl
theorem q3341 : (Jvm.Cond.instanceMethod ({ cls := "FinalLinksModel", name := "doesLook", desc := "(II)V" } : Jvm.MethodName)) ∈ lw_all := lw_g (lw_at lw_m14 115 rfl) rfl
theorem q3342 : (Jvm.Cond.code ({ cls := "FinalLinksModel", name := "doesLook", desc := "(II)V" } : Jvm.MethodName) prog_25_method_60_code (3 : Nat) (Option.none : Option Jvm.ClassFile.FieldType)) ∈ lw_all := lw_g (lw_at lw_m14 116 rfl) rfl
theorem q3344 : (Jvm.Cond.instanceMethod ({ cls := "FinalLinksModel", name := "grows", desc := "(I)I" } : Jvm.MethodName)) ∈ lw_all := lw_g (lw_at lw_m14 118 rfl) rfl
theorem q3345 : (Jvm.Cond.selects "FinalLinksModel" ({ cls := "FinalLinksModel", name := "grows", desc := "(I)I" } : Jvm.MethodName) ({ cls := "FinalLinksModel", name := "grows", desc := "(I)I" } : Jvm.MethodName)) ∈ lw_all := lw_g (lw_at lw_m14 119 rfl) rfl
theorem q3346 : (Jvm.Cond.code ({ cls := "FinalLinksModel", name := "grows", desc := "(I)I" } : Jvm.MethodName) prog_25_method_64_code (2 : Nat) (Option.some Jvm.ClassFile.FieldType.int)) ∈ lw_all := lw_g (lw_at lw_m14 120 rfl) rfl
theorem q3347 : (Jvm.Cond.methodLink "FinalLinksModel" (361 : Nat) ({ cls := "FinalLinksModel", name := "doesGrow", desc := "(I)V" } : Jvm.MethodName)) ∈ lw_all := lw_g (lw_at lw_m14 121 rfl) rfl
theorem q3348 : (Jvm.Cond.privateMethod ({ cls := "FinalLinksModel", name := "doesGrow", desc := "(I)V" } : Jvm.MethodName)) ∈ lw_tbl := lw_at lw_m14 122 rfl
theorem q3349 : (Jvm.Cond.instanceMethod ({ cls := "FinalLinksModel", name := "doesGrow", desc := "(I)V" } : Jvm.MethodName)) ∈ lw_all := lw_g (lw_at lw_m14 123 rfl) rfl
theorem q3350 : (Jvm.Cond.code ({ cls := "FinalLinksModel", name := "doesGrow", desc := "(I)V" } : Jvm.MethodName) prog_25_method_61_code (3 : Nat) (Option.none : Option Jvm.ClassFile.FieldType)) ∈ lw_all := lw_g (lw_at lw_m14 124 rfl) rfl
theorem q3352 : (Jvm.Cond.instanceMethod ({ cls := "FinalLinksModel", name := "undo", desc := "()I" } : Jvm.MethodName)) ∈ lw_all := lw_g (lw_at lw_m14 126 rfl) rfl
theorem q3353 : (Jvm.Cond.selects "FinalLinksModel" ({ cls := "FinalLinksModel", name := "undo", desc := "()I" } : Jvm.MethodName) ({ cls := "FinalLinksModel", name := "undo", desc := "()I" } : Jvm.MethodName)) ∈ lw_all := lw_g (lw_at lw_m14 127 rfl) rfl
theorem q3354 : (Jvm.Cond.code ({ cls := "FinalLinksModel", name := "undo", desc := "()I" } : Jvm.MethodName) prog_25_method_69_code (1 : Nat) (Option.some Jvm.ClassFile.FieldType.int)) ∈ lw_all := lw_g (lw_at lw_m14 128 rfl) rfl
theorem q3355 : (Jvm.Cond.methodLink "FinalLinksModel" (371 : Nat) ({ cls := "FinalLinksModel", name := "brings", desc := "([II)V" } : Jvm.MethodName)) ∈ lw_all := lw_g (lw_at lw_m14 129 rfl) rfl
theorem q3356 : (Jvm.Cond.privateMethod ({ cls := "FinalLinksModel", name := "brings", desc := "([II)V" } : Jvm.MethodName)) ∈ lw_tbl := lw_at lw_m14 130 rfl
theorem q3357 : (Jvm.Cond.instanceMethod ({ cls := "FinalLinksModel", name := "brings", desc := "([II)V" } : Jvm.MethodName)) ∈ lw_all := lw_g (lw_at lw_m14 131 rfl) rfl
theorem q3358 : (Jvm.Cond.code ({ cls := "FinalLinksModel", name := "brings", desc := "([II)V" } : Jvm.MethodName) prog_25_method_67_code (4 : Nat) (Option.none : Option Jvm.ClassFile.FieldType)) ∈ lw_all := lw_g (lw_at lw_m14 132 rfl) rfl
theorem q3360 : (Jvm.Cond.instanceMethod ({ cls := "FinalLinksModel", name := "offends", desc := "(III)I" } : Jvm.MethodName)) ∈ lw_all := lw_g (lw_at lw_m14 134 rfl) rfl
theorem q3361 : (Jvm.Cond.selects "FinalLinksModel" ({ cls := "FinalLinksModel", name := "offends", desc := "(III)I" } : Jvm.MethodName) ({ cls := "FinalLinksModel", name := "offends", desc := "(III)I" } : Jvm.MethodName)) ∈ lw_all := lw_g (lw_at lw_m14 135 rfl) rfl
theorem q3362 : (Jvm.Cond.code ({ cls := "FinalLinksModel", name := "offends", desc := "(III)I" } : Jvm.MethodName) prog_25_method_71_code (5 : Nat) (Option.some Jvm.ClassFile.FieldType.int)) ∈ lw_all := lw_g (lw_at lw_m14 136 rfl) rfl
theorem q3363 : (Jvm.Cond.methodLink "FinalLinksModel" (375 : Nat) ({ cls := "FinalLinksModel", name := "offenceOf", desc := "(III)I" } : Jvm.MethodName)) ∈ lw_all := lw_g (lw_at lw_m14 137 rfl) rfl
theorem q3364 : (Jvm.Cond.privateMethod ({ cls := "FinalLinksModel", name := "offenceOf", desc := "(III)I" } : Jvm.MethodName)) ∈ lw_tbl := lw_at lw_m14 138 rfl
theorem q3365 : (Jvm.Cond.instanceMethod ({ cls := "FinalLinksModel", name := "offenceOf", desc := "(III)I" } : Jvm.MethodName)) ∈ lw_all := lw_g (lw_at lw_m14 139 rfl) rfl
theorem q3366 : (Jvm.Cond.code ({ cls := "FinalLinksModel", name := "offenceOf", desc := "(III)I" } : Jvm.MethodName) prog_25_method_70_code (7 : Nat) (Option.some Jvm.ClassFile.FieldType.int)) ∈ lw_all := lw_g (lw_at lw_m14 140 rfl) rfl
theorem q3368 : (Jvm.Cond.instanceMethod ({ cls := "FinalLinksModel", name := "evidence", desc := "(II)I" } : Jvm.MethodName)) ∈ lw_all := lw_g (lw_at lw_m14 142 rfl) rfl
theorem q3369 : (Jvm.Cond.selects "FinalLinksModel" ({ cls := "FinalLinksModel", name := "evidence", desc := "(II)I" } : Jvm.MethodName) ({ cls := "FinalLinksModel", name := "evidence", desc := "(II)I" } : Jvm.MethodName)) ∈ lw_all := lw_g (lw_at lw_m14 143 rfl) rfl
theorem q3370 : (Jvm.Cond.code ({ cls := "FinalLinksModel", name := "evidence", desc := "(II)I" } : Jvm.MethodName) prog_25_method_72_code (7 : Nat) (Option.some Jvm.ClassFile.FieldType.int)) ∈ lw_all := lw_g (lw_at lw_m14 144 rfl) rfl
theorem q3372 : (Jvm.Cond.instanceMethod ({ cls := "FinalLinksModel", name := "now", desc := "(I)I" } : Jvm.MethodName)) ∈ lw_all := lw_g (lw_at lw_m14 146 rfl) rfl
theorem q3373 : (Jvm.Cond.selects "FinalLinksModel" ({ cls := "FinalLinksModel", name := "now", desc := "(I)I" } : Jvm.MethodName) ({ cls := "FinalLinksModel", name := "now", desc := "(I)I" } : Jvm.MethodName)) ∈ lw_all := lw_g (lw_at lw_m14 147 rfl) rfl
theorem q3374 : (Jvm.Cond.code ({ cls := "FinalLinksModel", name := "now", desc := "(I)I" } : Jvm.MethodName) prog_25_method_73_code (2 : Nat) (Option.some Jvm.ClassFile.FieldType.int)) ∈ lw_all := lw_g (lw_at lw_m14 148 rfl) rfl
theorem q3376 : (Jvm.Cond.instanceMethod ({ cls := "FinalLinksModel", name := "chosen", desc := "(I)I" } : Jvm.MethodName)) ∈ lw_all := lw_g (lw_at lw_m14 150 rfl) rfl
theorem q3377 : (Jvm.Cond.selects "FinalLinksModel" ({ cls := "FinalLinksModel", name := "chosen", desc := "(I)I" } : Jvm.MethodName) ({ cls := "FinalLinksModel", name := "chosen", desc := "(I)I" } : Jvm.MethodName)) ∈ lw_all := lw_g (lw_at lw_m14 151 rfl) rfl
theorem q3378 : (Jvm.Cond.code ({ cls := "FinalLinksModel", name := "chosen", desc := "(I)I" } : Jvm.MethodName) prog_25_method_74_code (2 : Nat) (Option.some Jvm.ClassFile.FieldType.int)) ∈ lw_all := lw_g (lw_at lw_m14 152 rfl) rfl
theorem q3380 : (Jvm.Cond.instanceMethod ({ cls := "FinalLinksModel", name := "need", desc := "(II)I" } : Jvm.MethodName)) ∈ lw_all := lw_g (lw_at lw_m14 154 rfl) rfl
theorem q3381 : (Jvm.Cond.selects "FinalLinksModel" ({ cls := "FinalLinksModel", name := "need", desc := "(II)I" } : Jvm.MethodName) ({ cls := "FinalLinksModel", name := "need", desc := "(II)I" } : Jvm.MethodName)) ∈ lw_all := lw_g (lw_at lw_m14 155 rfl) rfl
theorem q3382 : (Jvm.Cond.code ({ cls := "FinalLinksModel", name := "need", desc := "(II)I" } : Jvm.MethodName) prog_25_method_77_code (4 : Nat) (Option.some Jvm.ClassFile.FieldType.int)) ∈ lw_all := lw_g (lw_at lw_m14 156 rfl) rfl
theorem q3383 : (Jvm.Cond.methodLink "FinalLinksModel" (384 : Nat) ({ cls := "FinalLinksModel", name := "needOf", desc := "(II)I" } : Jvm.MethodName)) ∈ lw_all := lw_g (lw_at lw_m14 157 rfl) rfl
theorem q3384 : (Jvm.Cond.privateMethod ({ cls := "FinalLinksModel", name := "needOf", desc := "(II)I" } : Jvm.MethodName)) ∈ lw_tbl := lw_at lw_m14 158 rfl
theorem q3385 : (Jvm.Cond.instanceMethod ({ cls := "FinalLinksModel", name := "needOf", desc := "(II)I" } : Jvm.MethodName)) ∈ lw_all := lw_g (lw_at lw_m14 159 rfl) rfl
theorem q3386 : (Jvm.Cond.code ({ cls := "FinalLinksModel", name := "needOf", desc := "(II)I" } : Jvm.MethodName) prog_25_method_76_code (7 : Nat) (Option.some Jvm.ClassFile.FieldType.int)) ∈ lw_all := lw_g (lw_at lw_m14 160 rfl) rfl
theorem q3387 : (Jvm.Cond.methodLink "FinalLinksModel" (381 : Nat) ({ cls := "FinalLinksModel", name := "bitsIn", desc := "(I)I" } : Jvm.MethodName)) ∈ lw_all := lw_g (lw_at lw_m14 161 rfl) rfl
theorem q3388 : (Jvm.Cond.static ({ cls := "FinalLinksModel", name := "bitsIn", desc := "(I)I" } : Jvm.MethodName)) ∈ lw_all := lw_g (lw_at lw_m14 162 rfl) rfl
theorem q3389 : (Jvm.Cond.code ({ cls := "FinalLinksModel", name := "bitsIn", desc := "(I)I" } : Jvm.MethodName) prog_25_method_75_code (3 : Nat) (Option.some Jvm.ClassFile.FieldType.int)) ∈ lw_all := lw_g (lw_at lw_m14 163 rfl) rfl
theorem q3391 : (Jvm.Cond.instanceMethod ({ cls := "FinalLinksModel", name := "needed", desc := "()I" } : Jvm.MethodName)) ∈ lw_all := lw_g (lw_at lw_m14 165 rfl) rfl
theorem q3392 : (Jvm.Cond.selects "FinalLinksModel" ({ cls := "FinalLinksModel", name := "needed", desc := "()I" } : Jvm.MethodName) ({ cls := "FinalLinksModel", name := "needed", desc := "()I" } : Jvm.MethodName)) ∈ lw_all := lw_g (lw_at lw_m14 166 rfl) rfl
theorem q3393 : (Jvm.Cond.code ({ cls := "FinalLinksModel", name := "needed", desc := "()I" } : Jvm.MethodName) prog_25_method_78_code (1 : Nat) (Option.some Jvm.ClassFile.FieldType.int)) ∈ lw_all := lw_g (lw_at lw_m14 167 rfl) rfl
theorem q3395 : (Jvm.Cond.instanceMethod ({ cls := "FinalLinksModel", name := "way", desc := "(I)I" } : Jvm.MethodName)) ∈ lw_all := lw_g (lw_at lw_m14 169 rfl) rfl
theorem q3396 : (Jvm.Cond.selects "FinalLinksModel" ({ cls := "FinalLinksModel", name := "way", desc := "(I)I" } : Jvm.MethodName) ({ cls := "FinalLinksModel", name := "way", desc := "(I)I" } : Jvm.MethodName)) ∈ lw_all := lw_g (lw_at lw_m14 170 rfl) rfl
theorem q3397 : (Jvm.Cond.code ({ cls := "FinalLinksModel", name := "way", desc := "(I)I" } : Jvm.MethodName) prog_25_method_79_code (6 : Nat) (Option.some Jvm.ClassFile.FieldType.int)) ∈ lw_all := lw_g (lw_at lw_m14 171 rfl) rfl
theorem q3399 : (Jvm.Cond.instanceMethod ({ cls := "FinalLinksModel", name := "wayFrom", desc := "()I" } : Jvm.MethodName)) ∈ lw_all := lw_g (lw_at lw_m14 173 rfl) rfl
theorem q3400 : (Jvm.Cond.selects "FinalLinksModel" ({ cls := "FinalLinksModel", name := "wayFrom", desc := "()I" } : Jvm.MethodName) ({ cls := "FinalLinksModel", name := "wayFrom", desc := "()I" } : Jvm.MethodName)) ∈ lw_all := lw_g (lw_at lw_m14 174 rfl) rfl
theorem q3401 : (Jvm.Cond.code ({ cls := "FinalLinksModel", name := "wayFrom", desc := "()I" } : Jvm.MethodName) prog_25_method_80_code (1 : Nat) (Option.some Jvm.ClassFile.FieldType.int)) ∈ lw_all := lw_g (lw_at lw_m14 175 rfl) rfl
theorem q3403 : (Jvm.Cond.instanceMethod ({ cls := "FinalLinksModel", name := "clash", desc := "()I" } : Jvm.MethodName)) ∈ lw_all := lw_g (lw_at lw_m14 177 rfl) rfl
theorem q3404 : (Jvm.Cond.selects "FinalLinksModel" ({ cls := "FinalLinksModel", name := "clash", desc := "()I" } : Jvm.MethodName) ({ cls := "FinalLinksModel", name := "clash", desc := "()I" } : Jvm.MethodName)) ∈ lw_all := lw_g (lw_at lw_m14 178 rfl) rfl
theorem q3405 : (Jvm.Cond.code ({ cls := "FinalLinksModel", name := "clash", desc := "()I" } : Jvm.MethodName) prog_25_method_82_code (1 : Nat) (Option.some Jvm.ClassFile.FieldType.int)) ∈ lw_all := lw_g (lw_at lw_m14 179 rfl) rfl
theorem q3406 : (Jvm.Cond.methodLink "FinalLinksModel" (387 : Nat) ({ cls := "FinalLinksModel", name := "clashOf", desc := "(I)I" } : Jvm.MethodName)) ∈ lw_all := lw_g (lw_at lw_m14 180 rfl) rfl
theorem q3407 : (Jvm.Cond.privateMethod ({ cls := "FinalLinksModel", name := "clashOf", desc := "(I)I" } : Jvm.MethodName)) ∈ lw_tbl := lw_at lw_m14 181 rfl
theorem q3408 : (Jvm.Cond.instanceMethod ({ cls := "FinalLinksModel", name := "clashOf", desc := "(I)I" } : Jvm.MethodName)) ∈ lw_all := lw_g (lw_at lw_m14 182 rfl) rfl
theorem q3409 : (Jvm.Cond.code ({ cls := "FinalLinksModel", name := "clashOf", desc := "(I)I" } : Jvm.MethodName) prog_25_method_81_code (4 : Nat) (Option.some Jvm.ClassFile.FieldType.int)) ∈ lw_all := lw_g (lw_at lw_m14 183 rfl) rfl
theorem q3411 : (Jvm.Cond.instanceMethod ({ cls := "FinalLinksModel", name := "clashAt", desc := "(I)I" } : Jvm.MethodName)) ∈ lw_all := lw_g (lw_at lw_m14 185 rfl) rfl
theorem q3412 : (Jvm.Cond.selects "FinalLinksModel" ({ cls := "FinalLinksModel", name := "clashAt", desc := "(I)I" } : Jvm.MethodName) ({ cls := "FinalLinksModel", name := "clashAt", desc := "(I)I" } : Jvm.MethodName)) ∈ lw_all := lw_g (lw_at lw_m14 186 rfl) rfl
theorem q3413 : (Jvm.Cond.code ({ cls := "FinalLinksModel", name := "clashAt", desc := "(I)I" } : Jvm.MethodName) prog_25_method_83_code (2 : Nat) (Option.some Jvm.ClassFile.FieldType.int)) ∈ lw_all := lw_g (lw_at lw_m14 187 rfl) rfl
theorem q3415 : (Jvm.Cond.instanceMethod ({ cls := "FinalLinksModel", name := "guilt", desc := "(I)I" } : Jvm.MethodName)) ∈ lw_all := lw_g (lw_at lw_m14 189 rfl) rfl
theorem q3416 : (Jvm.Cond.selects "FinalLinksModel" ({ cls := "FinalLinksModel", name := "guilt", desc := "(I)I" } : Jvm.MethodName) ({ cls := "FinalLinksModel", name := "guilt", desc := "(I)I" } : Jvm.MethodName)) ∈ lw_all := lw_g (lw_at lw_m14 190 rfl) rfl
theorem q3417 : (Jvm.Cond.code ({ cls := "FinalLinksModel", name := "guilt", desc := "(I)I" } : Jvm.MethodName) prog_25_method_85_code (5 : Nat) (Option.some Jvm.ClassFile.FieldType.int)) ∈ lw_all := lw_g (lw_at lw_m14 191 rfl) rfl
theorem q3418 : (Jvm.Cond.methodLink "FinalLinksModel" (390 : Nat) ({ cls := "FinalLinksModel", name := "least", desc := "(III)I" } : Jvm.MethodName)) ∈ lw_all := lw_g (lw_at lw_m14 192 rfl) rfl
theorem q3419 : (Jvm.Cond.static ({ cls := "FinalLinksModel", name := "least", desc := "(III)I" } : Jvm.MethodName)) ∈ lw_all := lw_g (lw_at lw_m14 193 rfl) rfl
theorem q3420 : (Jvm.Cond.code ({ cls := "FinalLinksModel", name := "least", desc := "(III)I" } : Jvm.MethodName) prog_25_method_84_code (6 : Nat) (Option.some Jvm.ClassFile.FieldType.int)) ∈ lw_all := lw_g (lw_at lw_m14 194 rfl) rfl
theorem q3422 : (Jvm.Cond.instanceMethod ({ cls := "FinalLinksModel", name := "mean", desc := "(I)I" } : Jvm.MethodName)) ∈ lw_all := lw_g (lw_at lw_m14 196 rfl) rfl
theorem q3423 : (Jvm.Cond.selects "FinalLinksModel" ({ cls := "FinalLinksModel", name := "mean", desc := "(I)I" } : Jvm.MethodName) ({ cls := "FinalLinksModel", name := "mean", desc := "(I)I" } : Jvm.MethodName)) ∈ lw_all := lw_g (lw_at lw_m14 197 rfl) rfl
theorem q3424 : (Jvm.Cond.code ({ cls := "FinalLinksModel", name := "mean", desc := "(I)I" } : Jvm.MethodName) prog_25_method_86_code (5 : Nat) (Option.some Jvm.ClassFile.FieldType.int)) ∈ lw_all := lw_g (lw_at lw_m14 198 rfl) rfl
theorem q3426 : (Jvm.Cond.instanceMethod ({ cls := "FinalLinksModel", name := "tag", desc := "(I)I" } : Jvm.MethodName)) ∈ lw_all := lw_g (lw_at lw_m14 200 rfl) rfl
theorem q3427 : (Jvm.Cond.selects "FinalLinksModel" ({ cls := "FinalLinksModel", name := "tag", desc := "(I)I" } : Jvm.MethodName) ({ cls := "FinalLinksModel", name := "tag", desc := "(I)I" } : Jvm.MethodName)) ∈ lw_all := lw_g (lw_at lw_m14 201 rfl) rfl
theorem q3428 : (Jvm.Cond.code ({ cls := "FinalLinksModel", name := "tag", desc := "(I)I" } : Jvm.MethodName) prog_25_method_90_code (2 : Nat) (Option.some Jvm.ClassFile.FieldType.int)) ∈ lw_all := lw_g (lw_at lw_m14 202 rfl) rfl
theorem q3429 : (Jvm.Cond.methodLink "FinalLinksModel" (401 : Nat) ({ cls := "FinalLinksModel", name := "spells", desc := "(J)V" } : Jvm.MethodName)) ∈ lw_all := lw_g (lw_at lw_m14 203 rfl) rfl
theorem q3430 : (Jvm.Cond.privateMethod ({ cls := "FinalLinksModel", name := "spells", desc := "(J)V" } : Jvm.MethodName)) ∈ lw_tbl := lw_at lw_m14 204 rfl
theorem q3431 : (Jvm.Cond.instanceMethod ({ cls := "FinalLinksModel", name := "spells", desc := "(J)V" } : Jvm.MethodName)) ∈ lw_all := lw_g (lw_at lw_m14 205 rfl) rfl
theorem q3432 : (Jvm.Cond.code ({ cls := "FinalLinksModel", name := "spells", desc := "(J)V" } : Jvm.MethodName) prog_25_method_88_code (4 : Nat) (Option.none : Option Jvm.ClassFile.FieldType)) ∈ lw_all := lw_g (lw_at lw_m14 206 rfl) rfl
theorem q3433 : (Jvm.Cond.constantLong "FinalLinksModel" (396 : Nat) (255 : Int64)) ∈ lw_all := lw_g (lw_at lw_m14 207 rfl) rfl
theorem q3434 : (Jvm.Cond.methodLink "FinalLinksModel" (398 : Nat) ({ cls := "FinalLinksModel", name := "puts", desc := "(I)V" } : Jvm.MethodName)) ∈ lw_all := lw_g (lw_at lw_m14 208 rfl) rfl
theorem q3435 : (Jvm.Cond.privateMethod ({ cls := "FinalLinksModel", name := "puts", desc := "(I)V" } : Jvm.MethodName)) ∈ lw_tbl := lw_at lw_m14 209 rfl
theorem q3436 : (Jvm.Cond.instanceMethod ({ cls := "FinalLinksModel", name := "puts", desc := "(I)V" } : Jvm.MethodName)) ∈ lw_all := lw_g (lw_at lw_m14 210 rfl) rfl
theorem q3437 : (Jvm.Cond.code ({ cls := "FinalLinksModel", name := "puts", desc := "(I)V" } : Jvm.MethodName) prog_25_method_87_code (2 : Nat) (Option.none : Option Jvm.ClassFile.FieldType)) ∈ lw_all := lw_g (lw_at lw_m14 211 rfl) rfl
theorem q3438 : (Jvm.Cond.constantLong "FinalLinksModel" (405 : Nat) (35624378658080 : Int64)) ∈ lw_all := lw_g (lw_at lw_m14 212 rfl) rfl
theorem q3439 : (Jvm.Cond.methodLink "FinalLinksModel" (407 : Nat) ({ cls := "FinalLinksModel", name := "laysNumber", desc := "(I)V" } : Jvm.MethodName)) ∈ lw_all := lw_g (lw_at lw_m14 213 rfl) rfl
theorem q3440 : (Jvm.Cond.privateMethod ({ cls := "FinalLinksModel", name := "laysNumber", desc := "(I)V" } : Jvm.MethodName)) ∈ lw_tbl := lw_at lw_m14 214 rfl
theorem q3441 : (Jvm.Cond.instanceMethod ({ cls := "FinalLinksModel", name := "laysNumber", desc := "(I)V" } : Jvm.MethodName)) ∈ lw_all := lw_g (lw_at lw_m14 215 rfl) rfl
theorem q3442 : (Jvm.Cond.code ({ cls := "FinalLinksModel", name := "laysNumber", desc := "(I)V" } : Jvm.MethodName) prog_25_method_89_code (2 : Nat) (Option.none : Option Jvm.ClassFile.FieldType)) ∈ lw_all := lw_g (lw_at lw_m14 216 rfl) rfl
theorem q3443 : (Jvm.Cond.constantLong "FinalLinksModel" (410 : Nat) (544501536 : Int64)) ∈ lw_all := lw_g (lw_at lw_m14 217 rfl) rfl
theorem q3445 : (Jvm.Cond.instanceMethod ({ cls := "FinalLinksModel", name := "byteAt", desc := "(I)I" } : Jvm.MethodName)) ∈ lw_all := lw_g (lw_at lw_m14 219 rfl) rfl
theorem q3446 : (Jvm.Cond.selects "FinalLinksModel" ({ cls := "FinalLinksModel", name := "byteAt", desc := "(I)I" } : Jvm.MethodName) ({ cls := "FinalLinksModel", name := "byteAt", desc := "(I)I" } : Jvm.MethodName)) ∈ lw_all := lw_g (lw_at lw_m14 220 rfl) rfl
theorem q3447 : (Jvm.Cond.code ({ cls := "FinalLinksModel", name := "byteAt", desc := "(I)I" } : Jvm.MethodName) prog_25_method_91_code (2 : Nat) (Option.some Jvm.ClassFile.FieldType.int)) ∈ lw_all := lw_g (lw_at lw_m14 221 rfl) rfl
theorem q3449 : (Jvm.Cond.instanceMethod ({ cls := "FinalLinksModel", name := "drawn", desc := "(II)I" } : Jvm.MethodName)) ∈ lw_all := lw_g (lw_at lw_m14 223 rfl) rfl
theorem q3450 : (Jvm.Cond.selects "FinalLinksModel" ({ cls := "FinalLinksModel", name := "drawn", desc := "(II)I" } : Jvm.MethodName) ({ cls := "FinalLinksModel", name := "drawn", desc := "(II)I" } : Jvm.MethodName)) ∈ lw_all := lw_g (lw_at lw_m14 224 rfl) rfl
theorem q3451 : (Jvm.Cond.code ({ cls := "FinalLinksModel", name := "drawn", desc := "(II)I" } : Jvm.MethodName) prog_25_method_94_code (5 : Nat) (Option.some Jvm.ClassFile.FieldType.int)) ∈ lw_all := lw_g (lw_at lw_m14 225 rfl) rfl
theorem q3452 : (Jvm.Cond.methodLink "FinalLinksModel" (419 : Nat) ({ cls := "FinalLinksModel", name := "drawDeed", desc := "()Z" } : Jvm.MethodName)) ∈ lw_all := lw_g (lw_at lw_m14 226 rfl) rfl
theorem q3453 : (Jvm.Cond.privateMethod ({ cls := "FinalLinksModel", name := "drawDeed", desc := "()Z" } : Jvm.MethodName)) ∈ lw_tbl := lw_at lw_m14 227 rfl
theorem q3454 : (Jvm.Cond.instanceMethod ({ cls := "FinalLinksModel", name := "drawDeed", desc := "()Z" } : Jvm.MethodName)) ∈ lw_all := lw_g (lw_at lw_m14 228 rfl) rfl
theorem q3455 : (Jvm.Cond.code ({ cls := "FinalLinksModel", name := "drawDeed", desc := "()Z" } : Jvm.MethodName) prog_25_method_93_code (5 : Nat) (Option.some Jvm.ClassFile.FieldType.boolean)) ∈ lw_all := lw_g (lw_at lw_m14 229 rfl) rfl
theorem q3456 : (Jvm.Cond.methodLink "FinalLinksModel" (416 : Nat) ({ cls := "FinalLinksModel", name := "draw", desc := "(I)I" } : Jvm.MethodName)) ∈ lw_all := lw_g (lw_at lw_m14 230 rfl) rfl
theorem q3457 : (Jvm.Cond.privateMethod ({ cls := "FinalLinksModel", name := "draw", desc := "(I)I" } : Jvm.MethodName)) ∈ lw_tbl := lw_at lw_m14 231 rfl
theorem q3458 : (Jvm.Cond.instanceMethod ({ cls := "FinalLinksModel", name := "draw", desc := "(I)I" } : Jvm.MethodName)) ∈ lw_all := lw_g (lw_at lw_m14 232 rfl) rfl
theorem q3459 : (Jvm.Cond.code ({ cls := "FinalLinksModel", name := "draw", desc := "(I)I" } : Jvm.MethodName) prog_25_method_92_code (2 : Nat) (Option.some Jvm.ClassFile.FieldType.int)) ∈ lw_all := lw_g (lw_at lw_m14 233 rfl) rfl
theorem q3460 : (Jvm.Cond.constant "FinalLinksModel" (415 : Nat) (1103515245 : Int32)) ∈ lw_all := lw_g (lw_at lw_m14 234 rfl) rfl
theorem q3462 : (Jvm.Cond.instanceMethod ({ cls := "FinalLinksModel", name := "odds", desc := "(III)I" } : Jvm.MethodName)) ∈ lw_all := lw_g (lw_at lw_m14 236 rfl) rfl
theorem q3463 : (Jvm.Cond.selects "FinalLinksModel" ({ cls := "FinalLinksModel", name := "odds", desc := "(III)I" } : Jvm.MethodName) ({ cls := "FinalLinksModel", name := "odds", desc := "(III)I" } : Jvm.MethodName)) ∈ lw_all := lw_g (lw_at lw_m14 237 rfl) rfl
theorem q3464 : (Jvm.Cond.code ({ cls := "FinalLinksModel", name := "odds", desc := "(III)I" } : Jvm.MethodName) prog_25_method_96_code (7 : Nat) (Option.some Jvm.ClassFile.FieldType.int)) ∈ lw_all := lw_g (lw_at lw_m14 238 rfl) rfl
theorem q3465 : (Jvm.Cond.methodLink "FinalLinksModel" (422 : Nat) ({ cls := "FinalLinksModel", name := "isChosen", desc := "(I)Z" } : Jvm.MethodName)) ∈ lw_all := lw_g (lw_at lw_m14 239 rfl) rfl
theorem q3466 : (Jvm.Cond.privateMethod ({ cls := "FinalLinksModel", name := "isChosen", desc := "(I)Z" } : Jvm.MethodName)) ∈ lw_tbl := lw_at lw_m15 0 rfl
theorem q3467 : (Jvm.Cond.instanceMethod ({ cls := "FinalLinksModel", name := "isChosen", desc := "(I)Z" } : Jvm.MethodName)) ∈ lw_all := lw_g (lw_at lw_m15 1 rfl) rfl
theorem q3468 : (Jvm.Cond.code ({ cls := "FinalLinksModel", name := "isChosen", desc := "(I)Z" } : Jvm.MethodName) prog_25_method_95_code (4 : Nat) (Option.some Jvm.ClassFile.FieldType.boolean)) ∈ lw_all := lw_g (lw_at lw_m15 2 rfl) rfl
theorem q3470 : (Jvm.Cond.instanceMethod ({ cls := "FinalLinksModel", name := "book", desc := "(I)I" } : Jvm.MethodName)) ∈ lw_all := lw_g (lw_at lw_m15 4 rfl) rfl
theorem q3471 : (Jvm.Cond.selects "FinalLinksModel" ({ cls := "FinalLinksModel", name := "book", desc := "(I)I" } : Jvm.MethodName) ({ cls := "FinalLinksModel", name := "book", desc := "(I)I" } : Jvm.MethodName)) ∈ lw_all := lw_g (lw_at lw_m15 5 rfl) rfl
theorem q3472 : (Jvm.Cond.code ({ cls := "FinalLinksModel", name := "book", desc := "(I)I" } : Jvm.MethodName) prog_25_method_99_code (4 : Nat) (Option.some Jvm.ClassFile.FieldType.int)) ∈ lw_all := lw_g (lw_at lw_m15 6 rfl) rfl
theorem q3473 : (Jvm.Cond.methodLink "FinalLinksModel" (428 : Nat) ({ cls := "FinalLinksModel", name := "bookLine", desc := "()Z" } : Jvm.MethodName)) ∈ lw_all := lw_g (lw_at lw_m15 7 rfl) rfl
theorem q3474 : (Jvm.Cond.privateMethod ({ cls := "FinalLinksModel", name := "bookLine", desc := "()Z" } : Jvm.MethodName)) ∈ lw_tbl := lw_at lw_m15 8 rfl
theorem q3475 : (Jvm.Cond.instanceMethod ({ cls := "FinalLinksModel", name := "bookLine", desc := "()Z" } : Jvm.MethodName)) ∈ lw_all := lw_g (lw_at lw_m15 9 rfl) rfl
theorem q3476 : (Jvm.Cond.code ({ cls := "FinalLinksModel", name := "bookLine", desc := "()Z" } : Jvm.MethodName) prog_25_method_97_code (2 : Nat) (Option.some Jvm.ClassFile.FieldType.boolean)) ∈ lw_all := lw_g (lw_at lw_m15 10 rfl) rfl
theorem q3477 : (Jvm.Cond.methodLink "FinalLinksModel" (431 : Nat) ({ cls := "FinalLinksModel", name := "does", desc := "(I)I" } : Jvm.MethodName)) ∈ lw_all := lw_g (lw_at lw_m15 11 rfl) rfl
theorem q3478 : (Jvm.Cond.privateMethod ({ cls := "FinalLinksModel", name := "does", desc := "(I)I" } : Jvm.MethodName)) ∈ lw_tbl := lw_at lw_m15 12 rfl
theorem q3479 : (Jvm.Cond.instanceMethod ({ cls := "FinalLinksModel", name := "does", desc := "(I)I" } : Jvm.MethodName)) ∈ lw_all := lw_g (lw_at lw_m15 13 rfl) rfl
theorem q3480 : (Jvm.Cond.code ({ cls := "FinalLinksModel", name := "does", desc := "(I)I" } : Jvm.MethodName) prog_25_method_98_code (5 : Nat) (Option.some Jvm.ClassFile.FieldType.int)) ∈ lw_all := lw_g (lw_at lw_m15 14 rfl) rfl
theorem q3482 : (Jvm.Cond.instanceMethod ({ cls := "FinalLinksModel", name := "told", desc := "(I)I" } : Jvm.MethodName)) ∈ lw_all := lw_g (lw_at lw_m15 16 rfl) rfl
theorem q3483 : (Jvm.Cond.selects "FinalLinksModel" ({ cls := "FinalLinksModel", name := "told", desc := "(I)I" } : Jvm.MethodName) ({ cls := "FinalLinksModel", name := "told", desc := "(I)I" } : Jvm.MethodName)) ∈ lw_all := lw_g (lw_at lw_m15 17 rfl) rfl
theorem q3484 : (Jvm.Cond.code ({ cls := "FinalLinksModel", name := "told", desc := "(I)I" } : Jvm.MethodName) prog_25_method_100_code (2 : Nat) (Option.some Jvm.ClassFile.FieldType.int)) ∈ lw_all := lw_g (lw_at lw_m15 18 rfl) rfl
theorem q3486 : (Jvm.Cond.instanceMethod ({ cls := "FinalLinksModel", name := "sentence", desc := "()I" } : Jvm.MethodName)) ∈ lw_all := lw_g (lw_at lw_m15 20 rfl) rfl
theorem q3487 : (Jvm.Cond.selects "FinalLinksModel" ({ cls := "FinalLinksModel", name := "sentence", desc := "()I" } : Jvm.MethodName) ({ cls := "FinalLinksModel", name := "sentence", desc := "()I" } : Jvm.MethodName)) ∈ lw_all := lw_g (lw_at lw_m15 21 rfl) rfl
theorem q3488 : (Jvm.Cond.code ({ cls := "FinalLinksModel", name := "sentence", desc := "()I" } : Jvm.MethodName) prog_25_method_107_code (3 : Nat) (Option.some Jvm.ClassFile.FieldType.int)) ∈ lw_all := lw_g (lw_at lw_m15 22 rfl) rfl
theorem q3489 : (Jvm.Cond.methodLink "FinalLinksModel" (458 : Nat) ({ cls := "FinalLinksModel", name := "nots", desc := "()V" } : Jvm.MethodName)) ∈ lw_all := lw_g (lw_at lw_m15 23 rfl) rfl
theorem q3490 : (Jvm.Cond.privateMethod ({ cls := "FinalLinksModel", name := "nots", desc := "()V" } : Jvm.MethodName)) ∈ lw_tbl := lw_at lw_m15 24 rfl
theorem q3491 : (Jvm.Cond.instanceMethod ({ cls := "FinalLinksModel", name := "nots", desc := "()V" } : Jvm.MethodName)) ∈ lw_all := lw_g (lw_at lw_m15 25 rfl) rfl
theorem q3492 : (Jvm.Cond.code ({ cls := "FinalLinksModel", name := "nots", desc := "()V" } : Jvm.MethodName) prog_25_method_103_code (1 : Nat) (Option.none : Option Jvm.ClassFile.FieldType)) ∈ lw_all := lw_g (lw_at lw_m15 26 rfl) rfl
theorem q3493 : (Jvm.Cond.methodLink "FinalLinksModel" (443 : Nat) ({ cls := "FinalLinksModel", name := "code", desc := "(III)V" } : Jvm.MethodName)) ∈ lw_all := lw_g (lw_at lw_m15 27 rfl) rfl
theorem q3494 : (Jvm.Cond.privateMethod ({ cls := "FinalLinksModel", name := "code", desc := "(III)V" } : Jvm.MethodName)) ∈ lw_tbl := lw_at lw_m15 28 rfl
theorem q3495 : (Jvm.Cond.instanceMethod ({ cls := "FinalLinksModel", name := "code", desc := "(III)V" } : Jvm.MethodName)) ∈ lw_all := lw_g (lw_at lw_m15 29 rfl) rfl
theorem q3496 : (Jvm.Cond.code ({ cls := "FinalLinksModel", name := "code", desc := "(III)V" } : Jvm.MethodName) prog_25_method_101_code (4 : Nat) (Option.none : Option Jvm.ClassFile.FieldType)) ∈ lw_all := lw_g (lw_at lw_m15 30 rfl) rfl
theorem q3497 : (Jvm.Cond.methodLink "FinalLinksModel" (461 : Nat) ({ cls := "FinalLinksModel", name := "joins", desc := "(I)V" } : Jvm.MethodName)) ∈ lw_all := lw_g (lw_at lw_m15 31 rfl) rfl
theorem q3498 : (Jvm.Cond.privateMethod ({ cls := "FinalLinksModel", name := "joins", desc := "(I)V" } : Jvm.MethodName)) ∈ lw_tbl := lw_at lw_m15 32 rfl
theorem q3499 : (Jvm.Cond.instanceMethod ({ cls := "FinalLinksModel", name := "joins", desc := "(I)V" } : Jvm.MethodName)) ∈ lw_all := lw_g (lw_at lw_m15 33 rfl) rfl
theorem q3500 : (Jvm.Cond.code ({ cls := "FinalLinksModel", name := "joins", desc := "(I)V" } : Jvm.MethodName) prog_25_method_102_code (2 : Nat) (Option.none : Option Jvm.ClassFile.FieldType)) ∈ lw_all := lw_g (lw_at lw_m15 34 rfl) rfl
theorem q3501 : (Jvm.Cond.methodLink "FinalLinksModel" (464 : Nat) ({ cls := "FinalLinksModel", name := "behindOne", desc := "()Z" } : Jvm.MethodName)) ∈ lw_all := lw_g (lw_at lw_m15 35 rfl) rfl
theorem q3502 : (Jvm.Cond.privateMethod ({ cls := "FinalLinksModel", name := "behindOne", desc := "()Z" } : Jvm.MethodName)) ∈ lw_tbl := lw_at lw_m15 36 rfl
theorem q3503 : (Jvm.Cond.instanceMethod ({ cls := "FinalLinksModel", name := "behindOne", desc := "()Z" } : Jvm.MethodName)) ∈ lw_all := lw_g (lw_at lw_m15 37 rfl) rfl
theorem q3504 : (Jvm.Cond.code ({ cls := "FinalLinksModel", name := "behindOne", desc := "()Z" } : Jvm.MethodName) prog_25_method_106_code (1 : Nat) (Option.some Jvm.ClassFile.FieldType.boolean)) ∈ lw_all := lw_g (lw_at lw_m15 38 rfl) rfl
theorem q3505 : (Jvm.Cond.methodLink "FinalLinksModel" (467 : Nat) ({ cls := "FinalLinksModel", name := "operand", desc := "()Z" } : Jvm.MethodName)) ∈ lw_all := lw_g (lw_at lw_m15 39 rfl) rfl
theorem q3506 : (Jvm.Cond.privateMethod ({ cls := "FinalLinksModel", name := "operand", desc := "()Z" } : Jvm.MethodName)) ∈ lw_tbl := lw_at lw_m15 40 rfl
theorem q3507 : (Jvm.Cond.instanceMethod ({ cls := "FinalLinksModel", name := "operand", desc := "()Z" } : Jvm.MethodName)) ∈ lw_all := lw_g (lw_at lw_m15 41 rfl) rfl
theorem q3508 : (Jvm.Cond.code ({ cls := "FinalLinksModel", name := "operand", desc := "()Z" } : Jvm.MethodName) prog_25_method_105_code (5 : Nat) (Option.some Jvm.ClassFile.FieldType.boolean)) ∈ lw_all := lw_g (lw_at lw_m15 42 rfl) rfl
theorem q3509 : (Jvm.Cond.methodLink "FinalLinksModel" (449 : Nat) ({ cls := "FinalLinksModel", name := "leafOf", desc := "()I" } : Jvm.MethodName)) ∈ lw_all := lw_g (lw_at lw_m15 43 rfl) rfl
theorem q3510 : (Jvm.Cond.privateMethod ({ cls := "FinalLinksModel", name := "leafOf", desc := "()I" } : Jvm.MethodName)) ∈ lw_tbl := lw_at lw_m15 44 rfl
theorem q3511 : (Jvm.Cond.instanceMethod ({ cls := "FinalLinksModel", name := "leafOf", desc := "()I" } : Jvm.MethodName)) ∈ lw_all := lw_g (lw_at lw_m15 45 rfl) rfl
theorem q3512 : (Jvm.Cond.code ({ cls := "FinalLinksModel", name := "leafOf", desc := "()I" } : Jvm.MethodName) prog_25_method_104_code (1 : Nat) (Option.some Jvm.ClassFile.FieldType.int)) ∈ lw_all := lw_g (lw_at lw_m15 46 rfl) rfl
theorem q3514 : (Jvm.Cond.instanceMethod ({ cls := "FinalLinksModel", name := "said", desc := "(I)I" } : Jvm.MethodName)) ∈ lw_all := lw_g (lw_at lw_m15 48 rfl) rfl
theorem q3515 : (Jvm.Cond.selects "FinalLinksModel" ({ cls := "FinalLinksModel", name := "said", desc := "(I)I" } : Jvm.MethodName) ({ cls := "FinalLinksModel", name := "said", desc := "(I)I" } : Jvm.MethodName)) ∈ lw_all := lw_g (lw_at lw_m15 49 rfl) rfl
theorem q3516 : (Jvm.Cond.code ({ cls := "FinalLinksModel", name := "said", desc := "(I)I" } : Jvm.MethodName) prog_25_method_111_code (4 : Nat) (Option.some Jvm.ClassFile.FieldType.int)) ∈ lw_all := lw_g (lw_at lw_m15 50 rfl) rfl
theorem q3517 : (Jvm.Cond.methodLink "FinalLinksModel" (477 : Nat) ({ cls := "FinalLinksModel", name := "isSaid", desc := "(I)Z" } : Jvm.MethodName)) ∈ lw_all := lw_g (lw_at lw_m15 51 rfl) rfl
theorem q3518 : (Jvm.Cond.privateMethod ({ cls := "FinalLinksModel", name := "isSaid", desc := "(I)Z" } : Jvm.MethodName)) ∈ lw_tbl := lw_at lw_m15 52 rfl
theorem q3519 : (Jvm.Cond.instanceMethod ({ cls := "FinalLinksModel", name := "isSaid", desc := "(I)Z" } : Jvm.MethodName)) ∈ lw_all := lw_g (lw_at lw_m15 53 rfl) rfl
theorem q3520 : (Jvm.Cond.code ({ cls := "FinalLinksModel", name := "isSaid", desc := "(I)Z" } : Jvm.MethodName) prog_25_method_110_code (5 : Nat) (Option.some Jvm.ClassFile.FieldType.boolean)) ∈ lw_all := lw_g (lw_at lw_m15 54 rfl) rfl
theorem q3521 : (Jvm.Cond.methodLink "FinalLinksModel" (473 : Nat) ({ cls := "FinalLinksModel", name := "isLeaf", desc := "(IIII)Z" } : Jvm.MethodName)) ∈ lw_all := lw_g (lw_at lw_m15 55 rfl) rfl
theorem q3522 : (Jvm.Cond.privateMethod ({ cls := "FinalLinksModel", name := "isLeaf", desc := "(IIII)Z" } : Jvm.MethodName)) ∈ lw_tbl := lw_at lw_m15 56 rfl
theorem q3523 : (Jvm.Cond.instanceMethod ({ cls := "FinalLinksModel", name := "isLeaf", desc := "(IIII)Z" } : Jvm.MethodName)) ∈ lw_all := lw_g (lw_at lw_m15 57 rfl) rfl
theorem q3524 : (Jvm.Cond.code ({ cls := "FinalLinksModel", name := "isLeaf", desc := "(IIII)Z" } : Jvm.MethodName) prog_25_method_109_code (5 : Nat) (Option.some Jvm.ClassFile.FieldType.boolean)) ∈ lw_all := lw_g (lw_at lw_m15 58 rfl) rfl
theorem q3525 : (Jvm.Cond.methodLink "FinalLinksModel" (470 : Nat) ({ cls := "FinalLinksModel", name := "isSo", desc := "(III)Z" } : Jvm.MethodName)) ∈ lw_all := lw_g (lw_at lw_m15 59 rfl) rfl
theorem q3526 : (Jvm.Cond.static ({ cls := "FinalLinksModel", name := "isSo", desc := "(III)Z" } : Jvm.MethodName)) ∈ lw_all := lw_g (lw_at lw_m15 60 rfl) rfl
theorem q3527 : (Jvm.Cond.code ({ cls := "FinalLinksModel", name := "isSo", desc := "(III)Z" } : Jvm.MethodName) prog_25_method_108_code (3 : Nat) (Option.some Jvm.ClassFile.FieldType.boolean)) ∈ lw_all := lw_g (lw_at lw_m15 61 rfl) rfl
theorem q3529 : (Jvm.Cond.instanceMethod ({ cls := "FinalLinksModel", name := "image", desc := "(I)Z" } : Jvm.MethodName)) ∈ lw_all := lw_g (lw_at lw_m15 63 rfl) rfl
theorem q3530 : (Jvm.Cond.selects "FinalLinksModel" ({ cls := "FinalLinksModel", name := "image", desc := "(I)Z" } : Jvm.MethodName) ({ cls := "FinalLinksModel", name := "image", desc := "(I)Z" } : Jvm.MethodName)) ∈ lw_all := lw_g (lw_at lw_m15 64 rfl) rfl
theorem q3531 : (Jvm.Cond.code ({ cls := "FinalLinksModel", name := "image", desc := "(I)Z" } : Jvm.MethodName) prog_25_method_112_code (3 : Nat) (Option.some Jvm.ClassFile.FieldType.boolean)) ∈ lw_all := lw_g (lw_at lw_m15 65 rfl) rfl
theorem q3533 : (Jvm.Cond.instanceMethod ({ cls := "FinalLinksModel", name := "restore", desc := "(I)Z" } : Jvm.MethodName)) ∈ lw_all := lw_g (lw_at lw_m15 67 rfl) rfl
theorem q3534 : (Jvm.Cond.selects "FinalLinksModel" ({ cls := "FinalLinksModel", name := "restore", desc := "(I)Z" } : Jvm.MethodName) ({ cls := "FinalLinksModel", name := "restore", desc := "(I)Z" } : Jvm.MethodName)) ∈ lw_all := lw_g (lw_at lw_m15 68 rfl) rfl
theorem q3535 : (Jvm.Cond.code ({ cls := "FinalLinksModel", name := "restore", desc := "(I)Z" } : Jvm.MethodName) prog_25_method_113_code (3 : Nat) (Option.some Jvm.ClassFile.FieldType.boolean)) ∈ lw_all := lw_g (lw_at lw_m15 69 rfl) rfl
theorem q3537 : (Jvm.Cond.instanceMethod ({ cls := "FinalLinksModel", name := "count", desc := "(I)I" } : Jvm.MethodName)) ∈ lw_all := lw_g (lw_at lw_m15 71 rfl) rfl
theorem q3538 : (Jvm.Cond.selects "FinalLinksModel" ({ cls := "FinalLinksModel", name := "count", desc := "(I)I" } : Jvm.MethodName) ({ cls := "FinalLinksModel", name := "count", desc := "(I)I" } : Jvm.MethodName)) ∈ lw_all := lw_g (lw_at lw_m15 72 rfl) rfl
theorem q3539 : (Jvm.Cond.code ({ cls := "FinalLinksModel", name := "count", desc := "(I)I" } : Jvm.MethodName) prog_25_method_114_code (4 : Nat) (Option.some Jvm.ClassFile.FieldType.int)) ∈ lw_all := lw_g (lw_at lw_m15 73 rfl) rfl
theorem q3598 : (Jvm.Cond.castable "FinalLinksModel" "java/lang/Object") ∈ lw_tbl := lw_at lw_m15 132 rfl
theorem in_X6 : ∀ w ∈ wsX60, w ∈ lw_all := lw_in wsX60 [2989, 2991, 2993, 2995, 2997, 2999, 3001, 3003, 3005, 3007, 3009, 3011, 3013, 3015, 3017, 3019, 3021, 3023, 3025, 3027, 3029, 3031, 3033, 3035, 3037, 3039, 3041, 3043, 3045, 3047, 3049, 3051, 3053, 3055, 3057, 3059, 3061, 3063, 3065, 3067, 3069, 3071, 3073, 3075, 3077, 3079, 3081, 3083, 3085, 3087, 3089, 3091, 3093, 3095, 3097, 3099, 3101, 3103] (by decide +kernel) (by decide +kernel)
